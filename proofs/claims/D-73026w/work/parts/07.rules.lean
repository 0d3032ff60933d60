/-! RULES OF THE PURE MACHINE: a row an instruction -/
set_option maxRecDepth 100000
section PR
variable {d own : Nat} {cc : ByteArray} {rt : Option FieldType} {pc : Nat} {L st : List Value} {h : pm_H} {res : Option Value × pm_H}
theorem pr_1 {i : Instr} {len pc' : Nat} {L' st' : List Value} {h' : pm_H} (hd : decode cc pc = .ok (i, len)) (h0 : pm_ret rt i st = none) (h1 : pm_call own i st h = none) (h2 : pm_step own pc len i L st h = some (pc', L', st', h')) (k : pm_E d own cc rt pc' L' st' h' res) (hn : pm_ln i len = true := by rfl) : pm_E d own cc rt pc L st h res := by
  obtain ⟨n, e⟩ := k
  refine ⟨n + 1, ?_⟩
  rw [pm_run, hd]
  dsimp only
  rw [hn]
  dsimp only
  rw [h0]
  dsimp only
  rw [h1]
  dsimp only
  rw [h2]
  exact e
theorem pr_ret {i : Instr} {len : Nat} {r : Option Value} (hd : decode cc pc = .ok (i, len)) (h0 : pm_ret rt i st = some r) (hn : pm_ln i len = true := by rfl) : pm_E d own cc rt pc L st h (r, h) := by
  refine ⟨1, ?_⟩
  rw [pm_run, hd]
  dsimp only
  rw [hn]
  dsimp only
  rw [h0]
theorem pr_call {i : Instr} {len : Nat} {tg : pm_T} {as rest : List Value} {r : Option Value} {h' : pm_H} (hd : decode cc pc = .ok (i, len)) (h0 : pm_ret rt i st = none) (h1 : pm_call own i st h = some (tg, as, rest)) (hc : pm_E d tg.1 tg.2.2.1 tg.2.2.2.2 0 (pm_en as tg.2.2.2.1) [] h (r, h')) (k : pm_E (d + 1) own cc rt (pc + 3) L (r.toList ++ rest) h' res) (hn : pm_ln i len = true := by rfl) : pm_E (d + 1) own cc rt pc L st h res := by
  obtain ⟨n1, e1⟩ := hc
  obtain ⟨n2, e2⟩ := k
  refine ⟨n1 + n2 + 1, ?_⟩
  rw [pm_run, hd]
  dsimp only
  rw [hn]
  dsimp only
  rw [h0]
  dsimp only
  rw [h1]
  dsimp only
  rw [pm_more n2 e1]
  dsimp only
  rw [Nat.add_comm n1 n2]
  exact pm_more n1 e2
theorem pr_iconst {n : Int} {v : Int32} (hd : decode cc pc = .ok (.iconst n, 1)) (hv : Int32.ofInt n = v) (k : pm_E d own cc rt (pc + 1) L (.int v :: st) h res) : pm_E d own cc rt pc L st h res := pr_1 hd rfl rfl (by rw [← hv]; rfl) k
theorem pr_bipush {n : Int} {v : Int32} (hd : decode cc pc = .ok (.bipush n, 2)) (hv : (Int8.ofInt n).toInt32 = v) (k : pm_E d own cc rt (pc + 2) L (.int v :: st) h res) : pm_E d own cc rt pc L st h res := pr_1 hd rfl rfl (by rw [← hv]; rfl) k
theorem pr_sipush {n : Int} {v : Int32} (hd : decode cc pc = .ok (.sipush n, 3)) (hv : (Int16.ofInt n).toInt32 = v) (k : pm_E d own cc rt (pc + 3) L (.int v :: st) h res) : pm_E d own cc rt pc L st h res := pr_1 hd rfl rfl (by rw [← hv]; rfl) k
theorem pr_lconst {n : Fin 2} {v : Int64} (hd : decode cc pc = .ok (.lconst n, 1)) (hv : Int64.ofNat (n : Nat) = v) (k : pm_E d own cc rt (pc + 1) L (.long v :: st) h res) : pm_E d own cc rt pc L st h res := pr_1 hd rfl rfl (by rw [← hv]; rfl) k
theorem pr_null (hd : decode cc pc = .ok (.aconst_null, 1)) (k : pm_E d own cc rt (pc + 1) L (.null :: st) h res) : pm_E d own cc rt pc L st h res := pr_1 hd rfl rfl rfl k
theorem pr_ldc {i : Nat} {v : Int32} (hd : decode cc pc = .ok (.ldc i, 2)) (hv : pm_lk (pm_tc own) i = some v) (k : pm_E d own cc rt (pc + 2) L (.int v :: st) h res) : pm_E d own cc rt pc L st h res := pr_1 hd rfl rfl (by simp only [pm_step, hv]) k
theorem pr_ldcr {i v : Nat} (hd : decode cc pc = .ok (.ldc i, 2)) (h0 : pm_lk (pm_tc own) i = none) (hv : pm_lk (pm_tr own) i = some v) (k : pm_E d own cc rt (pc + 2) L (.ref v :: st) h res) : pm_E d own cc rt pc L st h res := pr_1 hd rfl rfl (by simp only [pm_step, h0, hv, Option.map_some]) k
theorem pr_ldc_w {i : Nat} {v : Int32} (hd : decode cc pc = .ok (.ldc_w i, 3)) (hv : pm_lk (pm_tc own) i = some v) (k : pm_E d own cc rt (pc + 3) L (.int v :: st) h res) : pm_E d own cc rt pc L st h res := pr_1 hd rfl rfl (by simp only [pm_step, hv, Option.map_some]) k
theorem pr_ldc2_w {i : Nat} {v : Int64} (hd : decode cc pc = .ok (.ldc2_w i, 3)) (hv : pm_lk (pm_tl own) i = some v) (k : pm_E d own cc rt (pc + 3) L (.long v :: st) h res) : pm_E d own cc rt pc L st h res := pr_1 hd rfl rfl (by simp only [pm_step, hv, Option.map_some]) k
theorem pr_iload_n {i : Fin 4} {x : Int32} (hd : decode cc pc = .ok (.iload_n i, 1)) (hl : pm_li L (i : Nat) = some x) (k : pm_E d own cc rt (pc + 1) L (.int x :: st) h res) : pm_E d own cc rt pc L st h res := pr_1 hd rfl rfl (by simp only [pm_step, hl, Option.map_some]) k
theorem pr_iload {i : Nat} {x : Int32} (hd : decode cc pc = .ok (.iload i, 2)) (hl : pm_li L i = some x) (k : pm_E d own cc rt (pc + 2) L (.int x :: st) h res) : pm_E d own cc rt pc L st h res := pr_1 hd rfl rfl (by simp only [pm_step, hl, Option.map_some]) k
theorem pr_lload_n {i : Fin 4} {x : Int64} (hd : decode cc pc = .ok (.lload_n i, 1)) (hl : pm_ll L (i : Nat) = some x) (k : pm_E d own cc rt (pc + 1) L (.long x :: st) h res) : pm_E d own cc rt pc L st h res := pr_1 hd rfl rfl (by simp only [pm_step, hl, Option.map_some]) k
theorem pr_lload {i : Nat} {x : Int64} (hd : decode cc pc = .ok (.lload i, 2)) (hl : pm_ll L i = some x) (k : pm_E d own cc rt (pc + 2) L (.long x :: st) h res) : pm_E d own cc rt pc L st h res := pr_1 hd rfl rfl (by simp only [pm_step, hl, Option.map_some]) k
theorem pr_aload_n {i : Fin 4} {x : Value} (hd : decode cc pc = .ok (.aload_n i, 1)) (hl : pm_la L (i : Nat) = some x) (k : pm_E d own cc rt (pc + 1) L (x :: st) h res) : pm_E d own cc rt pc L st h res := pr_1 hd rfl rfl (by simp only [pm_step, hl, Option.map_some]) k
theorem pr_aload {i : Nat} {x : Value} (hd : decode cc pc = .ok (.aload i, 2)) (hl : pm_la L i = some x) (k : pm_E d own cc rt (pc + 2) L (x :: st) h res) : pm_E d own cc rt pc L st h res := pr_1 hd rfl rfl (by simp only [pm_step, hl, Option.map_some]) k
theorem pr_istore_n {i : Fin 4} {x : Int32} {L' : List Value} (hd : decode cc pc = .ok (.istore_n i, 1)) (hl : pm_st L (i : Nat) (.int x) = some L') (k : pm_E d own cc rt (pc + 1) L' st h res) : pm_E d own cc rt pc L (.int x :: st) h res := pr_1 hd rfl rfl (by simp only [pm_step, hl, Option.map_some]) k
theorem pr_istore {i : Nat} {x : Int32} {L' : List Value} (hd : decode cc pc = .ok (.istore i, 2)) (hl : pm_st L i (.int x) = some L') (k : pm_E d own cc rt (pc + 2) L' st h res) : pm_E d own cc rt pc L (.int x :: st) h res := pr_1 hd rfl rfl (by simp only [pm_step, hl, Option.map_some]) k
theorem pr_lstore_n {i : Fin 4} {x : Int64} {L' : List Value} (hd : decode cc pc = .ok (.lstore_n i, 1)) (hl : pm_st2 L (i : Nat) (.long x) = some L') (k : pm_E d own cc rt (pc + 1) L' st h res) : pm_E d own cc rt pc L (.long x :: st) h res := pr_1 hd rfl rfl (by simp only [pm_step, hl, Option.map_some]) k
theorem pr_lstore {i : Nat} {x : Int64} {L' : List Value} (hd : decode cc pc = .ok (.lstore i, 2)) (hl : pm_st2 L i (.long x) = some L') (k : pm_E d own cc rt (pc + 2) L' st h res) : pm_E d own cc rt pc L (.long x :: st) h res := pr_1 hd rfl rfl (by simp only [pm_step, hl, Option.map_some]) k
theorem pr_astore_n {i : Fin 4} {x : Value} {L' : List Value} (hd : decode cc pc = .ok (.astore_n i, 1)) (hx : x = .null ∨ ∃ a, x = .ref a) (hl : pm_st L (i : Nat) x = some L') (k : pm_E d own cc rt (pc + 1) L' st h res) : pm_E d own cc rt pc L (x :: st) h res := by
  rcases hx with e | ⟨a, e⟩
  · subst e; exact pr_1 hd rfl rfl (by simp only [pm_step, hl, Option.map_some]) k
  · subst e; exact pr_1 hd rfl rfl (by simp only [pm_step, hl, Option.map_some]) k
theorem pr_astore {i : Nat} {x : Value} {L' : List Value} (hd : decode cc pc = .ok (.astore i, 2)) (hx : x = .null ∨ ∃ a, x = .ref a) (hl : pm_st L i x = some L') (k : pm_E d own cc rt (pc + 2) L' st h res) : pm_E d own cc rt pc L (x :: st) h res := by
  rcases hx with e | ⟨a, e⟩
  · subst e; exact pr_1 hd rfl rfl (by simp only [pm_step, hl, Option.map_some]) k
  · subst e; exact pr_1 hd rfl rfl (by simp only [pm_step, hl, Option.map_some]) k
theorem pr_iinc {i : Nat} {n : Int} {x v : Int32} {L' : List Value} (hd : decode cc pc = .ok (.iinc i n, 3)) (hx : pm_li L i = some x) (hv : Int32.ofInt n = v) (hl : pm_st L i (.int (x + v)) = some L') (k : pm_E d own cc rt (pc + 3) L' st h res) : pm_E d own cc rt pc L st h res := pr_1 hd rfl rfl (by subst hv; simp only [pm_step, hx, hl, Option.map_some, Option.bind_some, if_pos]) k
theorem pr_iadd {x y : Int32} (hd : decode cc pc = .ok (.iadd, 1)) (k : pm_E d own cc rt (pc + 1) L (.int (x + y) :: st) h res) : pm_E d own cc rt pc L (.int y :: .int x :: st) h res := pr_1 hd rfl rfl rfl k
theorem pr_isub {x y : Int32} (hd : decode cc pc = .ok (.isub, 1)) (k : pm_E d own cc rt (pc + 1) L (.int (x - y) :: st) h res) : pm_E d own cc rt pc L (.int y :: .int x :: st) h res := pr_1 hd rfl rfl rfl k
theorem pr_imul {x y : Int32} (hd : decode cc pc = .ok (.imul, 1)) (k : pm_E d own cc rt (pc + 1) L (.int (x * y) :: st) h res) : pm_E d own cc rt pc L (.int y :: .int x :: st) h res := pr_1 hd rfl rfl rfl k
theorem pr_iand {x y : Int32} (hd : decode cc pc = .ok (.iand, 1)) (k : pm_E d own cc rt (pc + 1) L (.int (x &&& y) :: st) h res) : pm_E d own cc rt pc L (.int y :: .int x :: st) h res := pr_1 hd rfl rfl rfl k
theorem pr_ior {x y : Int32} (hd : decode cc pc = .ok (.ior, 1)) (k : pm_E d own cc rt (pc + 1) L (.int (x ||| y) :: st) h res) : pm_E d own cc rt pc L (.int y :: .int x :: st) h res := pr_1 hd rfl rfl rfl k
theorem pr_ixor {x y : Int32} (hd : decode cc pc = .ok (.ixor, 1)) (k : pm_E d own cc rt (pc + 1) L (.int (x ^^^ y) :: st) h res) : pm_E d own cc rt pc L (.int y :: .int x :: st) h res := pr_1 hd rfl rfl rfl k
theorem pr_ishl {x y : Int32} (hd : decode cc pc = .ok (.ishl, 1)) (k : pm_E d own cc rt (pc + 1) L (.int (pm_shl x y) :: st) h res) : pm_E d own cc rt pc L (.int y :: .int x :: st) h res := pr_1 hd rfl rfl rfl k
theorem pr_ishr {x y : Int32} (hd : decode cc pc = .ok (.ishr, 1)) (k : pm_E d own cc rt (pc + 1) L (.int (pm_shr x y) :: st) h res) : pm_E d own cc rt pc L (.int y :: .int x :: st) h res := pr_1 hd rfl rfl rfl k
theorem pr_iushr {x y : Int32} (hd : decode cc pc = .ok (.iushr, 1)) (k : pm_E d own cc rt (pc + 1) L (.int (pm_ushr x y) :: st) h res) : pm_E d own cc rt pc L (.int y :: .int x :: st) h res := pr_1 hd rfl rfl rfl k
theorem pr_idiv {x y : Int32} (hd : decode cc pc = .ok (.idiv, 1)) (hy : ¬ y = 0) (k : pm_E d own cc rt (pc + 1) L (.int (x / y) :: st) h res) : pm_E d own cc rt pc L (.int y :: .int x :: st) h res := pr_1 hd rfl rfl (by simp only [pm_step, if_neg hy]) k
theorem pr_irem {x y : Int32} (hd : decode cc pc = .ok (.irem, 1)) (hy : ¬ y = 0) (k : pm_E d own cc rt (pc + 1) L (.int (pm_rem x y) :: st) h res) : pm_E d own cc rt pc L (.int y :: .int x :: st) h res := pr_1 hd rfl rfl (by simp only [pm_step, if_neg hy]) k
theorem pr_ineg {x : Int32} (hd : decode cc pc = .ok (.ineg, 1)) (k : pm_E d own cc rt (pc + 1) L (.int (-x) :: st) h res) : pm_E d own cc rt pc L (.int x :: st) h res := pr_1 hd rfl rfl rfl k
theorem pr_i2b {x : Int32} (hd : decode cc pc = .ok (.i2b, 1)) (k : pm_E d own cc rt (pc + 1) L (.int (pm_i2b x) :: st) h res) : pm_E d own cc rt pc L (.int x :: st) h res := pr_1 hd rfl rfl rfl k
theorem pr_ladd {x y : Int64} (hd : decode cc pc = .ok (.ladd, 1)) (k : pm_E d own cc rt (pc + 1) L (.long (x + y) :: st) h res) : pm_E d own cc rt pc L (.long y :: .long x :: st) h res := pr_1 hd rfl rfl rfl k
theorem pr_lcmp {x y : Int64} (hd : decode cc pc = .ok (.lcmp, 1)) (k : pm_E d own cc rt (pc + 1) L (.int (lg_cmp x y) :: st) h res) : pm_E d own cc rt pc L (.long y :: .long x :: st) h res := pr_1 hd rfl rfl rfl k
theorem pr_dup {v : Value} (hd : decode cc pc = .ok (.dup, 1)) (hv : v.category = 1) (k : pm_E d own cc rt (pc + 1) L (v :: v :: st) h res) : pm_E d own cc rt pc L (v :: st) h res := pr_1 hd rfl rfl (by simp only [pm_step, if_pos hv]) k
theorem pr_dup2 {v w : Value} (hd : decode cc pc = .ok (.dup2, 1)) (hv : v.category = 1) (hw : w.category = 1) (k : pm_E d own cc rt (pc + 1) L (v :: w :: v :: w :: st) h res) : pm_E d own cc rt pc L (v :: w :: st) h res := pr_1 hd rfl rfl (by simp only [pm_step, if_pos (And.intro hv hw)]) k
theorem pr_pop {v : Value} (hd : decode cc pc = .ok (.pop, 1)) (hv : v.category = 1) (k : pm_E d own cc rt (pc + 1) L st h res) : pm_E d own cc rt pc L (v :: st) h res := pr_1 hd rfl rfl (by simp only [pm_step, if_pos hv]) k
theorem pm_t_of {pc : Nat} {off : Int} {tgt : Nat} (ht : (pc : Int) + off = (tgt : Int)) : pm_t pc off = some tgt := by
  unfold pm_t
  rw [ht, if_pos (Int.natCast_nonneg tgt), Int.toNat_natCast]
theorem pr_ifT {c : ClassFile.Cond} {x : Int32} {off : Int} {tgt : Nat} (hd : decode cc pc = .ok (.ifCond c off, 3)) (ht : (pc : Int) + off = (tgt : Int)) (hc : pm_cc c x 0 = true) (k : pm_E d own cc rt tgt L st h res) : pm_E d own cc rt pc L (.int x :: st) h res := pr_1 hd rfl rfl (by simp only [pm_step, hc, pm_jp, pm_t_of ht, Option.map_some]) k
theorem pr_ifF {c : ClassFile.Cond} {x : Int32} {off : Int} {tgt : Nat} (hd : decode cc pc = .ok (.ifCond c off, 3)) (ht : (pc : Int) + off = (tgt : Int)) (hc : pm_cc c x 0 = false) (k : pm_E d own cc rt (pc + 3) L st h res) : pm_E d own cc rt pc L (.int x :: st) h res := pr_1 hd rfl rfl (by simp only [pm_step, hc, pm_jp, pm_t_of ht, Option.map_some]) k
theorem pr_icT {c : ClassFile.Cond} {x y : Int32} {off : Int} {tgt : Nat} (hd : decode cc pc = .ok (.if_icmp c off, 3)) (ht : (pc : Int) + off = (tgt : Int)) (hc : pm_cc c x y = true) (k : pm_E d own cc rt tgt L st h res) : pm_E d own cc rt pc L (.int y :: .int x :: st) h res := pr_1 hd rfl rfl (by simp only [pm_step, hc, pm_jp, pm_t_of ht, Option.map_some]) k
theorem pr_icF {c : ClassFile.Cond} {x y : Int32} {off : Int} {tgt : Nat} (hd : decode cc pc = .ok (.if_icmp c off, 3)) (ht : (pc : Int) + off = (tgt : Int)) (hc : pm_cc c x y = false) (k : pm_E d own cc rt (pc + 3) L st h res) : pm_E d own cc rt pc L (.int y :: .int x :: st) h res := pr_1 hd rfl rfl (by simp only [pm_step, hc, pm_jp, pm_t_of ht, Option.map_some]) k
theorem pc_eqT {x y : Int32} (h : x = y) : pm_cc .eq x y = true := decide_eq_true h
theorem pc_eqF {x y : Int32} (h : ¬ x = y) : pm_cc .eq x y = false := decide_eq_false h
theorem pc_neT {x y : Int32} (h : ¬ x = y) : pm_cc .ne x y = true := decide_eq_true h
theorem pc_neF {x y : Int32} (h : x = y) : pm_cc .ne x y = false := decide_eq_false (fun q => q h)
theorem pc_ltT {x y : Int32} (h : x < y) : pm_cc .lt x y = true := decide_eq_true h
theorem pc_ltF {x y : Int32} (h : ¬ x < y) : pm_cc .lt x y = false := decide_eq_false h
theorem pc_geT {x y : Int32} (h : ¬ x < y) : pm_cc .ge x y = true := decide_eq_true (Int32.not_lt.mp h)
theorem pc_geF {x y : Int32} (h : x < y) : pm_cc .ge x y = false := decide_eq_false (fun q => Int32.not_lt.mpr q h)
theorem pc_gtT {x y : Int32} (h : y < x) : pm_cc .gt x y = true := decide_eq_true h
theorem pc_gtF {x y : Int32} (h : ¬ y < x) : pm_cc .gt x y = false := decide_eq_false h
theorem pc_leT {x y : Int32} (h : ¬ y < x) : pm_cc .le x y = true := decide_eq_true (Int32.not_lt.mp h)
theorem pc_leF {x y : Int32} (h : y < x) : pm_cc .le x y = false := decide_eq_false (fun q => Int32.not_lt.mpr q h)
theorem pr_nullT {off : Int} {tgt : Nat} (hd : decode cc pc = .ok (.ifnull off, 3)) (ht : (pc : Int) + off = (tgt : Int)) (k : pm_E d own cc rt tgt L st h res) : pm_E d own cc rt pc L (.null :: st) h res := pr_1 hd rfl rfl (by simp only [pm_step, pm_t_of ht, Option.map_some]) k
theorem pr_nullF {off : Int} {a : Nat} (hd : decode cc pc = .ok (.ifnull off, 3)) (k : pm_E d own cc rt (pc + 3) L st h res) : pm_E d own cc rt pc L (.ref a :: st) h res := pr_1 hd rfl rfl rfl k
theorem pr_goto {off : Int} {tgt : Nat} (hd : decode cc pc = .ok (.goto off, 3)) (ht : (pc : Int) + off = (tgt : Int)) (k : pm_E d own cc rt tgt L st h res) : pm_E d own cc rt pc L st h res := pr_1 hd rfl rfl (by simp only [pm_step, pm_t_of ht, Option.map_some]) k
theorem pr_tabO {dflt lo hi : Int} {offs : Array Int} {len : Nat} {x : Int32} {tgt : Nat} (hd : decode cc pc = .ok (.tableswitch dflt lo hi offs, len)) (hx : x.toInt < lo ∨ hi < x.toInt) (ht : (pc : Int) + dflt = (tgt : Int)) (k : pm_E d own cc rt tgt L st h res) : pm_E d own cc rt pc L (.int x :: st) h res := pr_1 hd rfl rfl (by simp only [pm_step, if_pos hx, pm_t_of ht, Option.map_some]) k
theorem pr_tabI {dflt lo hi : Int} {offs : Array Int} {len : Nat} {x : Int32} {off : Int} {tgt : Nat} (hd : decode cc pc = .ok (.tableswitch dflt lo hi offs, len)) (hx : ¬ (x.toInt < lo ∨ hi < x.toInt)) (ho : offs[(x.toInt - lo).toNat]? = some off) (ht : (pc : Int) + off = (tgt : Int)) (k : pm_E d own cc rt tgt L st h res) : pm_E d own cc rt pc L (.int x :: st) h res := pr_1 hd rfl rfl (by simp only [pm_step, if_neg hx, ho, Option.bind_some, pm_t_of ht, Option.map_some]) k
theorem pr_look {dflt : Int} {ps : Array (Int × Int)} {len : Nat} {x : Int32} {off : Int} {tgt : Nat} (hd : decode cc pc = .ok (.lookupswitch dflt ps, len)) (hp : (ps.toList.zip (ps.toList.drop 1)).all (fun (a, next) => a.1 < next.1) = true) (ho : Op.lookupswitch.offset ps.toList dflt x.toInt = off) (ht : (pc : Int) + off = (tgt : Int)) (k : pm_E d own cc rt tgt L st h res) : pm_E d own cc rt pc L (.int x :: st) h res := pr_1 hd rfl rfl (by simp only [pm_step, if_pos hp, ho, pm_t_of ht, Option.map_some]) k
theorem pm_fI_v {T : List (Nat × Nat)} {a : Nat} {v : Int32} (hv : pm_fI T h a = some v) : pm_fld T h a = some (.int v) := by
  unfold pm_fI at hv
  split at hv
  next e => cases hv; exact e
  next => cases hv
theorem pm_fR_v {T : List (Nat × Nat)} {a v : Nat} (hv : pm_fR T h a = some v) : pm_fld T h a = some (.ref v) := by
  unfold pm_fR at hv
  split at hv
  next e => cases hv; exact e
  next => cases hv
theorem pr_getV {i a : Nat} {T : List (Nat × Nat)} {v : Value} (hd : decode cc pc = .ok (.getfield i, 3)) (ht : pm_lk (pm_tf own) i = some T) (hv : pm_fld T h a = some v) (k : pm_E d own cc rt (pc + 3) L (v :: st) h res) : pm_E d own cc rt pc L (.ref a :: st) h res := pr_1 hd rfl rfl (by simp only [pm_step, ht, hv, Option.bind_some, Option.map_some]) k
theorem pr_getI {i a : Nat} {T : List (Nat × Nat)} {v : Int32} (hd : decode cc pc = .ok (.getfield i, 3)) (ht : pm_lk (pm_tf own) i = some T) (hv : pm_fI T h a = some v) (k : pm_E d own cc rt (pc + 3) L (.int v :: st) h res) : pm_E d own cc rt pc L (.ref a :: st) h res := pr_getV hd ht (pm_fI_v hv) k
theorem pr_getR {i a : Nat} {T : List (Nat × Nat)} {v : Nat} (hd : decode cc pc = .ok (.getfield i, 3)) (ht : pm_lk (pm_tf own) i = some T) (hv : pm_fR T h a = some v) (k : pm_E d own cc rt (pc + 3) L (.ref v :: st) h res) : pm_E d own cc rt pc L (.ref a :: st) h res := pr_getV hd ht (pm_fR_v hv) k
theorem pr_put {i a : Nat} {T : List (Nat × Nat × Nat)} {v : Value} {h' : pm_H} (hd : decode cc pc = .ok (.putfield i, 3)) (ht : pm_lk (pm_tp own) i = some T) (hv : pm_put T h a v = some h') (k : pm_E d own cc rt (pc + 3) L st h' res) : pm_E d own cc rt pc L (v :: .ref a :: st) h res := pr_1 hd rfl rfl (by simp only [pm_step, ht, hv, Option.bind_some, Option.map_some]) k
theorem pr_gets {i : Nat} {v : Int32} (hd : decode cc pc = .ok (.getstatic i, 3)) (ht : pm_lk (pm_tg own) i = some v) (k : pm_E d own cc rt (pc + 3) L (.int v :: st) h res) : pm_E d own cc rt pc L st h res := pr_1 hd rfl rfl (by simp only [pm_step, ht, Option.map_some]) k
theorem pr_iald {a : Nat} {i v : Int32} (hd : decode cc pc = .ok (.iaload, 1)) (hv : pm_ai 0 h a i = some v) (k : pm_E d own cc rt (pc + 1) L (.int v :: st) h res) : pm_E d own cc rt pc L (.int i :: .ref a :: st) h res := pr_1 hd rfl rfl (by simp only [pm_step, hv, Option.map_some]) k
theorem pr_bald {a : Nat} {i v : Int32} (hd : decode cc pc = .ok (.baload, 1)) (hv : pm_ai 1 h a i = some v) (k : pm_E d own cc rt (pc + 1) L (.int v :: st) h res) : pm_E d own cc rt pc L (.int i :: .ref a :: st) h res := pr_1 hd rfl rfl (by simp only [pm_step, hv, Option.map_some]) k
theorem pr_lald {a : Nat} {i : Int32} {v : Int64} (hd : decode cc pc = .ok (.laload, 1)) (hv : pm_al h a i = some v) (k : pm_E d own cc rt (pc + 1) L (.long v :: st) h res) : pm_E d own cc rt pc L (.int i :: .ref a :: st) h res := pr_1 hd rfl rfl (by simp only [pm_step, hv, Option.map_some]) k
theorem pr_aaldV {a : Nat} {i : Int32} {v : Value} (hd : decode cc pc = .ok (.aaload, 1)) (hv : pm_aq h a i = some v) (k : pm_E d own cc rt (pc + 1) L (v :: st) h res) : pm_E d own cc rt pc L (.int i :: .ref a :: st) h res := pr_1 hd rfl rfl (by simp only [pm_step, hv, Option.map_some]) k
theorem pm_aR_v {a v : Nat} {i : Int32} (hv : pm_aR h a i = some v) : pm_aq h a i = some (.ref v) := by
  unfold pm_aR at hv
  split at hv
  next e => cases hv; exact e
  next => cases hv
theorem pr_aald {a : Nat} {i : Int32} {v : Nat} (hd : decode cc pc = .ok (.aaload, 1)) (hv : pm_aR h a i = some v) (k : pm_E d own cc rt (pc + 1) L (.ref v :: st) h res) : pm_E d own cc rt pc L (.int i :: .ref a :: st) h res := pr_aaldV hd (pm_aR_v hv) k
theorem pr_iast {a : Nat} {i x : Int32} {h' : pm_H} (hd : decode cc pc = .ok (.iastore, 1)) (hv : pm_si 0 h a i x = some h') (k : pm_E d own cc rt (pc + 1) L st h' res) : pm_E d own cc rt pc L (.int x :: .int i :: .ref a :: st) h res := pr_1 hd rfl rfl (by simp only [pm_step, hv, Option.map_some]) k
theorem pr_bast {a : Nat} {i x : Int32} {h' : pm_H} (hd : decode cc pc = .ok (.bastore, 1)) (hv : pm_si 1 h a i (vp_nar .byte x) = some h') (k : pm_E d own cc rt (pc + 1) L st h' res) : pm_E d own cc rt pc L (.int x :: .int i :: .ref a :: st) h res := pr_1 hd rfl rfl (by simp only [pm_step, hv, Option.map_some]) k
theorem pr_last {a : Nat} {i : Int32} {x : Int64} {h' : pm_H} (hd : decode cc pc = .ok (.lastore, 1)) (hv : pm_sl h a i x = some h') (k : pm_E d own cc rt (pc + 1) L st h' res) : pm_E d own cc rt pc L (.long x :: .int i :: .ref a :: st) h res := pr_1 hd rfl rfl (by simp only [pm_step, hv, Option.map_some]) k
theorem pr_aast {a : Nat} {i : Int32} {x : Value} {h' : pm_H} (hd : decode cc pc = .ok (.aastore, 1)) (hv : pm_sq h a i x = some h') (k : pm_E d own cc rt (pc + 1) L st h' res) : pm_E d own cc rt pc L (x :: .int i :: .ref a :: st) h res := pr_1 hd rfl rfl (by simp only [pm_step, hv, Option.map_some]) k
theorem pr_alen {a : Nat} {v : Int32} (hd : decode cc pc = .ok (.arraylength, 1)) (hv : pm_len h a = some v) (k : pm_E d own cc rt (pc + 1) L (.int v :: st) h res) : pm_E d own cc rt pc L (.ref a :: st) h res := pr_1 hd rfl rfl (by simp only [pm_step, hv, Option.map_some]) k
theorem pr_new {i c : Nat} (hd : decode cc pc = .ok (.new i, 3)) (hc : pm_lk (pm_tn own) i = some c) (k : pm_E d own cc rt (pc + 3) L (.ref h.2.1 :: st) (pm_nw h c) res) : pm_E d own cc rt pc L st h res := pr_1 hd rfl rfl (by simp only [pm_step, hc, Option.map_some]) k
theorem pr_newa {ty : ArrayType} {t : Nat} {n : Int32} {h' : pm_H} (hd : decode cc pc = .ok (.newarray ty, 2)) (ht : pm_at ty = t) (hv : pm_na h t n = some h') (k : pm_E d own cc rt (pc + 2) L (.ref h.2.1 :: st) h' res) : pm_E d own cc rt pc L (.int n :: st) h res := pr_1 hd rfl rfl (by subst ht; simp only [pm_step, hv, Option.map_some]) k
theorem pr_newq {i t : Nat} {n : Int32} {h' : pm_H} (hd : decode cc pc = .ok (.anewarray i, 3)) (ht : pm_lk (pm_ta own) i = some t) (hv : pm_na h t n = some h') (k : pm_E d own cc rt (pc + 3) L (.ref h.2.1 :: st) h' res) : pm_E d own cc rt pc L (.int n :: st) h res := pr_1 hd rfl rfl (by simp only [pm_step, ht, hv, Option.bind_some, Option.map_some]) k
theorem pr_newm {i t : Nat} {n m : Int32} {h' : pm_H} (hd : decode cc pc = .ok (.multianewarray i 2, 4)) (ht : pm_lk (pm_tm own) i = some t) (hv : pm_nm h n m = some h') (k : pm_E d own cc rt (pc + 4) L (.ref h.2.1 :: st) h' res) : pm_E d own cc rt pc L (.int m :: .int n :: st) h res := pr_1 hd rfl rfl (by simp only [pm_step, ht, hv, Option.bind_some, Option.map_some]) k
theorem pr_objI {i a t : Nat} (hd : decode cc pc = .ok (.invokespecial i, 3)) (h0 : pm_lk (pm_ti own) i = none) (ht : pm_lk (pm_to own) i = some t) (h3 : pm_sum st ≤ 8) (k : pm_E d own cc rt (pc + 3) L st h res) : pm_E d own cc rt pc L (.ref a :: st) h res := pr_1 hd rfl (by simp only [pm_call, h0, Option.bind_none]) (by simp only [pm_step, ht, Option.map_some, if_pos (show (st.map fun v => v.category).sum ≤ 8 from h3)]) k
theorem pr_iret {v : Int32} {ty : FieldType} (hd : decode cc pc = .ok (.ireturn, 1)) (hr : rt = some ty) (hn : narrow ty (.int v) = .int v) (he : res = (some (.int v), h)) : pm_E d own cc rt pc L [.int v] h res := by
  subst he
  exact pr_ret hd (by subst hr; simp only [pm_ret, if_pos hn])
theorem pr_lret {v : Int64} (hd : decode cc pc = .ok (.lreturn, 1)) (hr : rt = some .long) (he : res = (some (.long v), h)) : pm_E d own cc rt pc L [.long v] h res := by
  subst he
  exact pr_ret hd (by subst hr; rfl)
theorem pr_aret {v : Value} {C : String} (hd : decode cc pc = .ok (.areturn, 1)) (hr : rt = some (.object C)) (hv : v = .null ∨ ∃ a, v = .ref a) (he : res = (some v, h)) : pm_E d own cc rt pc L [v] h res := by
  subst he
  rcases hv with e | ⟨a, e⟩
  · subst e; exact pr_ret hd (by subst hr; rfl)
  · subst e; exact pr_ret hd (by subst hr; rfl)
theorem pr_vret (hd : decode cc pc = .ok (.return_, 1)) (hr : rt = none) (he : res = (none, h)) : pm_E d own cc rt pc L [] h res := by
  subst he
  exact pr_ret hd (by subst hr; rfl)
theorem pm_as_of {tg : pm_T} {as rest : List Value} (h1 : as.all pm_v1 = true) (h2 : as.length ≤ tg.2.2.2.1) (h3 : pm_sum rest ≤ 8) (h4 : tg.2.2.2.1 ≤ 21) : pm_as tg as rest = some (tg, as, rest) := if_pos ⟨h1, h2, h3, h4⟩
/-- calls: the stack as it stands, the arguments on top in their order -/
theorem pr_S {i n : Nat} {tg : pm_T} {as rest : List Value} {r : Option Value} {h' : pm_H} (hd : decode cc pc = .ok (.invokestatic i, 3)) (hc : pm_lk (pm_ts own) i = some (n, tg)) (hs : st = as.reverse ++ rest) (hn : as.length = n) (h1 : as.all pm_v1 = true) (h2 : as.length ≤ tg.2.2.2.1) (h3 : pm_sum rest ≤ 8) (h4 : tg.2.2.2.1 ≤ 21)
    (he : pm_E d tg.1 tg.2.2.1 tg.2.2.2.2 0 (pm_en as tg.2.2.2.1) [] h (r, h')) (k : pm_E (d + 1) own cc rt (pc + 3) L (r.toList ++ rest) h' res) : pm_E (d + 1) own cc rt pc L st h res := by
  subst hs
  subst hn
  have e1 : (as.reverse ++ rest).take as.length = as.reverse := by rw [← List.length_reverse (as := as), List.take_left']; rfl
  have e2 : (as.reverse ++ rest).drop as.length = rest := by rw [← List.length_reverse (as := as), List.drop_left']; rfl
  refine pr_call hd rfl ?_ he k
  simp only [pm_call, hc, Option.bind_some]
  rw [if_pos (by simp), e1, e2, List.reverse_reverse]
  exact pm_as_of h1 h2 h3 h4
theorem pr_I {i n b : Nat} {tg : pm_T} {as rest : List Value} {r : Option Value} {h' : pm_H} (hd : decode cc pc = .ok (.invokespecial i, 3)) (hc : pm_lk (pm_ti own) i = some (n, tg)) (hs : st = as.reverse ++ .ref b :: rest) (hn : as.length = n) (h1 : as.all pm_v1 = true) (h2 : as.length + 1 ≤ tg.2.2.2.1) (h3 : pm_sum rest ≤ 8) (h4 : tg.2.2.2.1 ≤ 21)
    (he : pm_E d tg.1 tg.2.2.1 tg.2.2.2.2 0 (pm_en (.ref b :: as) tg.2.2.2.1) [] h (r, h')) (k : pm_E (d + 1) own cc rt (pc + 3) L (r.toList ++ rest) h' res) : pm_E (d + 1) own cc rt pc L st h res := by
  subst hs
  subst hn
  have e1 : (as.reverse ++ .ref b :: rest).take as.length = as.reverse := by rw [← List.length_reverse (as := as), List.take_left']; rfl
  have e2 : (as.reverse ++ .ref b :: rest).drop as.length = .ref b :: rest := by rw [← List.length_reverse (as := as), List.drop_left']; rfl
  refine pr_call hd rfl ?_ he k
  simp only [pm_call, hc, Option.bind_some]
  rw [e1, e2, List.reverse_reverse]
  exact pm_as_of (as := .ref b :: as) (by rw [List.all_cons, h1]; rfl) h2 h3 h4
/-- the class of a cell -/
def pm_cl_ (h : pm_H) (a : Nat) : Option Nat := match pm_g h a with
  | some (.inr (c, _)) => some c
  | _ => none
theorem pr_V {i n b c : Nat} {tgs : List (Nat × pm_T)} {tg : pm_T} {as rest : List Value} {r : Option Value} {h' : pm_H} (hd : decode cc pc = .ok (.invokevirtual i, 3)) (hc : pm_lk (pm_tv own) i = some (n, tgs)) (hk : pm_cl_ h b = some c) (ht : pm_lk tgs c = some tg) (hs : st = as.reverse ++ .ref b :: rest) (hn : as.length = n) (h1 : as.all pm_v1 = true) (h2 : as.length + 1 ≤ tg.2.2.2.1) (h3 : pm_sum rest ≤ 8) (h4 : tg.2.2.2.1 ≤ 21)
    (he : pm_E d tg.1 tg.2.2.1 tg.2.2.2.2 0 (pm_en (.ref b :: as) tg.2.2.2.1) [] h (r, h')) (k : pm_E (d + 1) own cc rt (pc + 3) L (r.toList ++ rest) h' res) : pm_E (d + 1) own cc rt pc L st h res := by
  subst hs
  subst hn
  have e1 : (as.reverse ++ .ref b :: rest).take as.length = as.reverse := by rw [← List.length_reverse (as := as), List.take_left']; rfl
  have e2 : (as.reverse ++ .ref b :: rest).drop as.length = .ref b :: rest := by rw [← List.length_reverse (as := as), List.drop_left']; rfl
  refine pr_call hd rfl ?_ he k
  simp only [pm_call, hc, Option.bind_some]
  rw [e1, e2, List.reverse_reverse]
  unfold pm_cl_ at hk
  cases hg : pm_g h b with
  | none => rw [hg] at hk; cases hk
  | some q =>
    rw [hg] at hk
    rcases q with q | ⟨c', fs⟩
    · cases hk
    · cases hk
      dsimp only
      rw [hg]
      dsimp only
      rw [ht, Option.bind_some]
      exact pm_as_of (as := .ref b :: as) (by rw [List.all_cons, h1]; rfl) h2 h3 h4
end PR
/-- taking an Option's steps apart -/
theorem po_b {α β : Type} {x : Option α} {f : α → Option β} {r : β} (h : x.bind f = some r) : ∃ v, x = some v ∧ f v = some r := by
  cases x with
  | none => cases h
  | some v => exact ⟨v, rfl, h⟩
theorem po_i {β : Type} {c : Prop} {dc : Decidable c} {A B : Option β} {r : β} {P : Prop} (h : (if c then A else B) = some r) (a : c → A = some r → P) (b : ¬ c → B = some r → P) : P := by
  by_cases q : c
  · rw [if_pos q] at h; exact a q h
  · rw [if_neg q] at h; exact b q h
theorem lb {a b : Nat} (h : Nat.ble a b = true) : a ≤ b := Nat.le_of_ble_eq_true h
/-- more depth does no harm -/
theorem pm_deep : ∀ (n d own : Nat) (cc : ByteArray) (rt : Option FieldType) (pc : Nat) (L st : List Value) (h : pm_H) (res : Option Value × pm_H), pm_run n d own cc rt pc L st h = some res → pm_run n (d + 1) own cc rt pc L st h = some res := by
  intro n
  induction n with
  | zero => intro d own cc rt pc L st h res e; simp [pm_run] at e
  | succ n ih =>
    intro d own cc rt pc L st h res e
    rw [pm_run] at e ⊢
    revert e
    cases decode cc pc with
    | error _ => exact fun e => e
    | ok q =>
      obtain ⟨i, len⟩ := q
      dsimp only
      cases pm_ln i len with
      | false => exact fun e => e
      | true =>
      dsimp only
      cases pm_ret rt i st with
      | some r => exact fun e => e
      | none =>
        dsimp only
        cases pm_call own i st h with
        | some q =>
          obtain ⟨tg, as, rest⟩ := q
          dsimp only
          cases d with
          | zero => exact fun e => by cases e
          | succ d' =>
            dsimp only
            intro e
            cases h1 : pm_run n d' tg.1 tg.2.2.1 tg.2.2.2.2 0 (pm_en as tg.2.2.2.1) [] h with
            | none => rw [h1] at e; cases e
            | some q =>
              rw [h1] at e
              rw [ih _ _ _ _ _ _ _ _ _ h1]
              exact ih _ _ _ _ _ _ _ _ _ e
        | none =>
          dsimp only
          intro e
          cases h1 : pm_step own pc len i L st h with
          | none => rw [h1] at e; cases e
          | some q =>
            rw [h1] at e
            exact ih _ _ _ _ _ _ _ _ _ e
theorem pm_E_up {d own : Nat} {cc : ByteArray} {rt : Option FieldType} {pc : Nat} {L st : List Value} {h : pm_H} {res : Option Value × pm_H} (k : Nat) (e : pm_E d own cc rt pc L st h res) : pm_E (d + k) own cc rt pc L st h res := by
  induction k with
  | zero => exact e
  | succ k ih =>
    obtain ⟨n, e⟩ := ih
    exact ⟨n, pm_deep _ _ _ _ _ _ _ _ _ _ e⟩
abbrev pm_tgW : List (Nat × pm_T) := [(7, mT_X9_worth), (8, mT_X10_worth), (9, mT_X11_worth)]
abbrev pm_tgH : List (Nat × pm_T) := [(10, mT_X13_holds), (11, mT_X14_holds), (12, mT_X15_holds)]
/-- a virtual call whose receiver may be of several classes -/
def pm_Vok (d : Nat) (tgs : List (Nat × pm_T)) (h : pm_H) (b : Nat) (as : List Value) (r : Option Value) (h' : pm_H) : Prop :=
  ∃ (c : Nat) (tg : pm_T), pm_cl_ h b = some c ∧ pm_lk tgs c = some tg ∧ as.length + 1 ≤ tg.2.2.2.1 ∧ tg.2.2.2.1 ≤ 21 ∧ pm_E d tg.1 tg.2.2.1 tg.2.2.2.2 0 (pm_en (.ref b :: as) tg.2.2.2.1) [] h (r, h')
theorem pm_vok {d : Nat} {tgs : List (Nat × pm_T)} {h : pm_H} {b : Nat} {as : List Value} {r : Option Value} {h' : pm_H} (c : Nat) (tg : pm_T) (h1 : pm_cl_ h b = some c) (h2 : pm_lk tgs c = some tg) (h3 : as.length + 1 ≤ tg.2.2.2.1) (h4 : tg.2.2.2.1 ≤ 21) (h5 : pm_E d tg.1 tg.2.2.1 tg.2.2.2.2 0 (pm_en (.ref b :: as) tg.2.2.2.1) [] h (r, h')) : pm_Vok d tgs h b as r h' := ⟨c, tg, h1, h2, h3, h4, h5⟩
theorem pm_Vok_up {d : Nat} {tgs : List (Nat × pm_T)} {h : pm_H} {b : Nat} {as : List Value} {r : Option Value} {h' : pm_H} (k : Nat) (e : pm_Vok d tgs h b as r h') : pm_Vok (d + k) tgs h b as r h' := by
  obtain ⟨c, tg, h1, h2, h3, h4, h5⟩ := e
  exact ⟨c, tg, h1, h2, h3, h4, pm_E_up k h5⟩
theorem pr_VD {d own : Nat} {cc : ByteArray} {rt : Option FieldType} {pc : Nat} {L st : List Value} {h : pm_H} {res : Option Value × pm_H} {i n b : Nat} {tgs : List (Nat × pm_T)} {as rest : List Value} {r : Option Value} {h' : pm_H} (hd : decode cc pc = .ok (.invokevirtual i, 3)) (hc : pm_lk (pm_tv own) i = some (n, tgs)) (hv : pm_Vok d tgs h b as r h') (hs : st = as.reverse ++ .ref b :: rest) (hn : as.length = n) (h1 : as.all pm_v1 = true) (h3 : pm_sum rest ≤ 8)
    (k : pm_E (d + 1) own cc rt (pc + 3) L (r.toList ++ rest) h' res) : pm_E (d + 1) own cc rt pc L st h res := by
  obtain ⟨c, tg, q1, q2, q3, q4, q5⟩ := hv
  exact pr_V hd hc q1 q2 hs hn h1 q3 h3 q4 q5 k
theorem pr_nm {d own : Nat} {cc : ByteArray} {rt : Option FieldType} {pc : Nat} {L st : List Value} {h : pm_H} {res : Option Value × pm_H} {e v : Int32} (hv : some e = some v) (k : pm_E d own cc rt pc L (.int v :: st) h res) : pm_E d own cc rt pc L (.int e :: st) h res := by cases hv; exact k
def po_s {α β γ : Type} (q : α ⊕ β) (A : α → Option γ) (Bq : β → Option γ) : Option γ := match q with
  | .inl a => A a
  | .inr b => Bq b
theorem po_sl {α β γ : Type} {a : α} {A : α → Option γ} {Bq : β → Option γ} {r : γ} (h : po_s (.inl a) A Bq = some r) : A a = some r := h
theorem po_sr {α β γ : Type} {b : β} {A : α → Option γ} {Bq : β → Option γ} {r : γ} (h : po_s (.inr b) A Bq = some r) : Bq b = some r := h
def po_n {β : Type} (v : Option Nat) (A : Option β) (Bq : Nat → Option β) : Option β := match v with
  | none => A
  | some a => Bq a
theorem po_nc {β : Type} {v : Option Nat} {A : Option β} {Bq : Nat → Option β} {r : β} {P : Prop} (h : po_n v A Bq = some r) (a : v = none → A = some r → P) (b : ∀ x, v = some x → Bq x = some r → P) : P := by
  cases v with
  | none => exact a rfl h
  | some x => exact b x rfl h
theorem pv_s {v : Option Nat} {x : Nat} (h : v = some x) : va_rf v = .ref x := by rw [h]; rfl
theorem pv_n {v : Option Nat} (h : v = none) : va_rf v = .null := by rw [h]; rfl
theorem pv_f (v : Option Nat) : va_rf v = .null ∨ ∃ a, va_rf v = .ref a := by
  cases v with
  | none => exact Or.inl rfl
  | some x => exact Or.inr ⟨x, rfl⟩
theorem pv_c (v : Option Nat) : (va_rf v).category = 1 := by cases v <;> rfl
theorem pv_la {L : List Value} {i : Nat} {v : Option Nat} (h : L[i]? = some (va_rf v)) : pm_la L i = some (va_rf v) := by
  unfold pm_la
  rw [h]
  cases v <;> rfl
def pm_fV (T : List (Nat × Nat)) (h : pm_H) (a : Nat) : Option (Option Nat) := match pm_fld T h a with
  | some (.ref x) => some (some x)
  | some .null => some none
  | _ => none
theorem pm_fV_v {T : List (Nat × Nat)} {h : pm_H} {a : Nat} {v : Option Nat} (hv : pm_fV T h a = some v) : pm_fld T h a = some (va_rf v) := by
  unfold pm_fV at hv
  split at hv
  next e => cases hv; exact e
  next e => cases hv; exact e
  next => cases hv
theorem nb_0 : narrow .boolean (.int 0) = .int 0 := by decide
theorem nb_1 : narrow .boolean (.int 1) = .int 1 := by decide
theorem nb_of {v : Int32} (h : v = 0 ∨ v = 1) : narrow .boolean (.int v) = .int v := by
  rcases h with h | h
  · rw [h]; exact nb_0
  · rw [h]; exact nb_1
def pm_nolong (v : Value) : Bool := match v with
  | .long _ => false
  | _ => true
theorem pv_nl (v : Option Nat) : pm_nolong (va_rf v) = true := by cases v <;> rfl
theorem pm_nl_w {L : List Value} {i : Nat} {w : Value} (hl : L[i]? = some w) (hw : pm_nolong w = true) : pm_nl L (i + 1) = true := by
  unfold pm_nl
  dsimp only
  rw [hl]
  cases w with
  | long x => exact hw
  | _ => rfl
theorem pm_st_w {L L' : List Value} {i : Nat} {v w : Value} (hl : L[i]? = some w) (hn : Nat.ble (i + 2) L.length = true) (hw : pm_nolong w = true) (he : L.set (i + 1) v = L') : pm_st L (i + 1) v = some L' := by
  have h1 : i + 1 < L.length := lb hn
  unfold pm_st
  rw [if_pos ⟨h1, pm_nl_w hl hw⟩, he]
theorem pm_st2_w {L L' : List Value} {i : Nat} {v w : Value} (hl : L[i]? = some w) (hn : Nat.ble (i + 3) L.length = true) (hw : pm_nolong w = true) (he : (L.set (i + 1) v).set (i + 2) pm_D = L') : pm_st2 L (i + 1) v = some L' := by
  have h1 : i + 1 + 1 < L.length := lb hn
  unfold pm_st2
  rw [if_pos ⟨h1, pm_nl_w hl hw⟩]
  exact congrArg some he
theorem pv_1 (v : Option Nat) : pm_v1 (va_rf v) = true := by cases v <;> rfl
theorem ps_0 : pm_sum [] ≤ 0 := Nat.le_refl 0
theorem ps_c {v : Value} {l : List Value} {n : Nat} (hv : v.category ≤ 1) (h : pm_sum l ≤ n) : pm_sum (v :: l) ≤ n + 1 := by
  have e : pm_sum (v :: l) = v.category + pm_sum l := by simp [pm_sum]
  omega
theorem pa_c {v : Value} {l : List Value} (hv : pm_v1 v = true) (h : l.all pm_v1 = true) : (v :: l).all pm_v1 = true := by rw [List.all_cons, hv, h]; rfl
