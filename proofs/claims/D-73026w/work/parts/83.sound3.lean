/-! THE PURE MACHINE IS SOUND (3): an instruction -/
set_option maxRecDepth 100000
def sd_Kn (g : sd_G) (s : State) : Prop := va_K (sd_D g) pm_cl (sd_tys (sd_dA g)) s ∧ (∀ w ∈ sd_nw, va_Nw w s) ∧ va_AO "AnyKeyTown$Sum" s ∧ va_AO "AnyKeyTown$Condition" s ∧ va_Nw (.arrayOver (.array .int)) s ∧
  vk_R "AnyKeyTown$Reader" 75 "pqhdfgnotw" (sd_K g 0) s ∧ vk_R "AnyKeyTown$Reader" 129 "ebx" (sd_K g 1) s ∧ vk_R "AnyKeyTown$Constable" 76 "@#=*&" (sd_K g 2) s
def sd_Im (g : sd_G) (s : State) : Prop := va_X (sd_b g) (sd_L g) (sd_xs g) s s.heap ∧ sd_b g < sd_base g ∧ vk_S 3 sd_len sd_byt (sd_K g) (sd_V g) (sd_A g) s s.heap ∧ va_Z "java/lang/String" "COMPACT_STRINGS" "Z" (.int 1) (sd_A g) s s.heap ∧ sd_base g ≤ s.heap.size
/-- the frame that is walked -/
def sd_X (p : Program) (s : State) (m : MethodId) (args : Array Value) (meth : Method) (c : Code) (g : sd_G) (own : Nat) (cc : ByteArray) : Prop :=
  p.tables.exec = Jvm.exec ∧ c.code = cc ∧ s.vm.findClass (pm_own own) = some m.cls ∧ (∀ w ∈ lw_all, w.before args s = true) ∧ (50 ≤ own → meth.name = "<init>") ∧ sd_Kn g s ∧ sd_Im g s
section SD
variable {p : Program} {l : Launch} {e : Env} {R : Room} {s : State} {m : MethodId} {args : Array Value} {below : List Frame} {meth : Method} {c : Code} {H : Heap} {locs : List Loc} {cells slots : Nat} {Q : State → Prop}
variable {g : sd_G} {own pc pc' len : Nat} {cc : ByteArray} {L L' st st' : List Value} {h h1 : pm_H} {ls : Array Slot}
/-- what follows an instruction -/
def sd_Go (p : Program) (l : Launch) (e : Env) (R : Room) (s : State) (m : MethodId) (args : Array Value) (below : List Frame) (meth : Method) (c : Code) (cells slots : Nat) (Q : State → Prop) (g : sd_G) (h : pm_H) (pc' : Nat) (L' st' : List Value) (h1 : pm_H) : Prop :=
  ∀ (H1 : Heap) (locs1 : List Loc) (ls1 : Array Slot) (cells1 slots1 : Nat), sd_R g h1 H1 → va_S (sd_A g) s.heap H1 locs1 → sd_H (sd_ρ g) L' ls1 c.maxLocals → cells1 + h.2.1 = cells + h1.2.1 → slots1 + h.2.2 = slots + h1.2.2 →
    W p l e R s m args below meth c H1 locs1 cells1 slots1 Q (F0 m pc' ls1 (st'.map (sd_v (sd_ρ g))))
theorem sd_i2 {f : Int32 → Int32 → Int32} (hs : pm_i2 f pc L st h = some (pc', L', st', h1)) (hR : sd_R g h H) (hS : va_S (sd_A g) s.heap H locs) (hl : sd_H (sd_ρ g) L ls c.maxLocals) (K : sd_Go p l e R s m args below meth c cells slots Q g h pc' L' st' h1)
    (row : ∀ {x y : Int32} {rest : List Value}, W p l e R s m args below meth c H locs cells slots Q (F0 m (pc + 1) ls (.int (f x y) :: rest)) → W p l e R s m args below meth c H locs cells slots Q (F0 m pc ls (.int y :: .int x :: rest))) : W p l e R s m args below meth c H locs cells slots Q (F0 m pc ls (st.map (sd_v (sd_ρ g)))) := by
  unfold pm_i2 at hs
  split at hs
  next y x r => cases hs; exact row (K H locs ls cells slots hR hS hl rfl rfl)
  next => cases hs
theorem sd_i1 {f : Int32 → Int32} (hs : pm_i1 f pc L st h = some (pc', L', st', h1)) (hR : sd_R g h H) (hS : va_S (sd_A g) s.heap H locs) (hl : sd_H (sd_ρ g) L ls c.maxLocals) (K : sd_Go p l e R s m args below meth c cells slots Q g h pc' L' st' h1)
    (row : ∀ {x : Int32} {rest : List Value}, W p l e R s m args below meth c H locs cells slots Q (F0 m (pc + 1) ls (.int (f x) :: rest)) → W p l e R s m args below meth c H locs cells slots Q (F0 m pc ls (.int x :: rest))) : W p l e R s m args below meth c H locs cells slots Q (F0 m pc ls (st.map (sd_v (sd_ρ g)))) := by
  unfold pm_i1 at hs
  split at hs
  next x r => cases hs; exact row (K H locs ls cells slots hR hS hl rfl rfl)
  next => cases hs
theorem pm_t_inv {pc : Nat} {off : Int} {t : Nat} (h : pm_t pc off = some t) : (pc : Int) + off = (t : Int) := by
  unfold pm_t at h
  split at h
  next h0 => cases h; exact (Int.toNat_of_nonneg h0).symm
  next => cases h
theorem pm_li_at {L : List Value} {i : Nat} {x : Int32} (h : pm_li L i = some x) : L[i]? = some (.int x) := by
  unfold pm_li at h
  split at h
  next e => cases h; exact e
  next => cases h
theorem pm_ll_at {L : List Value} {i : Nat} {x : Int64} (h : pm_ll L i = some x) : L[i]? = some (.long x) := by
  unfold pm_ll at h
  split at h
  next e => cases h; exact e
  next => cases h
theorem pm_la_at {L : List Value} {i : Nat} {v : Value} (h : pm_la L i = some v) : L[i]? = some v ∧ (v = .null ∨ ∃ a, v = .ref a) := by
  unfold pm_la at h
  split at h
  next e => cases h; exact ⟨e, Or.inr ⟨_, rfl⟩⟩
  next e => cases h; exact ⟨e, Or.inl rfl⟩
  next => cases h
theorem pm_st_lt {L L' : List Value} {i : Nat} {v : Value} (h : pm_st L i v = some L') : i < L.length := by
  unfold pm_st at h
  split at h
  next e => exact e.1
  next => cases h
theorem pm_st2_lt {L L' : List Value} {i : Nat} {v : Value} (h : pm_st2 L i v = some L') : i + 1 < L.length := by
  unfold pm_st2 at h
  split at h
  next e => exact e.1
  next => cases h
theorem pm_jp_inv {b : Bool} {pc : Nat} {off : Int} {t : Nat} (h : pm_jp b pc off = some t) : ∃ q : Nat, (pc : Int) + off = (q : Int) ∧ t = cond b q (pc + 3) := by
  unfold pm_jp at h
  cases hq : pm_t pc off with
  | none => rw [hq] at h; cases h
  | some q => rw [hq] at h; cases h; exact ⟨q, pm_t_inv hq, by cases b <;> rfl⟩
theorem sd_in {i : Int32} {n : Nat} (h0 : ¬ i < 0) (h1 : i.toNatClampNeg < n) : vp_in i n := fun q => q.elim h0 (Nat.not_le.mpr h1)
/-- a read of a field -/
theorem sd_getf (X : sd_X p s m args meth c g own cc) (hR : sd_R g h H) (hS : va_S (sd_A g) s.heap H locs) {k a : Nat} {T : List (Nat × Nat)} {v : Value} {rest : List Value} (hd : decode cc pc = .ok (.getfield k, 3)) (hT : pm_lk (pm_tf own) k = some T) (hv : pm_fld T h a = some v)
    (kk : W p l e R s m args below meth c H locs cells slots Q (F0 m (pc + 3) ls (sd_v (sd_ρ g) v :: rest))) : W p l e R s m args below meth c H locs cells slots Q (F0 m pc ls (.ref (sd_ρ g a) :: rest)) := by
  obtain ⟨hx, hb, hown, hts, -, hKn, hIm⟩ := X
  unfold pm_fld at hv
  split at hv
  next cn fs hg =>
    obtain ⟨j, hj, hf⟩ := Option.bind_eq_some_iff.mp hv
    rcases sd_tf_ok own _ (pm_lk_mem hT) _ (pm_lk_mem hj) with ⟨h30, ho, hij⟩ | ⟨C, T', N, hcl, hjN, hin, hlink⟩
    · dsimp only at h30 ho hij
      subst h30; subst ho
      have h7 : ¬ 7 ≤ a := fun h7 => by
        obtain ⟨r, q1, -⟩ := sd_at hR hg h7
        simp [pm_cl] at q1
      have hc := sd_old hR hg h7
      obtain ⟨-, -, ⟨hS3, -⟩, -⟩ := hIm
      have key : ∀ q, q < 3 → fs = [.ref (q + 4), .int 0] → sd_ρ g a = sd_K g q → sd_ρ g (q + 4) = sd_V g q → W p l e R s m args below meth c H locs cells slots Q (F0 m pc ls (.ref (sd_ρ g a) :: rest)) := by
        intro q hq hfs e1 e2
        obtain ⟨-, f1, f2, -⟩ := hS3 q hq
        rw [e1]
        rcases hij with ⟨hk, hj0⟩ | ⟨hk, hj0⟩
        · subst hk; subst hj0
          rw [hfs] at hf
          cases hf
          have kk : W p l e R s m args below meth c H locs cells slots Q (F0 m (pc + 3) ls (.ref (sd_ρ g (q + 4)) :: rest)) := kk
          rw [e2] at kk
          exact vk_getf hx hb f2 hS hown (hts _ sd_strV) (fun _ h => h) hd kk
        · subst hk; subst hj0
          rw [hfs] at hf
          cases hf
          exact vk_getf hx hb f1 hS hown (hts _ sd_strC) (fun _ h => h) hd kk
      match a, h7, hc with
      | 0, _, hc => cases hc
      | 1, _, hc => exact key 0 (by decide) (Sum.inr.inj hc |> Prod.mk.inj |>.2) rfl rfl
      | 2, _, hc => exact key 1 (by decide) (Sum.inr.inj hc |> Prod.mk.inj |>.2) rfl rfl
      | 3, _, hc => exact key 2 (by decide) (Sum.inr.inj hc |> Prod.mk.inj |>.2) rfl rfl
      | a + 4, _, hc => cases hc
    · have h7 : 7 ≤ a := by
        by_cases h7 : 7 ≤ a
        · exact h7
        · have hc := sd_old hR hg h7
          exfalso
          match a, hc with
          | 0, hc => cases hc
          | 1, hc => cases hc; simp [pm_cl] at hcl
          | 2, hc => cases hc; simp [pm_cl] at hcl
          | 3, hc => cases hc; simp [pm_cl] at hcl
          | a + 4, hc => cases hc
      have hP : va_P (sd_D g) pm_cl [(sd_ρ g a, .inr (cn, fs.map (sd_v (sd_ρ g))))] H := by
        intro z q hq
        match z, hq with
        | 0, hq => cases hq; exact sd_at hR hg h7
        | z + 1, hq => cases hq
      have hf' : (fs.map (sd_v (sd_ρ g)))[j]? = some (sd_v (sd_ρ g) v) := by rw [List.getElem?_map, hf]; rfl
      rcases hlink with hk | ⟨host, hk⟩
      · exact va_get hx hb hts hin hown hKn.1 hP 0 rfl hcl j hjN (hts _ hk) (fun _ h => h) hf' hd kk
      · exact va_getN hx hb hts hin hown hKn.1 hP 0 rfl hcl j hjN (va_Nw.use rfl (hKn.2.1 _ hk)) (fun _ h => h) hf' hd kk
  next => cases hv
/-- a write of a field -/
theorem sd_putf (X : sd_X p s m args meth c g own cc) (hR : sd_R g h H) (hS : va_S (sd_A g) s.heap H locs) {k a : Nat} {T : List (Nat × Nat × Nat)} {v : Value} {rest : List Value} (hd : decode cc pc = .ok (.putfield k, 3)) (hT : pm_lk (pm_tp own) k = some T) (hv : pm_put T h a v = some h1)
    (kk : ∀ (H1 : Heap) (locs1 : List Loc), sd_R g h1 H1 → va_S (sd_A g) s.heap H1 locs1 → h1.2 = h.2 → W p l e R s m args below meth c H1 locs1 cells slots Q (F0 m (pc + 3) ls rest)) : W p l e R s m args below meth c H locs cells slots Q (F0 m pc ls (sd_v (sd_ρ g) v :: .ref (sd_ρ g a) :: rest)) := by
  obtain ⟨hx, hb, hown, hts, hini, hKn, hIm⟩ := X
  unfold pm_put at hv
  split at hv
  next cn fs hg =>
    obtain ⟨⟨j, kd⟩, hj, hf⟩ := Option.bind_eq_some_iff.mp hv
    obtain ⟨C, T', N, hcl, hjN, hin, hlink, ty, hty, hfit⟩ := sd_tp_ok own _ (pm_lk_mem hT) _ (pm_lk_mem hj)
    dsimp only at hcl hjN hlink hty hfit hf
    split at hf
    next hc =>
      cases hf
      have h7 : 7 ≤ a := by
        by_cases h7 : 7 ≤ a
        · exact h7
        · have hc := sd_old hR hg h7
          exfalso
          match a, hc with
          | 0, hc => cases hc
          | 1, hc => cases hc; simp [pm_cl] at hcl
          | 2, hc => cases hc; simp [pm_cl] at hcl
          | 3, hc => cases hc; simp [pm_cl] at hcl
          | a + 4, hc => cases hc
      have hap := sd_ap_ok hts hKn.1 cn _ hcl
      dsimp only at hap
      obtain ⟨r, q0, cell, q1, q2, q3, q4⟩ := sd_at hR hg h7
      dsimp only at q0 q1 q2 q4
      have hr : r = (C, T', N) := Option.some.inj (q0.symm.trans hcl)
      subst hr
      obtain ⟨hSl, hfc, kC, hkC, hkind⟩ := hKn.1.1 cn _ hcl
      obtain ⟨cf, kf, fi, f, hi, hsl⟩ := hSl j hjN
      have hst := (u_facts hfc hkC (u_lays hts hin hjN) hi).1
      have hlay := hts _ (hin _ (u_in_lay hjN))
      unfold u_lay at hlay
      have hfit2 : narrow ty (sd_v (sd_ρ g) v) = sd_v (sd_ρ g) v ∧ fits ty (sd_v (sd_ρ g) v) = true := by
        refine hfit _ ?_
        have := hc.1
        revert this
        unfold pm_fit
        split <;> first | exact fun h => h | exact fun _ => rfl | exact fun h => (by cases h)
      have hslot : f.slot < cell.slots.size := by rw [hsl]; exact k2_hasslot (q4 j hjN)
      have fin : ∀ H' : Heap, H'[sd_ρ g a]? = some (cell.setSlot f.slot (sd_v (sd_ρ g) v)) → H'.size = H.size → (∀ q, q ≠ sd_ρ g a → H'[q]? = H[q]?) → W p l e R s m args below meth c H' (locs ++ [⟨sd_ρ g a, f.slot⟩]) cells slots Q (F0 m (pc + 3) ls rest) := by
        intro H' e1 e2 e3
        refine kk H' _ (sd_set hR h7 ?_ e2 e3) (hS.put e2 e3 ?_) rfl
        · rw [hsl] at e1
          refine ⟨_, hcl, t_OB.to (V := updV (vp_V (fs.map (sd_v (sd_ρ g)))) j (sd_v (sd_ρ g) v)) ⟨_, e1, q2, q3, t_set q4 hap hjN _⟩ (fun i _ => ?_)⟩
          rw [vp_updV_set (by rw [List.length_map]; exact hc.2)]
          show vp_V _ i = vp_V ((fs.set j v).map _) i
          rw [List.map_set]
        · show sd_base g ≤ sd_ρ g a
          rw [sd_ρ7 h7]
          exact Nat.le_add_right _ _
      rcases hlink with ⟨hnf, hlk⟩ | ⟨hf1, h50, hdecl, hlk⟩
      · rw [if_neg (by rw [hnf]; decide)] at hlay
        have h6 := u_store hfc hkC hkind hlay hi hty hfit2.1 hfit2.2
        rcases hlk with hk | ⟨host, hk⟩
        · exact W.putK hx hb (f := f) ⟨hown, hts _ hk, ⟨_, _, _, hi⟩, hst⟩ (by rw [q2]; exact h6) q1 q3 hslot rfl rfl hd fin
        · exact va_WputK hx hb (f := f) hown (va_Nw.use rfl (hKn.2.1 _ hk)) hi hst (by rw [q2]; exact h6) q1 q3 hslot rfl rfl hd fin
      · rw [if_pos hf1] at hlay
        have hcf : m.cls = cf := by
          obtain ⟨_, _, c', _, _, _, -, -, hf', -, -, -, hown2, -⟩ := Cond.laysFinal_spec hlay
          have e1 : c' = cf := by have := hi.symm.trans hf'; simp at this; exact this.1.symm
          rw [hdecl] at hown2
          rw [← e1]
          exact Option.some.inj (hown.symm.trans hown2)
        have h6 := u_fits hfc hkC hkind (Or.inr hlay) hi hty hfit2.1 hfit2.2
        exact W.putFinK hx hb hown (hts _ hlk) hi hst hcf (hini h50) (by rw [q2]; exact h6) q1 q3 hslot rfl rfl hd fin
    next => cases hf
  next => cases hv
end SD
