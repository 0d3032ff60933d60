/-! THE PURE MACHINE IS SOUND (8): calls; the whole run -/
set_option maxRecDepth 100000
theorem sd_Kn.warm {g : sd_G} {s U : State} (hW : s.WarmedH U.vm) (h : sd_Kn g s) : sd_Kn g U := by
  obtain ⟨h1, h2, h3, h4, h5, h6, h7, h8⟩ := h
  refine ⟨va_K.moved hW.alike h1, fun w hw => sd_nw_moved hW w hw (h2 w hw), va_AO.moved hW.alike h3, va_AO.moved hW.alike h4, ?_, vk_R.warm hW h6, vk_R.warm hW h7, vk_R.warm hW h8⟩
  exact (Cond.arrayOver_setVmC (args := #[]) hW.alike (.array .int)).trans h5
theorem sd_Kn.same {g : sd_G} {s U : State} (hv : U.vm = s.vm) (h : sd_Kn g s) : sd_Kn g U := by
  obtain ⟨h1, h2, h3, h4, h5, h6, h7, h8⟩ := h
  have hal : s.vm.Alike U.vm := by rw [hv]; exact Vm.Alike.refl _
  refine ⟨va_K.moved hal h1, fun w hw => va_Nw.same (sd_nw_onTables w hw) hv.symm (h2 w hw), va_AO.moved hal h3, va_AO.moved hal h4, ?_, vk_R.same hv h6, vk_R.same hv h7, vk_R.same hv h8⟩
  exact (Cond.arrayOver_setVmC (args := #[]) hal (.array .int)).trans h5
theorem sd_Im.go {g : sd_G} {s U : State} {H : Heap} {locs : List Loc} (hvm : s.vm.Alike U.vm) (hU : U.heap = H) (hS : va_S (sd_A g) s.heap H locs) (h : sd_Im g s) : sd_Im g U := by
  obtain ⟨h1, h2, h3, h4, h5⟩ := h
  have hq : ∀ a : Nat, a < s.heap.size → ¬ sd_A g a → H[a]? = s.heap[a]? := hS.2.1
  refine ⟨?_, h2, ?_, ?_, ?_⟩
  · rw [hU]
    exact (h1.moved hvm).kept (hq _ (Nat.lt_of_lt_of_le h2 h5) (Nat.not_le.mpr h2))
  · rw [hU]
    exact (h3.moved hvm).kept hq
  · rw [hU]
    exact (h4.moved hvm).kept hq
  · rw [hU]
    exact Nat.le_trans h5 hS.1
theorem sd_put2 {T : List (Nat × Nat × Nat)} {a : Nat} {v : Value} {h x : pm_H} (e : pm_put T h a v = some x) : x.2 = h.2 := by
  unfold pm_put at e
  split at e
  · obtain ⟨q, -, e⟩ := Option.bind_eq_some_iff.mp e
    split at e
    · cases e; rfl
    · cases e
  · cases e
theorem sd_si2 {t a : Nat} {k v : Int32} {h x : pm_H} (e : pm_si t h a k v = some x) : x.2 = h.2 := by
  unfold pm_si at e
  split at e
  · split at e
    · cases e; rfl
    · cases e
  · cases e
theorem sd_sl2 {a : Nat} {k : Int32} {v : Int64} {h x : pm_H} (e : pm_sl h a k v = some x) : x.2 = h.2 := by
  unfold pm_sl at e
  split at e
  · split at e
    · cases e; rfl
    · cases e
  · cases e
theorem sd_sq2 {a : Nat} {k : Int32} {v : Value} {h x : pm_H} (e : pm_sq h a k v = some x) : x.2 = h.2 := by
  unfold pm_sq at e
  split at e
  · split at e
    · cases e; rfl
    · cases e
  · cases e
theorem sd_na2 {t : Nat} {n : Int32} {h x : pm_H} (e : pm_na h t n = some x) : h.2.1 ≤ x.2.1 ∧ h.2.2 ≤ x.2.2 := by
  unfold pm_na at e
  split at e
  · split at e <;> first | (cases e; exact ⟨Nat.le_succ _, Nat.le_add_right _ _⟩) | cases e
  · cases e
theorem sd_nm2 {n k : Int32} {h x : pm_H} (e : pm_nm h n k = some x) : h.2.1 ≤ x.2.1 ∧ h.2.2 ≤ x.2.2 := by
  unfold pm_nm at e
  split at e
  · cases e
    exact ⟨by show h.2.1 ≤ h.2.1 + 1 + _; omega, by show h.2.2 ≤ h.2.2 + _ + _; omega⟩
  · cases e
set_option maxHeartbeats 4000000 in
theorem sd_step_le {own pc len pc' : Nat} {i : Instr} {L st L' st' : List Value} {h h1 : pm_H} (hs : pm_step own pc len i L st h = some (pc', L', st', h1)) : h.2.1 ≤ h1.2.1 ∧ h.2.2 ≤ h1.2.2 := by
  have e0 : ∀ {x : pm_H}, x.2 = h.2 → h.2.1 ≤ x.2.1 ∧ h.2.2 ≤ x.2.2 := fun e => by rw [e]; exact ⟨Nat.le_refl _, Nat.le_refl _⟩
  cases i with
  | iconst n =>
    dsimp only [pm_step] at hs
    cases hs; exact e0 rfl
  | bipush n =>
    dsimp only [pm_step] at hs
    cases hs; exact e0 rfl
  | sipush n =>
    dsimp only [pm_step] at hs
    cases hs; exact e0 rfl
  | lconst n =>
    dsimp only [pm_step] at hs
    cases hs; exact e0 rfl
  | aconst_null =>
    dsimp only [pm_step] at hs
    cases hs; exact e0 rfl
  | ldc k =>
    dsimp only [pm_step] at hs
    split at hs
    · cases hs; exact e0 rfl
    · obtain ⟨q2, hq2, hs⟩ := Option.map_eq_some_iff.mp hs
      cases hs; exact e0 rfl
  | ldc_w k =>
    dsimp only [pm_step] at hs
    obtain ⟨q2, hq2, hs⟩ := Option.map_eq_some_iff.mp hs
    cases hs; exact e0 rfl
  | ldc2_w k =>
    dsimp only [pm_step] at hs
    obtain ⟨q2, hq2, hs⟩ := Option.map_eq_some_iff.mp hs
    cases hs; exact e0 rfl
  | iload_n k =>
    dsimp only [pm_step] at hs
    obtain ⟨q2, hq2, hs⟩ := Option.map_eq_some_iff.mp hs
    cases hs; exact e0 rfl
  | iload k =>
    dsimp only [pm_step] at hs
    obtain ⟨q2, hq2, hs⟩ := Option.map_eq_some_iff.mp hs
    cases hs; exact e0 rfl
  | lload_n k =>
    dsimp only [pm_step] at hs
    obtain ⟨q2, hq2, hs⟩ := Option.map_eq_some_iff.mp hs
    cases hs; exact e0 rfl
  | lload k =>
    dsimp only [pm_step] at hs
    obtain ⟨q2, hq2, hs⟩ := Option.map_eq_some_iff.mp hs
    cases hs; exact e0 rfl
  | aload_n k =>
    dsimp only [pm_step] at hs
    obtain ⟨q2, hq2, hs⟩ := Option.map_eq_some_iff.mp hs
    cases hs; exact e0 rfl
  | aload k =>
    dsimp only [pm_step] at hs
    obtain ⟨q2, hq2, hs⟩ := Option.map_eq_some_iff.mp hs
    cases hs; exact e0 rfl
  | goto off =>
    dsimp only [pm_step] at hs
    obtain ⟨q2, hq2, hs⟩ := Option.map_eq_some_iff.mp hs
    cases hs; exact e0 rfl
  | getstatic k =>
    dsimp only [pm_step] at hs
    obtain ⟨q2, hq2, hs⟩ := Option.map_eq_some_iff.mp hs
    cases hs; exact e0 rfl
  | istore_n k =>
    dsimp only [pm_step] at hs
    split at hs
    · obtain ⟨q2, hq2, hs⟩ := Option.map_eq_some_iff.mp hs
      cases hs; exact e0 rfl
    · cases hs
  | istore k =>
    dsimp only [pm_step] at hs
    split at hs
    · obtain ⟨q2, hq2, hs⟩ := Option.map_eq_some_iff.mp hs
      cases hs; exact e0 rfl
    · cases hs
  | lstore_n k =>
    dsimp only [pm_step] at hs
    split at hs
    · obtain ⟨q2, hq2, hs⟩ := Option.map_eq_some_iff.mp hs
      cases hs; exact e0 rfl
    · cases hs
  | lstore k =>
    dsimp only [pm_step] at hs
    split at hs
    · obtain ⟨q2, hq2, hs⟩ := Option.map_eq_some_iff.mp hs
      cases hs; exact e0 rfl
    · cases hs
  | astore_n k =>
    dsimp only [pm_step] at hs
    split at hs
    · obtain ⟨q2, hq2, hs⟩ := Option.map_eq_some_iff.mp hs
      cases hs; exact e0 rfl
    · obtain ⟨q2, hq2, hs⟩ := Option.map_eq_some_iff.mp hs
      cases hs; exact e0 rfl
    · cases hs
  | astore k =>
    dsimp only [pm_step] at hs
    split at hs
    · obtain ⟨q2, hq2, hs⟩ := Option.map_eq_some_iff.mp hs
      cases hs; exact e0 rfl
    · obtain ⟨q2, hq2, hs⟩ := Option.map_eq_some_iff.mp hs
      cases hs; exact e0 rfl
    · cases hs
  | iinc k n =>
    dsimp only [pm_step] at hs
    split at hs
    · obtain ⟨q1, hq1, hs⟩ := Option.bind_eq_some_iff.mp hs
      obtain ⟨q2, hq2, hs⟩ := Option.map_eq_some_iff.mp hs
      cases hs; exact e0 rfl
    · cases hs
  | iadd =>
    dsimp only [pm_step] at hs
    unfold pm_i2 at hs
    split at hs
    · cases hs; exact e0 rfl
    · cases hs
  | isub =>
    dsimp only [pm_step] at hs
    unfold pm_i2 at hs
    split at hs
    · cases hs; exact e0 rfl
    · cases hs
  | imul =>
    dsimp only [pm_step] at hs
    unfold pm_i2 at hs
    split at hs
    · cases hs; exact e0 rfl
    · cases hs
  | iand =>
    dsimp only [pm_step] at hs
    unfold pm_i2 at hs
    split at hs
    · cases hs; exact e0 rfl
    · cases hs
  | ior =>
    dsimp only [pm_step] at hs
    unfold pm_i2 at hs
    split at hs
    · cases hs; exact e0 rfl
    · cases hs
  | ixor =>
    dsimp only [pm_step] at hs
    unfold pm_i2 at hs
    split at hs
    · cases hs; exact e0 rfl
    · cases hs
  | ishl =>
    dsimp only [pm_step] at hs
    unfold pm_i2 at hs
    split at hs
    · cases hs; exact e0 rfl
    · cases hs
  | ishr =>
    dsimp only [pm_step] at hs
    unfold pm_i2 at hs
    split at hs
    · cases hs; exact e0 rfl
    · cases hs
  | iushr =>
    dsimp only [pm_step] at hs
    unfold pm_i2 at hs
    split at hs
    · cases hs; exact e0 rfl
    · cases hs
  | ineg =>
    dsimp only [pm_step] at hs
    unfold pm_i1 at hs
    split at hs
    · cases hs; exact e0 rfl
    · cases hs
  | i2b =>
    dsimp only [pm_step] at hs
    unfold pm_i1 at hs
    split at hs
    · cases hs; exact e0 rfl
    · cases hs
  | idiv =>
    dsimp only [pm_step] at hs
    split at hs
    · split at hs
      · cases hs
      · cases hs; exact e0 rfl
    · cases hs
  | irem =>
    dsimp only [pm_step] at hs
    split at hs
    · split at hs
      · cases hs
      · cases hs; exact e0 rfl
    · cases hs
  | ladd =>
    dsimp only [pm_step] at hs
    split at hs
    · cases hs; exact e0 rfl
    · cases hs
  | lcmp =>
    dsimp only [pm_step] at hs
    split at hs
    · cases hs; exact e0 rfl
    · cases hs
  | dup =>
    dsimp only [pm_step] at hs
    split at hs
    · split at hs
      · cases hs; exact e0 rfl
      · cases hs
    · cases hs
  | dup2 =>
    dsimp only [pm_step] at hs
    split at hs
    · split at hs
      · cases hs; exact e0 rfl
      · cases hs
    · cases hs
  | pop =>
    dsimp only [pm_step] at hs
    split at hs
    · split at hs
      · cases hs; exact e0 rfl
      · cases hs
    · cases hs
  | ifCond cd off =>
    dsimp only [pm_step] at hs
    split at hs
    · obtain ⟨q2, hq2, hs⟩ := Option.map_eq_some_iff.mp hs
      cases hs; exact e0 rfl
    · cases hs
  | if_icmp cd off =>
    dsimp only [pm_step] at hs
    split at hs
    · obtain ⟨q2, hq2, hs⟩ := Option.map_eq_some_iff.mp hs
      cases hs; exact e0 rfl
    · cases hs
  | ifnull off =>
    dsimp only [pm_step] at hs
    split at hs
    · obtain ⟨q2, hq2, hs⟩ := Option.map_eq_some_iff.mp hs
      cases hs; exact e0 rfl
    · cases hs; exact e0 rfl
    · cases hs
  | tableswitch dflt lo hi offs =>
    dsimp only [pm_step] at hs
    split at hs
    · split at hs
      · obtain ⟨q2, hq2, hs⟩ := Option.map_eq_some_iff.mp hs
        cases hs; exact e0 rfl
      · obtain ⟨q1, hq1, hs⟩ := Option.bind_eq_some_iff.mp hs
        obtain ⟨q2, hq2, hs⟩ := Option.map_eq_some_iff.mp hs
        cases hs; exact e0 rfl
    · cases hs
  | lookupswitch dflt ps =>
    dsimp only [pm_step] at hs
    split at hs
    · split at hs
      · obtain ⟨q2, hq2, hs⟩ := Option.map_eq_some_iff.mp hs
        cases hs; exact e0 rfl
      · cases hs
    · cases hs
  | getfield k =>
    dsimp only [pm_step] at hs
    split at hs
    · obtain ⟨q1, hq1, hs⟩ := Option.bind_eq_some_iff.mp hs
      obtain ⟨q2, hq2, hs⟩ := Option.map_eq_some_iff.mp hs
      cases hs; exact e0 rfl
    · cases hs
  | putfield k =>
    dsimp only [pm_step] at hs
    split at hs
    · obtain ⟨q1, hq1, hs⟩ := Option.bind_eq_some_iff.mp hs
      obtain ⟨q2, hq2, hs⟩ := Option.map_eq_some_iff.mp hs
      cases hs; exact e0 (sd_put2 hq2)
    · cases hs
  | iaload =>
    dsimp only [pm_step] at hs
    split at hs
    · obtain ⟨q2, hq2, hs⟩ := Option.map_eq_some_iff.mp hs
      cases hs; exact e0 rfl
    · cases hs
  | baload =>
    dsimp only [pm_step] at hs
    split at hs
    · obtain ⟨q2, hq2, hs⟩ := Option.map_eq_some_iff.mp hs
      cases hs; exact e0 rfl
    · cases hs
  | laload =>
    dsimp only [pm_step] at hs
    split at hs
    · obtain ⟨q2, hq2, hs⟩ := Option.map_eq_some_iff.mp hs
      cases hs; exact e0 rfl
    · cases hs
  | aaload =>
    dsimp only [pm_step] at hs
    split at hs
    · obtain ⟨q2, hq2, hs⟩ := Option.map_eq_some_iff.mp hs
      cases hs; exact e0 rfl
    · cases hs
  | arraylength =>
    dsimp only [pm_step] at hs
    split at hs
    · obtain ⟨q2, hq2, hs⟩ := Option.map_eq_some_iff.mp hs
      cases hs; exact e0 rfl
    · cases hs
  | iastore =>
    dsimp only [pm_step] at hs
    split at hs
    · obtain ⟨q2, hq2, hs⟩ := Option.map_eq_some_iff.mp hs
      cases hs; exact e0 (sd_si2 hq2)
    · cases hs
  | bastore =>
    dsimp only [pm_step] at hs
    split at hs
    · obtain ⟨q2, hq2, hs⟩ := Option.map_eq_some_iff.mp hs
      cases hs; exact e0 (sd_si2 hq2)
    · cases hs
  | lastore =>
    dsimp only [pm_step] at hs
    split at hs
    · obtain ⟨q2, hq2, hs⟩ := Option.map_eq_some_iff.mp hs
      cases hs; exact e0 (sd_sl2 hq2)
    · cases hs
  | aastore =>
    dsimp only [pm_step] at hs
    split at hs
    · obtain ⟨q2, hq2, hs⟩ := Option.map_eq_some_iff.mp hs
      cases hs; exact e0 (sd_sq2 hq2)
    · cases hs
  | new k =>
    dsimp only [pm_step] at hs
    obtain ⟨q2, hq2, hs⟩ := Option.map_eq_some_iff.mp hs
    cases hs; exact ⟨Nat.le_succ _, Nat.le_add_right _ _⟩
  | newarray ty =>
    dsimp only [pm_step] at hs
    split at hs
    · obtain ⟨q2, hq2, hs⟩ := Option.map_eq_some_iff.mp hs
      cases hs; exact sd_na2 hq2
    · cases hs
  | anewarray k =>
    dsimp only [pm_step] at hs
    split at hs
    · obtain ⟨q1, hq1, hs⟩ := Option.bind_eq_some_iff.mp hs
      obtain ⟨q2, hq2, hs⟩ := Option.map_eq_some_iff.mp hs
      cases hs; exact sd_na2 hq2
    · cases hs
  | multianewarray k dims =>
    by_cases h2 : dims = 2
    · subst h2
      simp only [pm_step] at hs
      split at hs
      · obtain ⟨q1, hq1, hs⟩ := Option.bind_eq_some_iff.mp hs
        obtain ⟨q2, hq2, hs⟩ := Option.map_eq_some_iff.mp hs
        cases hs
        exact sd_nm2 hq2
      · cases hs
    · exfalso
      revert hs
      unfold pm_step
      split <;> first | (intro hs; cases hs; done) | (intro hs; simp_all)
  | invokespecial k =>
    dsimp only [pm_step] at hs
    split at hs
    · split at hs
      · obtain ⟨q2, hq2, hs⟩ := Option.map_eq_some_iff.mp hs
        cases hs; exact e0 rfl
      · cases hs
    · cases hs
  | _ => cases hs
theorem pm_as_inv {tg tg' : pm_T} {as rest as' rest' : List Value} (h : pm_as tg as rest = some (tg', as', rest')) : tg' = tg ∧ as' = as ∧ rest' = rest ∧ as.all pm_v1 = true ∧ as.length ≤ tg.2.2.2.1 ∧ pm_sum rest ≤ 8 ∧ tg.2.2.2.1 ≤ 21 := by
  unfold pm_as at h
  split at h
  next hc => cases h; exact ⟨rfl, rfl, rfl, hc.1, hc.2.1, hc.2.2.1, hc.2.2.2⟩
  next => cases h
theorem sd_run_le : ∀ (n : Nat) {d own : Nat} {cc : ByteArray} {rt : Option FieldType} {pc : Nat} {L st : List Value} {h : pm_H} {r : Option Value} {h' : pm_H}, pm_run n d own cc rt pc L st h = some (r, h') → h.2.1 ≤ h'.2.1 ∧ h.2.2 ≤ h'.2.2 := by
  intro n
  induction n with
  | zero => intro d own cc rt pc L st h r h' e; simp [pm_run] at e
  | succ n ih =>
    intro d own cc rt pc L st h r h' e
    rw [pm_run] at e
    cases hd : decode cc pc with
    | error _ => rw [hd] at e; cases e
    | ok q =>
      obtain ⟨i, len⟩ := q
      rw [hd] at e
      dsimp only at e
      cases hn : pm_ln i len with
      | false => rw [hn] at e; cases e
      | true =>
        rw [hn] at e
        dsimp only at e
        cases h0 : pm_ret rt i st with
        | some q => rw [h0] at e; cases e; exact ⟨Nat.le_refl _, Nat.le_refl _⟩
        | none =>
          rw [h0] at e
          dsimp only at e
          cases h1 : pm_call own i st h with
          | some q =>
            obtain ⟨tg, as, rest⟩ := q
            rw [h1] at e
            dsimp only at e
            cases d with
            | zero => cases e
            | succ d' =>
              dsimp only at e
              cases h2 : pm_run n d' tg.1 tg.2.2.1 tg.2.2.2.2 0 (pm_en as tg.2.2.2.1) [] h with
              | none => rw [h2] at e; cases e
              | some q =>
                obtain ⟨r2, hh⟩ := q
                rw [h2] at e
                obtain ⟨a1, a2⟩ := ih h2
                obtain ⟨b1, b2⟩ := ih e
                exact ⟨Nat.le_trans a1 b1, Nat.le_trans a2 b2⟩
          | none =>
            rw [h1] at e
            dsimp only at e
            cases h2 : pm_step own pc len i L st h with
            | none => rw [h2] at e; cases e
            | some q =>
              obtain ⟨pc2, L2, st2, hh⟩ := q
              rw [h2] at e
              obtain ⟨a1, a2⟩ := sd_step_le h2
              obtain ⟨b1, b2⟩ := ih e
              exact ⟨Nat.le_trans a1 b1, Nat.le_trans a2 b2⟩
/-- what is to be shown of fuel n -/
def sd_Sound (l : Launch) (g : sd_G) (n : Nat) : Prop := ∀ {d own : Nat} {cc : ByteArray} {rt : Option FieldType} {pc : Nat} {L st : List Value} {h : pm_H} {r : Option Value} {h' : pm_H}, pm_run n d own cc rt pc L st h = some (r, h') →
  ∀ {p : Program} {e : Env} {R : Room} {s : State} {m : MethodId} {args : Array Value} {below : List Frame} {meth : Method} {c : Code} {H : Heap} {locs : List Loc} {cells slots mc ms : Nat} {ls : Array Slot} {Q : State → Prop}, sd_X p s m args meth c g own cc → d + 1 ≤ R.frames → 40 * d + 60 ≤ R.locals → mc ≤ R.cells → ms ≤ R.slots →
  sd_R g h H → va_S (sd_A g) s.heap H locs → sd_H (sd_ρ g) L ls c.maxLocals → cells + (h'.2.1 - h.2.1) ≤ mc → slots + (h'.2.2 - h.2.2) ≤ ms →
  (∀ {i : Instr} {len pc' : Nat} {st' : List Value} {ls' : Array Slot} {H' : Heap} {locs' : List Loc} {cells' slots' : Nat}, decode cc pc' = .ok (i, len) → pm_ln i len = true → pm_ret rt i st' = some r → sd_R g h' H' → va_S (sd_A g) s.heap H' locs' → cells' ≤ mc → slots' ≤ ms → W p l e R s m args below meth c H' locs' cells' slots' Q (F0 m pc' ls' (st'.map (sd_v (sd_ρ g))))) →
  W p l e R s m args below meth c H locs cells slots Q (F0 m pc ls (st.map (sd_v (sd_ρ g))))
def sd_Qc (g : sd_G) (r : Option Value) (h1 : pm_H) : Array Value → State → Outcome → State → Prop := fun _ st oc t => oc = .returned (r.map (sd_v (sd_ρ g))) ∧ sd_R g h1 t.heap ∧ va_S (sd_A g) st.heap t.heap []
/-- a return of a method that was called -/
theorem sd_retW {p : Program} {l : Launch} {e : Env} {R : Room} {s : State} {m : MethodId} {args : Array Value} {below : List Frame} {meth : Method} {c : Code} {H : Heap} {locs : List Loc} {cells slots mc ms : Nat} {ls : Array Slot} {g : sd_G} {cc : ByteArray} {rt : Option FieldType} {i : Instr} {len pc : Nat} {st : List Value} {r : Option Value} {h1 : pm_H}
    (hx : p.tables.exec = Jvm.exec) (hb : c.code = cc) (hr : meth.sig.returnType = rt) (hlocks : meth.locks = false) (hd : decode cc pc = .ok (i, len)) (hn : pm_ln i len = true) (h0 : pm_ret rt i st = some r) (hR : sd_R g h1 H) (hS : va_S (sd_A g) s.heap H locs) (hc : cells ≤ mc) (hs : slots ≤ ms) :
    W p l e R s m args below meth c H locs cells slots (MQ below (sd_Qc g r h1) args s mc ms (sd_A g)) (F0 m pc ls (st.map (sd_v (sd_ρ g)))) := by
  refine W.widen hc hs ?_
  have hq : ∀ t : State, t.heap = H → sd_R g h1 t.heap ∧ va_S (sd_A g) s.heap t.heap [] := fun t ht => by
    rw [ht]
    exact ⟨hR, hS.1, hS.2.1, fun _ h => by cases h⟩
  cases i with
  | ireturn =>
    obtain rfl := sd_ln hn
    unfold pm_ret at h0
    dsimp only at h0
    split at h0
    next v ty =>
      split at h0
      next hna => cases h0; exact W.zret hx hb hr hna (fun t ht _ => ⟨rfl, hq t ht⟩) hS.2.2 hd hlocks
      next => cases h0
    next => cases h0
  | lreturn =>
    obtain rfl := sd_ln hn
    unfold pm_ret at h0
    dsimp only at h0
    split at h0
    next v => cases h0; exact W.lret hx hb hr (fun t ht _ => ⟨rfl, hq t ht⟩) hS.2.2 hd hlocks
    next => cases h0
  | areturn =>
    obtain rfl := sd_ln hn
    unfold pm_ret at h0
    dsimp only at h0
    split at h0
    next a C => cases h0; exact W.aret (v := .ref (sd_ρ g a)) hx hb hr (Or.inl ⟨_, rfl⟩) (Or.inr ⟨_, rfl⟩) (fun t ht _ => ⟨rfl, hq t ht⟩) hS.2.2 hd hlocks
    next C => cases h0; exact W.aret (v := .null) hx hb hr (Or.inl ⟨_, rfl⟩) (Or.inl rfl) (fun t ht _ => ⟨rfl, hq t ht⟩) hS.2.2 hd hlocks
    next => cases h0
  | return_ =>
    obtain rfl := sd_ln hn
    unfold pm_ret at h0
    dsimp only at h0
    split at h0
    next => cases h0; exact W.vret hx hb hr (fun t ht _ => ⟨rfl, hq t ht⟩) hS.2.2 hd hlocks
    next => cases h0
  | _ => cases h0
abbrev sd_rm (d mc ms : Nat) : Room := { frames := d + 1, cells := mc, slots := ms, locals := 40 * d + 60 }
def sd_Pc (g : sd_G) (H : Heap) (as : List Value) : Array Value → State → Prop := va_Pc (as.map (sd_v (sd_ρ g))) (fun U => U.heap = H ∧ sd_Kn g U ∧ sd_Im g U)
theorem sd_blind {g : sd_G} {H : Heap} {as : List Value} : FrameBlind (sd_Pc g H as) := by
  intro a U f mk hq
  obtain ⟨q0, q1, q2, q3⟩ := hq
  exact ⟨q0, q1, sd_Kn.same (s := U) rfl q2, q3.go (H := U.heap) (locs := []) (Vm.Alike.refl _) rfl va_S.rf⟩
/-- the contract of one run of a method -/
theorem sd_met {l : Launch} {g : sd_G} {n : Nat} (ih : sd_Sound l g n) {tg : pm_T} {as : List Value} {h : pm_H} {r : Option Value} {h1 : pm_H} {d : Nat} {H : Heap} (TG : sd_TG tg) (hrun : pm_run n d tg.1 tg.2.2.1 tg.2.2.2.2 0 (pm_en as tg.2.2.2.1) [] h = some (r, h1)) (hv1 : as.all pm_v1 = true) (hlen : as.length ≤ tg.2.2.2.1) (hR : sd_R g h H) :
    Met l tg.2.1 (ws_ tg.2.1 tg.2.2.1 tg.2.2.2.1 tg.2.2.2.2) (sd_rm d (h1.2.1 - h.2.1) (h1.2.2 - h.2.2)) (sd_Pc g H as) (sd_Qc g r h1) (h1.2.1 - h.2.1) (h1.2.2 - h.2.2) (sd_A g) := by
  obtain ⟨t1, t2, t3, t4, t5, t6⟩ := TG
  refine va_MetF (cc := tg.2.2.1) (maxL := tg.2.2.2.1) (ret := tg.2.2.2.2) t1 rfl ?_
  intro p e s m args below meth c s₁ B hml hv
  obtain ⟨rfl, hH, hKn, hIm⟩ := hv
  subst hH
  have hts := atoms_spec (ws := ws_ tg.2.1 tg.2.2.1 tg.2.2.2.1 tg.2.2.2.2) B.pre
  have X : sd_X p s m ((as.map (sd_v (sd_ρ g))).toArray) meth c g tg.1 tg.2.2.1 :=
    ⟨B.exec, B.bytes, by rw [← t2]; exact findClass_of_methodNamed B.named, fun w h => hts w (List.mem_cons_of_mem _ h), fun h50 => (name_of_methodNamed B.named B.method).1.trans (t3 h50), hKn, hIm⟩
  rw [lg_entry_eq]
  have hH := sd_en (ρ := sd_ρ g) hv1 hlen
  refine ih hrun (st := []) (mc := h1.2.1 - h.2.1) (ms := h1.2.2 - h.2.2) X (Nat.le_refl _) (Nat.le_refl _) (Nat.le_refl _) (Nat.le_refl _) hR va_S.rf (by rw [hml]; exact hH) (by omega) (by omega) ?_
  intro i len pc' st' ls' H' locs' cells' slots' hd hn h0 hR' hS' hc hs
  exact sd_retW B.exec B.bytes B.returns B.notSynchronized hd hn h0 hR' hS' hc hs
/-- behind a call -/
theorem sd_back {p : Program} {l : Launch} {e : Env} {R : Room} {s : State} {m : MethodId} {args : Array Value} {below : List Frame} {meth : Method} {c : Code} {H : Heap} {locs : List Loc} {cells slots mc ms pc : Nat} {ls : Array Slot} {stM restM : List Value} {Q : State → Prop} {g : sd_G} {r : Option Value} {h1 : pm_H} {a : Array Value}
    (hr : va_Run p l e R s m args below meth c H locs cells slots mc ms (F0 m pc ls stM) restM (sd_Qc g r h1 a) (sd_A g)) (hS : va_S (sd_A g) s.heap H locs)
    (kk : ∀ (H1 : Heap) (locs1 : List Loc), sd_R g h1 H1 → va_S (sd_A g) s.heap H1 locs1 → W p l e R s m args below meth c H1 locs1 (cells + mc) (slots + ms) Q (F0 m (pc + 3) ls ((r.map (sd_v (sd_ρ g))).toList ++ restM))) : W p l e R s m args below meth c H locs cells slots Q (F0 m pc ls stM) := by
  intro T hT X
  obtain ⟨v, st₀, t, T', L, h0, X', hL, e1, e2, ⟨hv, hR1, hS1⟩, st⟩ := hr T hT X
  have hv : v = r.map (sd_v (sd_ρ g)) := Outcome.returned.inj hv
  subst hv
  rw [h0] at hS1
  obtain ⟨t2, a1, b1⟩ := kk T'.heap (locs ++ L) (by rw [e1]; exact hR1) ⟨Nat.le_trans hS.1 (by rw [e1]; exact hS1.1), fun q h1 h2 => by rw [e1, hS1.2.1 q (Nat.lt_of_lt_of_le h1 hS.1) h2]; exact hS.2.1 q h1 h2, fun q hq => by
    rcases List.mem_append.mp hq with h | h
    · exact hS.2.2 q h
    · exact hL q h⟩ T' rfl X'
  exact ⟨t2, st t2 a1, b1⟩
