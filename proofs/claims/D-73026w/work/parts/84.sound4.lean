/-! THE PURE MACHINE IS SOUND (4): arrays, new cells -/
set_option maxRecDepth 100000
theorem sd_ty {g : sd_G} {s : State} (hKn : sd_Kn g s) (t : Nat) {ty : FieldType} (h : (sd_tys (sd_dA g))[t]? = some (sd_dA g t, ty)) : ArrOfT s (sd_dA g t) ty ∧ va_RA s (sd_dA g t) ty := hKn.1.2 t _ h
section SDA
variable {p : Program} {l : Launch} {e : Env} {R : Room} {s : State} {m : MethodId} {args : Array Value} {below : List Frame} {meth : Method} {c : Code} {H : Heap} {locs : List Loc} {cells slots : Nat} {Q : State → Prop}
variable {g : sd_G} {own pc pc' len : Nat} {cc : ByteArray} {L L' st st' : List Value} {h h1 : pm_H} {ls : Array Slot}
theorem sd_P1 (hR : sd_R g h H) {a : Nat} {x : pm_C} (hg : pm_g h a = some x) (h7 : 7 ≤ a) : va_P (sd_D g) pm_cl [(sd_ρ g a, sd_c (sd_ρ g) (sd_dA g) x)] H := by
  intro z q hq
  match z, hq with
  | 0, hq => cases hq; exact sd_at hR hg h7
  | z + 1, hq => cases hq
theorem sd_A7 {a : Nat} (h7 : 7 ≤ a) : sd_A g (sd_ρ g a) := by
  show sd_base g ≤ sd_ρ g a
  rw [sd_ρ7 h7]
  exact Nat.le_add_right _ _
/-- what a cell of the start is, by its number -/
theorem sd_oldA {a t n : Nat} {f : (Nat → Int32) ⊕ (Nat → Int64) ⊕ (Nat → UInt32) ⊕ (Nat → UInt64) ⊕ (Nat → Option Nat)} (h7 : ¬ 7 ≤ a) (hc : (Sum.inl (t, n, f) : pm_C) = sd_k (sd_L g) (sd_xs g) a) :
    (a = 0 ∧ t = 0 ∧ n = sd_L g ∧ f = .inl (sd_xs g)) ∨ ∃ j, j < 3 ∧ a = j + 4 ∧ t = 1 ∧ n = sd_len.getD j 0 ∧ f = .inl fun q => (sd_byt.getD j []).getD q 0 := by
  match a, hc with
  | 0, hc => cases hc; exact Or.inl ⟨rfl, rfl, rfl, rfl⟩
  | 1, hc => cases hc
  | 2, hc => cases hc
  | 3, hc => cases hc
  | j + 4, hc => cases hc; exact Or.inr ⟨j, by omega, rfl, rfl, rfl, rfl⟩
theorem sd_ρ0 : sd_ρ g 0 = sd_b g := rfl
theorem sd_ρV {j : Nat} (hj : j < 3) : sd_ρ g (j + 4) = sd_V g j := by
  unfold sd_ρ sd_r
  rw [if_neg (by omega), if_neg (by omega), if_pos (by omega)]
  rfl
theorem sd_ρK {j : Nat} (hj : j < 3) : sd_ρ g (j + 1) = sd_K g j := by
  unfold sd_ρ sd_r
  rw [if_neg (by omega), if_pos (by omega)]
  rfl
theorem sd_iald (X : sd_X p s m args meth c g own cc) (hR : sd_R g h H) (hS : va_S (sd_A g) s.heap H locs) {a : Nat} {i v : Int32} {rest : List Value} (hd : decode cc pc = .ok (.iaload, 1)) (hv : pm_ai 0 h a i = some v)
    (kk : W p l e R s m args below meth c H locs cells slots Q (F0 m (pc + 1) ls (.int v :: rest))) : W p l e R s m args below meth c H locs cells slots Q (F0 m pc ls (.int i :: .ref (sd_ρ g a) :: rest)) := by
  obtain ⟨hx, hb, hown, hts, -, hKn, hIm⟩ := X
  unfold pm_ai at hv
  split at hv
  next t n f hg =>
    split at hv
    next hc =>
      obtain ⟨rfl, hi0, hin⟩ := hc
      cases hv
      by_cases h7 : 7 ≤ a
      · exact va_iald hx hb hKn.1 (sd_P1 hR hg h7) 0 0 rfl rfl (sd_in hi0 hin) hd kk
      · rcases sd_oldA h7 (sd_old hR hg h7) with ⟨rfl, -, rfl, hf⟩ | ⟨j, -, -, h1, -⟩
        · cases hf
          exact va_sld hx hb hIm.1 (Nat.lt_of_lt_of_le hIm.2.1 hIm.2.2.2.2) (Nat.not_le.mpr hIm.2.1) hS (sd_in hi0 hin) hd kk
        · cases h1
    next => cases hv
  next => cases hv
theorem sd_bald (X : sd_X p s m args meth c g own cc) (hR : sd_R g h H) (hS : va_S (sd_A g) s.heap H locs) {a : Nat} {i v : Int32} {rest : List Value} (hd : decode cc pc = .ok (.baload, 1)) (hv : pm_ai 1 h a i = some v)
    (kk : W p l e R s m args below meth c H locs cells slots Q (F0 m (pc + 1) ls (.int v :: rest))) : W p l e R s m args below meth c H locs cells slots Q (F0 m pc ls (.int i :: .ref (sd_ρ g a) :: rest)) := by
  obtain ⟨hx, hb, hown, hts, -, hKn, hIm⟩ := X
  unfold pm_ai at hv
  split at hv
  next t n f hg =>
    split at hv
    next hc =>
      obtain ⟨rfl, hi0, hin⟩ := hc
      cases hv
      by_cases h7 : 7 ≤ a
      · exact va_bald hx hb hKn.1 (sd_P1 hR hg h7) 0 1 rfl rfl (sd_in hi0 hin) hd kk
      · rcases sd_oldA h7 (sd_old hR hg h7) with ⟨-, h1, -⟩ | ⟨j, hj, rfl, -, rfl, hf⟩
        · cases h1
        · cases hf
          rw [sd_ρV hj]
          exact va_tb hx hb (hIm.2.2.1.1 j hj).2.2.2 hS (sd_in hi0 hin) rfl hd kk
    next => cases hv
  next => cases hv
theorem sd_lald (X : sd_X p s m args meth c g own cc) (hR : sd_R g h H) {a : Nat} {i : Int32} {v : Int64} {rest : List Value} (hd : decode cc pc = .ok (.laload, 1)) (hv : pm_al h a i = some v)
    (kk : W p l e R s m args below meth c H locs cells slots Q (F0 m (pc + 1) ls (.long v :: rest))) : W p l e R s m args below meth c H locs cells slots Q (F0 m pc ls (.int i :: .ref (sd_ρ g a) :: rest)) := by
  obtain ⟨hx, hb, hown, hts, -, hKn, hIm⟩ := X
  unfold pm_al at hv
  split at hv
  next t n f hg =>
    split at hv
    next hc =>
      obtain ⟨rfl, hi0, hin⟩ := hc
      cases hv
      by_cases h7 : 7 ≤ a
      · exact va_lald hx hb hKn.1 (sd_P1 hR hg h7) 0 2 rfl rfl (sd_in hi0 hin) hd kk
      · rcases sd_oldA h7 (sd_old hR hg h7) with ⟨-, h1, -⟩ | ⟨j, hj, -, h1, -⟩ <;> cases h1
    next => cases hv
  next => cases hv
theorem sd_rf (x : Option Nat) : va_rf (x.map (sd_ρ g)) = sd_v (sd_ρ g) (va_rf x) := by cases x <;> rfl
theorem sd_aald (X : sd_X p s m args meth c g own cc) (hR : sd_R g h H) {a : Nat} {i : Int32} {v : Value} {rest : List Value} (hd : decode cc pc = .ok (.aaload, 1)) (hv : pm_aq h a i = some v)
    (kk : W p l e R s m args below meth c H locs cells slots Q (F0 m (pc + 1) ls (sd_v (sd_ρ g) v :: rest))) : W p l e R s m args below meth c H locs cells slots Q (F0 m pc ls (.int i :: .ref (sd_ρ g a) :: rest)) := by
  obtain ⟨hx, hb, hown, hts, -, hKn, hIm⟩ := X
  unfold pm_aq at hv
  split at hv
  next t n f hg =>
    split at hv
    next hc =>
      obtain ⟨ht, hi0, hin⟩ := hc
      cases hv
      by_cases h7 : 7 ≤ a
      · rw [← sd_rf] at kk
        have go : ∀ ty : FieldType, ty.isReference = true → ArrOfT s (sd_dA g t) ty → W p l e R s m args below meth c H locs cells slots Q (F0 m pc ls (.int i :: .ref (sd_ρ g a) :: rest)) := by
          intro ty hr hA
          exact W.aald (v := va_rf ((f i.toNatClampNeg).map (sd_ρ g))) (ty := ty) hx hb (sd_at hR hg h7) (hA n (fun j => va_rf ((f j).map (sd_ρ g)))) hr (fun q => by cases q) (by show ¬ (i < 0 ∨ (arrV _ _ _).slots.size ≤ _); rw [arrV_size]; exact sd_in hi0 hin) (by show (arrV _ _ _).slots[_]? = _; rw [arrV_read _ _ hin]) rfl rfl hd kk
        rcases ht with rfl | rfl | rfl
        · exact go _ rfl (sd_ty hKn 3 rfl).1
        · exact go _ rfl (sd_ty hKn 4 rfl).1
        · exact go _ rfl (sd_ty hKn 5 rfl).1
      · rcases sd_oldA h7 (sd_old hR hg h7) with ⟨-, -, -, h1⟩ | ⟨j, hj, -, -, -, h1⟩ <;> cases h1
    next => cases hv
  next => cases hv
theorem sd_upd (f : Nat → Int32) (k : Nat) (x : Int32) : (fun q => Value.int (upd f k x q)) = updV (fun q => Value.int (f q)) k (.int x) := by
  funext q
  by_cases hq : q = k
  · subst hq; simp [updV, upd]
  · simp [updV, upd, hq]
theorem sd_updL (f : Nat → Int64) (k : Nat) (x : Int64) : (fun q => Value.long (vp_updL f k x q)) = updV (fun q => Value.long (f q)) k (.long x) := by
  funext q
  by_cases hq : q = k
  · subst hq; simp [updV, vp_updL]
  · simp [updV, vp_updL, hq]
theorem sd_updQ (ρ : Nat → Nat) (f : Nat → Option Nat) (k : Nat) (x : Option Nat) : (fun q => va_rf ((va_up f k x q).map ρ)) = updV (fun q => va_rf ((f q).map ρ)) k (va_rf (x.map ρ)) := by
  funext q
  by_cases hq : q = k
  · subst hq; simp [updV, va_up]
  · simp [updV, va_up, hq]
theorem sd_iast (X : sd_X p s m args meth c g own cc) (hR : sd_R g h H) (hS : va_S (sd_A g) s.heap H locs) {a : Nat} {i x : Int32} {rest : List Value} (hd : decode cc pc = .ok (.iastore, 1)) (hv : pm_si 0 h a i x = some h1)
    (kk : ∀ (H1 : Heap) (locs1 : List Loc), sd_R g h1 H1 → va_S (sd_A g) s.heap H1 locs1 → h1.2 = h.2 → W p l e R s m args below meth c H1 locs1 cells slots Q (F0 m (pc + 1) ls rest)) : W p l e R s m args below meth c H locs cells slots Q (F0 m pc ls (.int x :: .int i :: .ref (sd_ρ g a) :: rest)) := by
  obtain ⟨hx, hb, hown, hts, -, hKn, hIm⟩ := X
  unfold pm_si at hv
  split at hv
  next t n f hg =>
    split at hv
    next hc =>
      obtain ⟨rfl, h7, hi0, hin⟩ := hc
      cases hv
      refine W.iast hx hb (sd_at hR hg h7) ((sd_ty hKn 0 rfl).1 n (fun j => .int (f j))) (fun q => by cases q) (by show ¬ (i < 0 ∨ (arrV _ _ _).slots.size ≤ _); rw [arrV_size]; exact sd_in hi0 hin) rfl rfl hd fun H1 e1 e2 e3 => ?_
      refine kk H1 _ (sd_set hR h7 ?_ e2 e3) (hS.put e2 e3 (sd_A7 h7)) rfl
      show H1[sd_ρ g a]? = some (arrV _ n (fun q => Value.int (upd f i.toNatClampNeg x q)))
      rw [e1, sd_upd]
      show some (Cell.setSlot (arrV _ _ _) _ _) = _
      rw [arrV_store]
    next => cases hv
  next => cases hv
theorem sd_narB (x : Int32) : narrow .byte (.int x) = .int (vp_nar .byte x) := rfl
theorem sd_bast (X : sd_X p s m args meth c g own cc) (hR : sd_R g h H) (hS : va_S (sd_A g) s.heap H locs) {a : Nat} {i x : Int32} {rest : List Value} (hd : decode cc pc = .ok (.bastore, 1)) (hv : pm_si 1 h a i (vp_nar .byte x) = some h1)
    (kk : ∀ (H1 : Heap) (locs1 : List Loc), sd_R g h1 H1 → va_S (sd_A g) s.heap H1 locs1 → h1.2 = h.2 → W p l e R s m args below meth c H1 locs1 cells slots Q (F0 m (pc + 1) ls rest)) : W p l e R s m args below meth c H locs cells slots Q (F0 m pc ls (.int x :: .int i :: .ref (sd_ρ g a) :: rest)) := by
  obtain ⟨hx, hb, hown, hts, -, hKn, hIm⟩ := X
  unfold pm_si at hv
  split at hv
  next t n f hg =>
    split at hv
    next hc =>
      obtain ⟨rfl, h7, hi0, hin⟩ := hc
      cases hv
      refine W.bast hx hb (sd_at hR hg h7) ((sd_ty hKn 1 rfl).1 n (fun j => .int (f j))) (fun q => by cases q) (by show ¬ (i < 0 ∨ (arrV _ _ _).slots.size ≤ _); rw [arrV_size]; exact sd_in hi0 hin) rfl rfl hd fun H1 e1 e2 e3 => ?_
      refine kk H1 _ (sd_set hR h7 ?_ e2 e3) (hS.put e2 e3 (sd_A7 h7)) rfl
      show H1[sd_ρ g a]? = some (arrV _ n (fun q => Value.int (upd f i.toNatClampNeg (vp_nar .byte x) q)))
      rw [e1, sd_upd]
      show some (Cell.setSlot (arrV _ _ _) _ _) = _
      rw [arrV_store]
      rfl
    next => cases hv
  next => cases hv
theorem sd_last (X : sd_X p s m args meth c g own cc) (hR : sd_R g h H) (hS : va_S (sd_A g) s.heap H locs) {a : Nat} {i : Int32} {x : Int64} {rest : List Value} (hd : decode cc pc = .ok (.lastore, 1)) (hv : pm_sl h a i x = some h1)
    (kk : ∀ (H1 : Heap) (locs1 : List Loc), sd_R g h1 H1 → va_S (sd_A g) s.heap H1 locs1 → h1.2 = h.2 → W p l e R s m args below meth c H1 locs1 cells slots Q (F0 m (pc + 1) ls rest)) : W p l e R s m args below meth c H locs cells slots Q (F0 m pc ls (.long x :: .int i :: .ref (sd_ρ g a) :: rest)) := by
  obtain ⟨hx, hb, hown, hts, -, hKn, hIm⟩ := X
  unfold pm_sl at hv
  split at hv
  next t n f hg =>
    split at hv
    next hc =>
      obtain ⟨rfl, h7, hi0, hin⟩ := hc
      cases hv
      refine W.last hx hb (sd_at hR hg h7) ((sd_ty hKn 2 rfl).1 n (fun j => .long (f j))) (fun q => by cases q) (by show ¬ (i < 0 ∨ (arrV _ _ _).slots.size ≤ _); rw [arrV_size]; exact sd_in hi0 hin) rfl rfl hd fun H1 e1 e2 e3 => ?_
      refine kk H1 _ (sd_set hR h7 ?_ e2 e3) (hS.put e2 e3 (sd_A7 h7)) rfl
      show H1[sd_ρ g a]? = some (arrV _ n (fun q => Value.long (vp_updL f i.toNatClampNeg x q)))
      rw [e1, sd_updL]
      show some (Cell.setSlot (arrV _ _ _) _ _) = _
      rw [arrV_store]
    next => cases hv
  next => cases hv
theorem sd_aast (X : sd_X p s m args meth c g own cc) (hR : sd_R g h H) (hS : va_S (sd_A g) s.heap H locs) {a : Nat} {i : Int32} {v : Value} {rest : List Value} (hd : decode cc pc = .ok (.aastore, 1)) (hv : pm_sq h a i v = some h1)
    (kk : ∀ (H1 : Heap) (locs1 : List Loc), sd_R g h1 H1 → va_S (sd_A g) s.heap H1 locs1 → h1.2 = h.2 → W p l e R s m args below meth c H1 locs1 cells slots Q (F0 m (pc + 1) ls rest)) : W p l e R s m args below meth c H locs cells slots Q (F0 m pc ls (sd_v (sd_ρ g) v :: .int i :: .ref (sd_ρ g a) :: rest)) := by
  obtain ⟨hx, hb, hown, hts, -, hKn, hIm⟩ := X
  unfold pm_sq at hv
  split at hv
  next t n f hg =>
    split at hv
    next hc =>
      obtain ⟨ht, h7, hi0, hin, hok⟩ := hc
      cases hv
      have hcell := sd_at hR hg h7
      have go : ∀ (E : String), ArrOfT s (sd_dA g t) (.object E) ∧ va_RA s (sd_dA g t) (.object E) → (∀ b, v = .ref b → ∃ (cn : Nat) (fs : List Value) (r : vw_C), pm_g h b = some (.inr (cn, fs)) ∧ pm_cl[cn]? = some r ∧ Cond.castable r.1 E ∈ sd_nw) →
          W p l e R s m args below meth c H locs cells slots Q (F0 m pc ls (sd_v (sd_ρ g) v :: .int i :: .ref (sd_ρ g a) :: rest)) := by
        intro E ⟨hA, hRA⟩ hcast
        have fin : ∀ x : Option Nat, pm_rN v = x → ∀ H1 : Heap, H1[sd_ρ g a]? = some (Cell.setSlot (vp_cell (sd_dA g t) (n, .inr (.inr (.inr (.inr fun j => (f j).map (sd_ρ g)))))) i.toNatClampNeg (va_rf (x.map (sd_ρ g)))) → H1.size = H.size → (∀ q, q ≠ sd_ρ g a → H1[q]? = H[q]?) → W p l e R s m args below meth c H1 (locs ++ [⟨sd_ρ g a, i.toNatClampNeg⟩]) cells slots Q (F0 m (pc + 1) ls rest) := by
          intro x hx2 H1 e1 e2 e3
          refine kk H1 _ (sd_set hR h7 ?_ e2 e3) (hS.put e2 e3 (sd_A7 h7)) rfl
          show H1[sd_ρ g a]? = some (arrV _ n (fun q => va_rf ((va_up f i.toNatClampNeg (pm_rN v) q).map (sd_ρ g))))
          rw [e1, sd_updQ, hx2]
          show some (Cell.setSlot (arrV _ _ _) _ _) = _
          rw [arrV_store]
        cases v with
        | ref b =>
          obtain ⟨cn, fs, r, hgb, hcl, hcw⟩ := hcast b rfl
          have hb7 : 7 ≤ b := by
            by_cases hb7 : 7 ≤ b
            · exact hb7
            · have hc := sd_old hR hgb hb7
              exfalso
              match b, hc with
              | 0, hc => cases hc
              | 1, hc => cases hc; simp [pm_cl] at hcl
              | 2, hc => cases hc; simp [pm_cl] at hcl
              | 3, hc => cases hc; simp [pm_cl] at hcl
              | b + 4, hc => cases hc
          obtain ⟨r', hr', cellV, g1, g2, g3, -⟩ := sd_at hR hgb hb7
          dsimp only at hr' g1 g2
          have hcls := (hKn.1.1 cn r hcl).2
          obtain ⟨kA, comp, k1, k2, k3, -⟩ := hRA
          obtain ⟨kE, hkE, -⟩ := Vm.findClass_spec k3
          obtain ⟨c0, t1, f1, f2, f3⟩ := Cond.castable_spec (va_Nw.use (A := args) rfl (hKn.2.1 _ hcw))
          cases hcls.1.symm.trans f1
          cases k3.symm.trans f2
          obtain ⟨kC, hkC, -⟩ := hcls.2
          exact W.aast hx hb hcell (fun q h => by cases h) (fun h => by cases h) k1 k2 rfl hkE ⟨hi0, by show _ < (arrV _ _ _).slots.size; rw [arrV_size]; exact hin⟩ g1 (fun q h => by rw [g3] at h; cases h) (by rw [g2]; exact hkC) (by rw [g2]; exact f3) rfl rfl hd (fin (some b) rfl)
        | null =>
          exact va_WaastN (C := E) hx hb hcell (hA n (fun j => va_rf ((f j).map (sd_ρ g)))) (fun h => by cases h) (by show ¬ (i < 0 ∨ (arrV _ _ _).slots.size ≤ _); rw [arrV_size]; exact sd_in hi0 hin) rfl rfl hd (fin none rfl)
        | _ => cases hok
      have cls : ∀ b, v = .ref b → ∃ (cn : Nat) (fs : List Value), pm_g h b = some (.inr (cn, fs)) ∧ ((t = 4 ∧ (cn = 7 ∨ cn = 8 ∨ cn = 9)) ∨ (t = 5 ∧ (cn = 10 ∨ cn = 11 ∨ cn = 12))) := by
        intro b hb2
        subst hb2
        unfold pm_ok at hok
        dsimp only at hok
        split at hok
        next cn fs hgb =>
          refine ⟨cn, fs, hgb, ?_⟩
          simpa [or_assoc] using hok
        next => cases hok
      rcases ht with rfl | rfl
      · refine go _ (sd_ty hKn 4 rfl) fun b hb2 => ?_
        obtain ⟨cn, fs, q1, q2⟩ := cls b hb2
        have q3 : cn = 7 ∨ cn = 8 ∨ cn = 9 := by rcases q2 with ⟨-, q⟩ | ⟨q, -⟩ <;> first | exact q | cases q
        have : ∃ r, pm_cl[cn]? = some r := by rcases q3 with q | q | q <;> subst q <;> exact ⟨_, rfl⟩
        obtain ⟨r, hr⟩ := this
        exact ⟨cn, fs, r, q1, hr, sd_cast4 cn r hr q3⟩
      · refine go _ (sd_ty hKn 5 rfl) fun b hb2 => ?_
        obtain ⟨cn, fs, q1, q2⟩ := cls b hb2
        have q3 : cn = 10 ∨ cn = 11 ∨ cn = 12 := by rcases q2 with ⟨q, -⟩ | ⟨-, q⟩ <;> first | exact q | cases q
        have : ∃ r, pm_cl[cn]? = some r := by rcases q3 with q | q | q <;> subst q <;> exact ⟨_, rfl⟩
        obtain ⟨r, hr⟩ := this
        exact ⟨cn, fs, r, q1, hr, sd_cast5 cn r hr q3⟩
    next => cases hv
  next => cases hv
theorem sd_alen (X : sd_X p s m args meth c g own cc) (hR : sd_R g h H) (hS : va_S (sd_A g) s.heap H locs) {a : Nat} {v : Int32} {rest : List Value} (hd : decode cc pc = .ok (.arraylength, 1)) (hv : pm_len h a = some v)
    (kk : W p l e R s m args below meth c H locs cells slots Q (F0 m (pc + 1) ls (.int v :: rest))) : W p l e R s m args below meth c H locs cells slots Q (F0 m pc ls (.ref (sd_ρ g a) :: rest)) := by
  obtain ⟨hx, hb, hown, hts, -, hKn, hIm⟩ := X
  unfold pm_len at hv
  split at hv
  next t n f hg =>
    split at hv
    next ht =>
      cases hv
      by_cases h7 : 7 ≤ a
      · have : ∃ ty, (sd_tys (sd_dA g))[t]? = some (sd_dA g t, ty) := by
          match t, ht with
          | 0, _ => exact ⟨_, rfl⟩
          | 1, _ => exact ⟨_, rfl⟩
          | 2, _ => exact ⟨_, rfl⟩
          | 3, _ => exact ⟨_, rfl⟩
          | 4, _ => exact ⟨_, rfl⟩
          | 5, _ => exact ⟨_, rfl⟩
        obtain ⟨ty, hty⟩ := this
        exact va_alen hx hb hKn.1 (sd_P1 hR hg h7) 0 t rfl hty rfl hd kk
      · rcases sd_oldA h7 (sd_old hR hg h7) with ⟨rfl, -, rfl, -⟩ | ⟨j, hj, rfl, -, rfl, -⟩
        · exact va_slen hx hb hIm.1 (Nat.lt_of_lt_of_le hIm.2.1 hIm.2.2.2.2) (Nat.not_le.mpr hIm.2.1) hS hd kk
        · rw [sd_ρV hj]
          exact va_tlen hx hb (hIm.2.2.1.1 j hj).2.2.2 hS rfl hd kk
    next => cases hv
  next => cases hv
end SDA
