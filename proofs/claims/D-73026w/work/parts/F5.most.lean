/-! THE PLAIN LAW: changed, the most -/
set_option maxRecDepth 100000
def anyb (c : Nat → Bool) : Nat → Bool
  | 0 => false
  | r + 1 => anyb c r || c r
theorem anyb_i {c : Nat → Bool} : ∀ {r : Nat}, anyb c r = true ↔ ∃ h, h < r ∧ c h = true
  | 0 => ⟨fun h => (nomatch h), fun ⟨h, a, _⟩ => absurd a (by omega)⟩
  | r + 1 => by
    show (anyb c r || c r) = true ↔ _
    rw [Bool.or_eq_true, anyb_i]
    refine ⟨fun e => ?_, fun ⟨h, a, b⟩ => ?_⟩
    · rcases e with ⟨h, a, b⟩ | e
      · exact ⟨h, by omega, b⟩
      · exact ⟨r, by omega, e⟩
    · by_cases q : h = r
      · subst q; exact Or.inr b
      · exact Or.inl ⟨h, by omega, b⟩
/-- houses that some of the first i have -/
def Rb (r : Nat → Int32) (m : Nat) : Nat → Int32 → Bool
  | 0, T => decide (T = 0)
  | i + 1, T => Rb r m i T || anyb (fun h => hb T h && (hb (r i) h && Rb r m i (T &&& (bt h ^^^ (-1))))) m
/-- the component's -/
def s_Mx (M : Int32 → Nat) (r S : Int32) (k : Nat) (a : Nat) : Nat := if (hb S k && hb r k) = true then (if a < M (S &&& (bt k ^^^ (-1))) + 1 then M (S &&& (bt k ^^^ (-1))) + 1 else a) else a
def Mx (r : Nat → Int32) (m : Nat) : Nat → Int32 → Nat
  | 0, _ => 0
  | i + 1, S => lp (s_Mx (Mx r m i) (r i) S) m 0 (Mx r m i S)
theorem Mx_le {r : Nat → Int32} {m : Nat} : ∀ (i : Nat) (S : Int32), Mx r m i S ≤ i
  | 0, _ => Nat.le_refl _
  | i + 1, S => lp_inv (f := s_Mx (Mx r m i) (r i) S) (N := m) (I := fun _ a => a ≤ i + 1) (fun k a _ h => by
      unfold s_Mx
      have := Mx_le (r := r) (m := m) i (S &&& (bt k ^^^ (-1)))
      split
      · split <;> omega
      · exact h) m 0 _ (Nat.zero_add _) (by have := Mx_le (r := r) (m := m) i S; omega)
theorem Mx_R {r : Nat → Int32} {m : Nat} (hm : m ≤ 8) : ∀ (i : Nat) (S : Int32), s16 S → (∃ T, sub T S ∧ Rb r m i T = true ∧ pc T = Mx r m i S) ∧ ∀ T, sub T S → Rb r m i T = true → pc T ≤ Mx r m i S
  | 0, S, hS => ⟨⟨0, fun k hk => (by rw [hb_0] at hk; cases hk), rfl, pc_0⟩, fun T _ h => (by
      rw [show T = 0 from of_decide_eq_true h, pc_0]
      exact Nat.le_refl _)⟩
  | i + 1, S, hS => by
    have IH := Mx_R (r := r) hm i
    obtain ⟨I1, I2, I3⟩ := lp_inv (f := s_Mx (Mx r m i) (r i) S) (N := m) (I := fun k a => (∃ T, sub T S ∧ Rb r m (i + 1) T = true ∧ pc T = a) ∧ (∀ T, sub T S → Rb r m i T = true → pc T ≤ a) ∧ ∀ h, h < k → hb S h = true → hb (r i) h = true → Mx r m i (S &&& (bt h ^^^ (-1))) + 1 ≤ a) (fun k a hk I => by
      obtain ⟨⟨T, t1, t2, t3⟩, i2, i3⟩ := I
      unfold s_Mx
      by_cases c : (hb S k && hb (r i) k) = true
      · have c' := c
        rw [Bool.and_eq_true] at c'
        rw [if_pos c]
        by_cases c2 : a < Mx r m i (S &&& (bt k ^^^ (-1))) + 1
        · rw [if_pos c2]
          refine ⟨?_, fun T q1 q2 => ?_, fun h a1 a2 a3 => ?_⟩
          · obtain ⟨⟨U, u1, u2, u3⟩, _⟩ := IH (S &&& (bt k ^^^ (-1))) (s16_al hS)
            have uk : hb U k = false := by
              cases e : hb U k with
              | false => rfl
              | true =>
                have := u1 k e
                rw [hb_out (by omega)] at this
                simp at this
            have e0 := or_out (s := U) (q := k) (by omega) uk
            have hk1 : hb (U ||| bt k) k = true := by rw [hb_or, hb_bt (by omega)]; simp
            refine ⟨U ||| bt k, sub_ob (u1.tr sub_out) (by omega) c'.1, ?_, ?_⟩
            · show (Rb r m i (U ||| bt k) || anyb (fun h => hb (U ||| bt k) h && (hb (r i) h && Rb r m i ((U ||| bt k) &&& (bt h ^^^ (-1))))) m) = true
              rw [Bool.or_eq_true, anyb_i]
              refine Or.inr ⟨k, hk, ?_⟩
              rw [hk1, c'.2, e0, u2]
              rfl
            · have := pc_out (A := U ||| bt k) (j := k) (by omega) hk1
              rw [e0] at this
              omega
          · have := i2 T q1 q2
            omega
          · by_cases e : h = k
            · subst e; exact Nat.le_refl _
            · have := i3 h (by omega) a2 a3
              omega
        · rw [if_neg c2]
          refine ⟨⟨T, t1, t2, t3⟩, i2, fun h a1 a2 a3 => ?_⟩
          by_cases e : h = k
          · subst e; omega
          · exact i3 h (by omega) a2 a3
      · rw [if_neg c]
        refine ⟨⟨T, t1, t2, t3⟩, i2, fun h a1 a2 a3 => ?_⟩
        have : h ≠ k := fun e => by
          subst e
          exact c (by rw [a2, a3]; rfl)
        exact i3 h (by omega) a2 a3) m 0 (Mx r m i S) (Nat.zero_add _) (by
      obtain ⟨⟨T, t1, t2, t3⟩, i2⟩ := IH S hS
      refine ⟨⟨T, t1, ?_, t3⟩, i2, fun h a => absurd a (by omega)⟩
      show (Rb r m i T || _) = true
      rw [t2]
      rfl)
    refine ⟨I1, fun T hT hR => ?_⟩
    have hR : (Rb r m i T || anyb (fun h => hb T h && (hb (r i) h && Rb r m i (T &&& (bt h ^^^ (-1))))) m) = true := hR
    rw [Bool.or_eq_true, anyb_i] at hR
    rcases hR with hR | ⟨h, h1, h2⟩
    · exact I2 T hT hR
    · rw [Bool.and_eq_true, Bool.and_eq_true] at h2
      have hp1 := pc_out (A := T) (j := h) (by omega) h2.1
      have h3 := I3 h h1 (hT h h2.1) h2.2.1
      have h4 := (IH (S &&& (bt h ^^^ (-1))) (s16_al hS)).2 (T &&& (bt h ^^^ (-1))) (fun q hq => by
        rw [hb_out (by omega), Bool.and_eq_true] at hq
        rw [hb_out (by omega), hT q hq.1, hq.2]
        rfl) h2.2.2
      exact Nat.le_trans (by omega) h3
/-- the model's, partly laid -/
def Pb (r : Nat → Int32) (m i s k : Nat) (T : Int32) : Bool := Rb r m i T || anyb (fun h => hb T h && (hb (r i) h && (Dn s k (T &&& (bt h ^^^ (-1))) h && Rb r m i (T &&& (bt h ^^^ (-1)))))) m
theorem Pb_beg {r : Nat → Int32} {m i s : Nat} (hm : m ≤ 8) (hs : 2 ^ m ≤ s + 1) {T : Int32} (hT : sub T (full m)) : Pb r m i s 0 T = Rb r m i T := by
  unfold Pb
  have : anyb (fun h => hb T h && (hb (r i) h && (Dn s 0 (T &&& (bt h ^^^ (-1))) h && Rb r m i (T &&& (bt h ^^^ (-1)))))) m = false := by
    refine Bool.eq_false_iff.mpr fun e => ?_
    obtain ⟨h, h1, h2⟩ := anyb_i.mp e
    have h3 := (full_sub hm).mp ((sub_out (S := T) (j := h)).tr hT)
    unfold Dn at h2
    rw [decide_eq_false (show ¬ s < sn (T &&& (bt h ^^^ (-1))) by omega), decide_eq_false (show ¬ h < 0 by omega), Bool.and_false, Bool.or_false, Bool.false_and, Bool.and_false, Bool.and_false] at h2
    cases h2
  rw [this, Bool.or_false]
theorem anyb_cong {c e : Nat → Bool} : ∀ {r : Nat}, (∀ h, h < r → c h = e h) → anyb c r = anyb e r
  | 0, _ => rfl
  | r + 1, h => by
    show (anyb c r || c r) = (anyb e r || e r)
    rw [anyb_cong fun q hq => h q (by omega), h r (by omega)]
theorem Pb_end {r : Nat → Int32} {m i : Nat} (T : Int32) : Pb r m i 0 m T = Rb r m (i + 1) T := by
  unfold Pb
  show _ = (Rb r m i T || anyb (fun h => hb T h && (hb (r i) h && Rb r m i (T &&& (bt h ^^^ (-1))))) m)
  refine congrArg _ (anyb_cong fun h hh => ?_)
  have : Dn 0 m (T &&& (bt h ^^^ (-1))) h = true := by
    unfold Dn
    rw [decide_eq_true hh, Bool.and_true, ← Bool.decide_or]
    exact decide_eq_true (by omega)
  rw [this, Bool.true_and]
theorem Pb_dn {r : Nat → Int32} {m i s : Nat} (T : Int32) : Pb r m i s 0 T = Pb r m i (s + 1) m T := by
  unfold Pb
  refine congrArg _ (anyb_cong fun h hh => ?_)
  have : Dn s 0 (T &&& (bt h ^^^ (-1))) h = Dn (s + 1) m (T &&& (bt h ^^^ (-1))) h := by
    unfold Dn
    rw [decide_eq_true hh, decide_eq_false (show ¬ h < 0 by omega), Bool.and_false, Bool.or_false, Bool.and_true, ← Bool.decide_or]
    exact decide_eq_decide.mpr (by omega)
  rw [this]
theorem Pb_self {r : Nat → Int32} {m i k : Nat} {S : Int32} : Pb r m i (sn S) k S = Rb r m i S := by
  unfold Pb
  have : anyb (fun h => hb S h && (hb (r i) h && (Dn (sn S) k (S &&& (bt h ^^^ (-1))) h && Rb r m i (S &&& (bt h ^^^ (-1)))))) m = false := by
    refine Bool.eq_false_iff.mpr fun e => ?_
    obtain ⟨h, h1, h2⟩ := anyb_i.mp e
    rw [Bool.and_eq_true, Bool.and_eq_true, Bool.and_eq_true] at h2
    have h32 : h < 32 := Classical.byContradiction fun q => by rw [hb_ge (by omega)] at h2; cases h2.1
    have hne := out_ne h32 h2.1
    have hD := h2.2.2.1
    unfold Dn at hD
    rw [decide_eq_false hne, Bool.false_and, Bool.or_false] at hD
    have hlt := of_decide_eq_true hD
    have hle : sn (S &&& (bt h ^^^ (-1))) ≤ sn S := by
      show (S &&& (bt h ^^^ (-1))).toBitVec.toNat ≤ S.toBitVec.toNat
      rw [Int32.toBitVec_and, BitVec.toNat_and]
      exact Nat.and_le_left
    omega
  rw [this, Bool.or_false]
theorem Pb_no {r : Nat → Int32} {m i k : Nat} {S : Int32} (h : Rb r m i S = false ∨ hb S k = true ∨ hb (r i) k = false) (T : Int32) : Pb r m i (sn S) (k + 1) T = Pb r m i (sn S) k T := by
  unfold Pb
  refine congrArg _ (anyb_cong fun j hj => ?_)
  unfold Dn
  by_cases e : sn (T &&& (bt j ^^^ (-1))) = sn S
  · by_cases c : hb T j = true
    · have h32 : j < 32 := Classical.byContradiction fun q => by rw [hb_ge (by omega)] at c; cases c
      by_cases hj2 : j = k
      · subst hj2
        have e2 := sn_inj e
        rcases h with h | h | h
        · rw [e2, h]
          simp
        · rw [← e2, hb_out h32] at h
          simp at h
        · rw [h]
          simp
      · rw [show decide (j < k + 1) = decide (j < k) from decide_eq_decide.mpr (by omega)]
    · have c : hb T j = false := by simpa using c
      rw [c]
      rfl
  · rw [decide_eq_false e]
    rfl
theorem Pb_oth {r : Nat → Int32} {m i k : Nat} {S T : Int32} (hne : T ≠ S ||| bt k) : Pb r m i (sn S) (k + 1) T = Pb r m i (sn S) k T := by
  unfold Pb
  refine congrArg _ (anyb_cong fun j hj => ?_)
  unfold Dn
  by_cases e : sn (T &&& (bt j ^^^ (-1))) = sn S
  · by_cases c : hb T j = true
    · have h32 : j < 32 := Classical.byContradiction fun q => by rw [hb_ge (by omega)] at c; cases c
      have : j ≠ k := fun x => by
        subst x
        refine hne ?_
        rw [← sn_inj e]
        exact (out_or h32 c).symm
      rw [show decide (j < k + 1) = decide (j < k) from decide_eq_decide.mpr (by omega)]
    · have c : hb T j = false := by simpa using c
      rw [c]
      rfl
  · rw [decide_eq_false e]
    rfl
theorem Pb_at {r : Nat → Int32} {m i k : Nat} {S : Int32} (hk : k < m) (hm : m ≤ 8) (hR : Rb r m i S = true) (h1 : hb S k = false) (h2 : hb (r i) k = true) : Pb r m i (sn S) (k + 1) (S ||| bt k) = true := by
  unfold Pb
  rw [Bool.or_eq_true, anyb_i]
  refine Or.inr ⟨k, hk, ?_⟩
  unfold Dn
  rw [or_out (s := S) (q := k) (by omega) h1, hR, h2, hb_or, hb_bt (by omega)]
  simp
