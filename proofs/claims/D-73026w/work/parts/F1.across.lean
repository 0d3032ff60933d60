/-! THE PLAIN LAW: across, the component's rows -/
set_option maxRecDepth 100000
theorem pcN_s {A : Int32} {p : Nat} (h : hb A p = true) : pcN A (p + 1) = pcN A p + 1 := by
  show pcN A p + (hb A p).toNat = _
  rw [h]
  rfl
theorem pcN_n {A : Int32} {p : Nat} (h : hb A p = false) : pcN A (p + 1) = pcN A p := by
  show pcN A p + (hb A p).toNat = _
  rw [h]
  rfl
theorem pcN_up {A : Int32} : ∀ (d p : Nat), pcN A p ≤ pcN A (p + d)
  | 0, _ => Nat.le_refl _
  | d + 1, p => by
    have := pcN_up (A := A) d p
    show _ ≤ pcN A (p + d) + (hb A (p + d)).toNat
    omega
theorem pcN_lt {A : Int32} {p q : Nat} (h : hb A p = true) (hpq : p < q) : pcN A p < pcN A q := by
  have := pcN_up (A := A) (q - (p + 1)) (p + 1)
  rw [pcN_s h, show p + 1 + (q - (p + 1)) = q by omega] at this
  omega
theorem pcN_inj {A : Int32} {p q : Nat} (h1 : hb A p = true) (h2 : hb A q = true) (h : pcN A p = pcN A q) : p = q := by
  have a := fun c => pcN_lt (q := q) h1 c
  have b := fun c => pcN_lt (q := p) h2 c
  by_cases c : p < q
  · have := a c; omega
  · by_cases c2 : q < p
    · have := b c2; omega
    · omega
theorem pcN_at {A : Int32} {j : Nat} : ∀ r, j < pcN A r → ∃ q, q < r ∧ hb A q = true ∧ pcN A q = j
  | 0, h => absurd h (by show ¬ j < 0; omega)
  | r + 1, h => by
    by_cases c : hb A r = true
    · rw [pcN_s c] at h
      by_cases e : pcN A r = j
      · exact ⟨r, by omega, c, e⟩
      · obtain ⟨q, q1, q2⟩ := pcN_at (A := A) (j := j) r (by omega)
        exact ⟨q, by omega, q2⟩
    · rw [pcN_n (by simpa using c)] at h
      obtain ⟨q, q1, q2⟩ := pcN_at (A := A) (j := j) r h
      exact ⟨q, by omega, q2⟩
/-- the row of one -/
def s_rw (B f : Int32) (q : Nat) (a : Int32) : Int32 := if hb B q = true then (if hb f q = true then a else a ||| bt (pcN B q)) else a
def rowf (B f : Int32) : Int32 := lp (s_rw B f) 16 0 0
theorem hb_rw {B f : Int32} {j : Nat} : ∀ r, r ≤ 16 → (hb (lp (s_rw B f) r 0 0) j = true ↔ ∃ q, q < r ∧ hb B q = true ∧ hb f q = false ∧ pcN B q = j)
  | 0, _ => ⟨fun h => (by rw [show lp (s_rw B f) 0 0 0 = 0 from rfl, hb_0] at h; cases h), fun ⟨q, h, _⟩ => absurd h (by omega)⟩
  | r + 1, hr => by
    have ih := hb_rw (B := B) (f := f) (j := j) r (by omega)
    have hb32 := pcN_le B r
    rw [lp_s, Nat.zero_add]
    generalize lp (s_rw B f) r 0 0 = a at ih
    have neg : (¬ (hb B r = true ∧ hb f r = false)) → (hb a j = true ↔ ∃ q, q < r + 1 ∧ hb B q = true ∧ hb f q = false ∧ pcN B q = j) := fun hn => by
      rw [ih]
      refine ⟨fun ⟨q, h1, h2⟩ => ⟨q, by omega, h2⟩, fun ⟨q, h1, h2, h3, h4⟩ => ⟨q, ?_, h2, h3, h4⟩⟩
      have : q ≠ r := fun e => by subst e; exact hn ⟨h2, h3⟩
      omega
    unfold s_rw
    by_cases c1 : hb B r = true
    · rw [if_pos c1]
      by_cases c2 : hb f r = true
      · rw [if_pos c2]
        exact neg fun h => by rw [c2] at h; cases h.2
      · rw [if_neg c2, hb_or, Bool.or_eq_true, hb_bt (by omega), ih]
        refine ⟨fun h => ?_, fun ⟨q, h1, h2, h3, h4⟩ => ?_⟩
        · rcases h with ⟨q, h1, h2⟩ | h
          · exact ⟨q, by omega, h2⟩
          · exact ⟨r, by omega, c1, by simpa using c2, (of_decide_eq_true h).symm⟩
        · by_cases e : q = r
          · subst e; exact Or.inr (decide_eq_true h4.symm)
          · exact Or.inl ⟨q, by omega, h2, h3, h4⟩
    · rw [if_neg c1]
      exact neg fun h => c1 h.1
theorem hb_rowf {B f : Int32} {q : Nat} (hq : q < 16) (h : hb B q = true) : hb (rowf B f) (pcN B q) = !hb f q := by
  cases e : hb f q with
  | true =>
    refine Bool.eq_false_iff.mpr fun hn => ?_
    obtain ⟨p, h1, h2, h3, h4⟩ := (hb_rw 16 (Nat.le_refl _)).mp hn
    rw [pcN_inj h2 h h4, e] at h3
    cases h3
  | false => exact (hb_rw 16 (Nat.le_refl _)).mpr ⟨q, hq, h, e, rfl⟩
section
variable {L : Nat} {xs : Nat → Int32} {z : z_T}
theorem x_86 {B : Int32} {p w : Nat} (hp1 : p < 16) (hw : w < 8) : ∀ (d q n : Nat) (y : z_T), q + d = 16 → d + 1 ≤ n → kp z y → y.1 84 w = lp (s_rw B (z.1 10 p)) q 0 0 →
    ∃ y', kp z y' ∧ L_X0_across_86 n 7 B (ii w) (ii p) (ii (pcN B q)) (ii q) (hp L xs y) = some (hp L xs y') ∧ (∀ j, j ≠ w → y'.1 84 j = y.1 84 j) ∧ y'.1 84 w = rowf B (z.1 10 p)
  | 0, q, n, y, h1, h2, h3, h4 => by
    obtain ⟨m, rfl⟩ : ∃ m, n = m + 1 := ⟨n - 1, by omega⟩
    obtain rfl : q = 16 := by omega
    rw [L_X0_across_86, if_neg (by decide)]
    exact ⟨y, h3, rfl, fun _ _ => rfl, h4⟩
  | d + 1, q, n, y, h1, h2, h3, h4 => by
    obtain ⟨m, rfl⟩ : ∃ m, n = m + 1 := ⟨n - 1, by omega⟩
    have hq : q < 16 := by omega
    have ef : y.1 10 p = z.1 10 p := h3.2 10 p rfl
    have hb32 := pcN_le B q
    have es : lp (s_rw B (z.1 10 p)) (q + 1) 0 0 = s_rw B (z.1 10 p) q (y.1 84 w) := by
      rw [lp_s, Nat.zero_add, h4]
    rw [L_X0_across_86, if_pos (lt16 hq)]
    simp only [zr_0, zr_1, zr_2, zr_3, zr_4, zr_5, zr_6, Option.bind_some, po_s, po_n, e_has (show q < 32 by omega), b01, ii_s, btd]
    by_cases c1 : hb B q = true
    · simp only [c1, one_ne0, Bool.false_eq_true, not_true, not_false_eq_true, Classical.not_not, ↓reduceIte, Option.bind_some, po_s, po_n, zr_0, zr_1, zr_2, zr_3, zr_4, zr_5, zr_6, za_0, za_1, za_2, za_3, za_4, za_5, hw, hp1, ef, e_has (show q < 32 by omega), b01, or0]
      by_cases c2 : hb (z.1 10 p) q = true
      · simp only [c2, one_ne0, Bool.false_eq_true, not_true, not_false_eq_true, Classical.not_not, ↓reduceIte, Option.bind_some, po_s, po_n]
        obtain ⟨y', r1, r2, r3, r4⟩ := x_86 (B := B) hp1 hw d (q + 1) m (ui y 84 w (y.1 84 w)) (by omega) (by omega) (h3.ui rfl) (by
          rw [ui_a, es]
          unfold s_rw
          rw [if_pos c1, if_pos c2])
        rw [pcN_s c1] at r2
        exact ⟨y', r1, r2, fun j hj => (r3 j hj).trans (ui_b hj), r4⟩
      · have c2' : hb (z.1 10 p) q = false := by simpa using c2
        simp only [c2', one_ne0, Bool.false_eq_true, not_true, not_false_eq_true, Classical.not_not, ↓reduceIte, Option.bind_some, po_s, po_n]
        obtain ⟨y', r1, r2, r3, r4⟩ := x_86 (B := B) hp1 hw d (q + 1) m (ui y 84 w (y.1 84 w ||| bt (pcN B q))) (by omega) (by omega) (h3.ui rfl) (by
          rw [ui_a, es]
          unfold s_rw
          rw [if_pos c1, if_neg c2])
        rw [pcN_s c1] at r2
        exact ⟨y', r1, r2, fun j hj => (r3 j hj).trans (ui_b hj), r4⟩
    · have c1' : hb B q = false := by simpa using c1
      simp only [c1', one_ne0, Bool.false_eq_true, not_true, not_false_eq_true, Classical.not_not, ↓reduceIte, Option.bind_some, po_s, po_n]
      obtain ⟨y', r1, r2, r3, r4⟩ := x_86 (B := B) hp1 hw d (q + 1) m y (by omega) (by omega) h3 (by
        rw [es]
        unfold s_rw
        rw [if_neg c1])
      rw [pcN_n c1'] at r2
      exact ⟨y', r1, r2, r3, r4⟩
theorem x_53 {A B : Int32} (h8 : pc A ≤ 8) : ∀ (d p n : Nat) (y : z_T), p + d = 16 → d + 60 ≤ n → kp z y → (∀ q, q < p → hb A q = true → y.1 84 (pcN A q) = rowf B (z.1 10 q)) →
    ∃ y', kp z y' ∧ L_X0_across_53 n 7 A B (ii (pcN A p)) (ii p) (hp L xs y) = some (hp L xs y') ∧ ∀ q, q < 16 → hb A q = true → y'.1 84 (pcN A q) = rowf B (z.1 10 q)
  | 0, p, n, y, h1, h2, h3, h4 => by
    obtain ⟨m, rfl⟩ : ∃ m, n = m + 1 := ⟨n - 1, by omega⟩
    obtain rfl : p = 16 := by omega
    rw [L_X0_across_53, if_neg (by decide)]
    exact ⟨y, h3, rfl, h4⟩
  | d + 1, p, n, y, h1, h2, h3, h4 => by
    obtain ⟨m, rfl⟩ : ∃ m, n = m + 1 := ⟨n - 1, by omega⟩
    have hp1 : p < 16 := by omega
    rw [L_X0_across_53, if_pos (lt16 hp1)]
    simp only [zr_0, zr_1, zr_2, zr_3, zr_4, zr_5, zr_6, Option.bind_some, po_s, po_n, e_has (show p < 32 by omega), b01, ii_s]
    by_cases c1 : hb A p = true
    · have hw : pcN A p < 8 := by
        have := pcN_lt (q := 16) c1 (by omega)
        unfold pc at h8
        omega
      obtain ⟨y1, k1, w1, w2, w3⟩ := x_86 (L := L) (xs := xs) (z := z) (B := B) hp1 hw 16 0 m (ui y 84 (pcN A p) 0) rfl (by omega) (h3.ui rfl) ui_a
      have w1 : L_X0_across_86 m 7 B (ii (pcN A p)) (ii p) 0 0 (hp L xs (ui y 84 (pcN A p) 0)) = some (hp L xs y1) := w1
      simp only [c1, one_ne0, Bool.false_eq_true, not_true, not_false_eq_true, Classical.not_not, ↓reduceIte, Option.bind_some, po_s, po_n, zr_0, zr_1, zr_2, zr_3, zr_4, zr_5, zr_6, za_0, za_1, za_2, za_3, za_4, za_5, hw, w1]
      have := x_53 (A := A) (B := B) h8 d (p + 1) m y1 (by omega) (by omega) k1 (fun q hq hA => by
        by_cases e : q = p
        · subst e; exact w3
        · have := pcN_lt (q := p) hA (by omega)
          rw [w2 _ (by omega), ui_b (by omega)]
          exact h4 q (by omega) hA)
      rw [pcN_s c1] at this
      exact this
    · have c1' : hb A p = false := by simpa using c1
      simp only [c1', one_ne0, Bool.false_eq_true, not_true, not_false_eq_true, Classical.not_not, ↓reduceIte, Option.bind_some, po_s, po_n]
      have := x_53 (A := A) (B := B) h8 d (p + 1) m y (by omega) (by omega) h3 (fun q hq hA => by
        have : q ≠ p := fun e => by rw [e, c1'] at hA; cases hA
        exact h4 q (by omega) hA)
      rw [pcN_n c1'] at this
      exact this
end
