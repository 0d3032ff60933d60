/-! THE PLAIN LAW: calls, the component's walk -/
set_option maxRecDepth 100000
theorem ii_sub {m c : Nat} (h : c ≤ m) : ii m - ii c = ii (m - c) := by
  obtain ⟨e, rfl⟩ : ∃ e, m = e + c := ⟨m - c, by omega⟩
  rw [← ii_add, Int32.add_sub_cancel, Nat.add_sub_cancel]
theorem ab_ad {a b : Nat} (ha : a < 1000000) (hb' : b < 1000000) : ab (ii a - ii b) = ii (ad a b) := by
  have e : (ii a - ii b).toInt = (a : Int) - b := by
    rw [Int32.toInt_sub, ii_toInt (by omega), ii_toInt (by omega)]
    show (if ((a : Int) - b) % 4294967296 < (4294967296 + 1) / 2 then ((a : Int) - b) % 4294967296 else ((a : Int) - b) % 4294967296 - 4294967296) = _
    split <;> omega
  have e0 : (0 : Int32).toInt = 0 := rfl
  unfold ab ad
  by_cases c : a < b
  · rw [if_pos (show ii a - ii b < 0 by rw [i_lt, e, e0]; omega), if_pos c, Int32.neg_sub, ii_sub (by omega)]
  · rw [if_neg (show ¬ ii a - ii b < 0 by rw [i_lt, e, e0]; omega), if_neg c, ii_sub (by omega)]
theorem mn_ii {a b : Nat} (ha : a < 2147483648) (hb : b < 2147483648) : mn (ii a) (ii b) = ii (mnN a b) := by
  unfold mn mnN
  simp only [ii_lt hb ha]
  split <;> rfl
def hN (z : z_T) (l : Nat) : Nat := sn (by_ z (2 * l))
def dN (z : z_T) (l : Nat) : Nat := sn (by_ z (2 * l + 1))
theorem by_lt {z : z_T} {j : Nat} : sn (by_ z j) < 256 := by
  obtain ⟨u, u1, u2⟩ := byte (v := z.1 75 j)
  have u2 : by_ z j = ii u := u2
  rw [u2, sn_ii (by omega)]
  exact u1
/-- an order with one more in it -/
def insO (A : Nat → Nat) (k i : Nat) : Nat → Nat := fun a => if a < k then A a else if a = k then i else A (a - 1)
theorem srt_ins {i k : Nat} {h : Nat → Nat} {A : Nat → Nat} (S : srt i h A) (hk : k ≤ i) (h1 : k = 0 ∨ h (A (k - 1)) ≤ h i) (h2 : ∀ a, k ≤ a → a < i → h i ≤ h (A a)) : srt (i + 1) h (insO A k i) := by
  obtain ⟨s1, s2, s3, s4⟩ := S
  have lo : ∀ a, a < k → insO A k i a = A a := fun a ha => if_pos ha
  have at_ : insO A k i k = i := by
    unfold insO
    rw [if_neg (by omega), if_pos rfl]
  have hi : ∀ a, k < a → insO A k i a = A (a - 1) := fun a ha => by
    unfold insO
    rw [if_neg (by omega), if_neg (by omega)]
  refine ⟨fun a b hab hb1 => ?_, fun l hl => ?_, fun a b ha hb1 e => ?_, fun a ha => ?_⟩
  · by_cases a1 : a < k
    · rw [lo a a1]
      by_cases b1 : b < k
      · rw [lo b b1]; exact s1 a b hab (by omega)
      · by_cases b2 : b = k
        · rw [b2, at_]
          rcases h1 with h1 | h1
          · omega
          · exact Nat.le_trans (s1 a (k - 1) (by omega) (by omega)) h1
        · rw [hi b (by omega)]; exact s1 a (b - 1) (by omega) (by omega)
    · by_cases a2 : a = k
      · rw [a2, at_]
        by_cases b2 : b = k
        · rw [b2, at_]; exact Nat.le_refl _
        · rw [hi b (by omega)]; exact h2 (b - 1) (by omega) (by omega)
      · rw [hi a (by omega), hi b (by omega)]; exact s1 (a - 1) (b - 1) (by omega) (by omega)
  · by_cases e : l = i
    · exact ⟨k, by omega, by rw [at_, e]⟩
    · obtain ⟨a, a1, a2⟩ := s2 l (by omega)
      by_cases c : a < k
      · exact ⟨a, by omega, by rw [lo a c]; exact a2⟩
      · exact ⟨a + 1, by omega, by rw [hi (a + 1) (by omega)]; exact a2⟩
  · have val : ∀ a, a < i + 1 → a ≠ k → ∃ q, q < i ∧ insO A k i a = A q ∧ (a < k ∧ q = a ∨ k < a ∧ q = a - 1) := fun a ha hne => by
      by_cases c : a < k
      · exact ⟨a, by omega, lo a c, Or.inl ⟨c, rfl⟩⟩
      · exact ⟨a - 1, by omega, hi a (by omega), Or.inr ⟨by omega, rfl⟩⟩
    by_cases a2 : a = k
    · by_cases b2 : b = k
      · omega
      · obtain ⟨q, q1, q2, _⟩ := val b hb1 b2
        rw [a2, at_, q2] at e
        have := s4 q q1
        omega
    · obtain ⟨p, p1, p2, p3⟩ := val a ha a2
      by_cases b2 : b = k
      · rw [b2, at_, p2] at e
        have := s4 p p1
        omega
      · obtain ⟨q, q1, q2, q3⟩ := val b hb1 b2
        rw [p2, q2] at e
        have := s3 p q p1 q1 e
        omega
  · by_cases a1 : a < k
    · rw [lo a a1]; have := s4 a (by omega); omega
    · by_cases a2 : a = k
      · rw [a2, at_]; omega
      · rw [hi a (by omega)]; have := s4 (a - 1) (by omega); omega
section
variable {L : Nat} {xs : Nat → Int32} {z : z_T}
theorem x_fedY {y : z_T} (h3 : kp z y) {j : Nat} (hj : j < 260) : F_X0_fed (hp L xs y) 7 (ii j) = some (ii (sn (by_ z j))) := by
  rw [x_fed hj, ii_sn]
  show some (y.1 75 j &&& 255) = _
  rw [h3.2 75 j rfl]
  rfl
theorem x_s9 {i : Nat} (hi : i < 8) {A : Nat → Nat} (hA : ∀ a, a < i → A a < i) : ∀ (k n : Nat) (y : z_T), k ≤ i → k + 1 ≤ n → kp z y → (∀ a, a < k → y.1 85 a = ii (A a)) → (∀ a, k < a → a ≤ i → y.1 85 a = ii (A (a - 1))) → (∀ a, k ≤ a → a < i → hN z i ≤ hN z (A a)) →
    ∃ k' y', k' ≤ i ∧ kp z y' ∧ L_X0_sorts_9 n 7 (ii i) (ii k) (hp L xs y) = some (ii k', hp L xs y') ∧ (∀ a, a < k' → y'.1 85 a = ii (A a)) ∧ (∀ a, k' < a → a ≤ i → y'.1 85 a = ii (A (a - 1))) ∧ (∀ a, k' ≤ a → a < i → hN z i ≤ hN z (A a)) ∧ (k' = 0 ∨ hN z (A (k' - 1)) ≤ hN z i)
  | 0, n, y, h1, h2, h3, h4, h5, h6 => by
    obtain ⟨m, rfl⟩ : ∃ m, n = m + 1 := ⟨n - 1, by omega⟩
    rw [L_X0_sorts_9, if_neg (by decide)]
    exact ⟨0, y, by omega, h3, rfl, h4, h5, h6, Or.inl rfl⟩
  | k + 1, n, y, h1, h2, h3, h4, h5, h6 => by
    obtain ⟨m, rfl⟩ : ∃ m, n = m + 1 := ⟨n - 1, by omega⟩
    have hk := hA k (by omega)
    have em : ii (k + 1) + -1 = ii k := by
      rw [← ii_add, show ii 1 = 1 from rfl, Int32.add_assoc, show (1 : Int32) + -1 = 0 from rfl, Int32.add_zero]
    rw [L_X0_sorts_9, if_pos (by rw [show (0 : Int32) = ii 0 from rfl, ii_lt (by omega) (by omega)]; omega)]
    simp only [zr_0, zr_1, zr_2, zr_3, zr_4, zr_5, zr_6, Option.bind_some, po_s, po_n, ii_m1, za_0, za_1, za_2, za_3, za_4, za_5, show k < 8 by omega, h4 k (by omega), ii_2, x_fedY h3 (show 2 * A k < 260 by omega), x_fedY h3 (show 2 * i < 260 by omega), ↓reduceIte, ii_lt (show sn (by_ z (2 * i)) < 2147483648 by have := by_lt (z := z) (j := 2 * i); omega) (show sn (by_ z (2 * A k)) < 2147483648 by have := by_lt (z := z) (j := 2 * A k); omega)]
    by_cases c : sn (by_ z (2 * i)) < sn (by_ z (2 * A k))
    · have c' : hN z i < hN z (A k) := c
      simp only [c, one_ne0, Bool.false_eq_true, not_true, not_false_eq_true, Classical.not_not, ↓reduceIte, Option.bind_some, po_s, po_n, zr_0, zr_1, zr_2, zr_3, zr_4, zr_5, zr_6, za_0, za_1, za_2, za_3, za_4, za_5, show k + 1 < 8 by omega, em]
      obtain ⟨k', y', r0, r1, r2, r3, r4, r5, r6⟩ := x_s9 hi hA k m (ui y 85 (k + 1) (ii (A k))) (by omega) (by omega) (h3.ui rfl) (fun a ha => by rw [ui_b (by omega)]; exact h4 a (by omega)) (fun a a1 a2 => by
        by_cases e : a = k + 1
        · rw [e, ui_a]
          rfl
        · rw [ui_b e]
          exact h5 a (by omega) a2) (fun a a1 a2 => by
        by_cases e : a = k
        · rw [e]; omega
        · exact h6 a (by omega) a2)
      exact ⟨k', y', r0, r1, r2, r3, r4, r5, r6⟩
    · have c' : ¬ hN z i < hN z (A k) := c
      simp only [c, one_ne0, Bool.false_eq_true, not_true, not_false_eq_true, Classical.not_not, ↓reduceIte]
      exact ⟨k + 1, y, h1, h3, rfl, h4, h5, h6, Or.inr (by show hN z (A k) ≤ _; omega)⟩
theorem x_s2 {m : Nat} (hm : m ≤ 8) : ∀ (d i n : Nat) (y : z_T) (A : Nat → Nat), i + d = m → d + 40 ≤ n → kp z y → srt i (hN z) A → (∀ a, a < i → y.1 85 a = ii (A a)) →
    ∃ o y', kp z y' ∧ srt m (hN z) o ∧ (∀ a, a < m → y'.1 85 a = ii (o a)) ∧ L_X0_sorts_2 n 7 (ii m) (ii i) (hp L xs y) = some (hp L xs y')
  | 0, i, n, y, A, h1, h2, h3, h4, h5 => by
    obtain ⟨q, rfl⟩ : ∃ q, n = q + 1 := ⟨n - 1, by omega⟩
    obtain rfl : i = m := by omega
    rw [L_X0_sorts_2, if_neg (by rw [ii_lt (by omega) (by omega)]; omega)]
    exact ⟨A, y, h3, h4, h5, rfl⟩
  | d + 1, i, n, y, A, h1, h2, h3, h4, h5 => by
    obtain ⟨q, rfl⟩ : ∃ q, n = q + 1 := ⟨n - 1, by omega⟩
    obtain ⟨k', y', r0, r1, r2, r3, r4, r5, r6⟩ := x_s9 (L := L) (xs := xs) (z := z) (i := i) (by omega) h4.2.2.2 i q y (Nat.le_refl _) (by omega) h3 h5 (fun a a1 a2 => by omega) (fun a a1 a2 => by omega)
    rw [L_X0_sorts_2, if_pos (by rw [ii_lt (by omega) (by omega)]; omega), r2]
    simp only [zr_0, zr_1, zr_2, zr_3, zr_4, zr_5, zr_6, Option.bind_some, po_s, po_n, za_0, za_1, za_2, za_3, za_4, za_5, show k' < 8 by omega, ii_s]
    refine x_s2 hm d (i + 1) q (ui y' 85 k' (ii i)) (insO A k' i) (by omega) (by omega) (r1.ui rfl) (srt_ins h4 r0 r6 r5) fun a ha => ?_
    unfold insO
    by_cases a1 : a < k'
    · rw [if_pos a1, ui_b (by omega)]
      exact r3 a a1
    · rw [if_neg a1]
      by_cases a2 : a = k'
      · rw [if_pos a2, a2, ui_a]
      · rw [if_neg a2, ui_b a2]
        exact r4 a (by omega) (by omega)
theorem x_sorts {m n : Nat} (hm : m ≤ 8) {y : z_T} (h3 : kp z y) (hn : 100 ≤ n) : ∃ o y', kp z y' ∧ srt m (hN z) o ∧ (∀ a, a < m → y'.1 85 a = ii (o a)) ∧ F_X0_sorts n (hp L xs y) 7 (ii m) = some (hp L xs y') := by
  obtain ⟨o, y', r1, r2, r3, r4⟩ := x_s2 (L := L) (xs := xs) (z := z) hm m 0 n y (fun a => a) (by omega) (by omega) h3 ⟨fun a b _ hb1 => absurd hb1 (by omega), fun l hl => absurd hl (by omega), fun a b ha => absurd ha (by omega), fun a ha => absurd ha (by omega)⟩ (fun a ha => absurd ha (by omega))
  refine ⟨o, y', r1, r2, r3, ?_⟩
  have r4 : L_X0_sorts_2 n 7 (ii m) 0 (hp L xs y) = some (hp L xs y') := r4
  unfold F_X0_sorts
  rw [r4]
  rfl
end
