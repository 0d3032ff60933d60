/-! THE PLAIN LAW: parties, the model's walk -/
set_option maxRecDepth 100000
/-- the first that will do -/
def fo (o : Nat → Bool) : Nat → Nat → Nat
  | 0, k => k
  | r + 1, k => if o k = true then k else fo o r (k + 1)
theorem fo_s {o : Nat → Bool} : ∀ (r k : Nat), k ≤ fo o r k ∧ fo o r k ≤ k + r ∧ (∀ j, k ≤ j → j < fo o r k → o j = false) ∧ (fo o r k < k + r → o (fo o r k) = true)
  | 0, k => ⟨Nat.le_refl _, Nat.le_refl _, fun j a b => absurd b (by show ¬ j < k; omega), fun h => absurd h (by show ¬ k < k + 0; omega)⟩
  | r + 1, k => by
    by_cases c : o k = true
    · rw [show fo o (r + 1) k = k from if_pos c]
      exact ⟨Nat.le_refl _, by omega, fun j a b => absurd b (by omega), fun _ => c⟩
    · rw [show fo o (r + 1) k = fo o r (k + 1) from if_neg c]
      obtain ⟨a1, a2, a3, a4⟩ := fo_s (o := o) r (k + 1)
      refine ⟨by omega, by omega, fun j b1 b2 => ?_, fun h => a4 (by omega)⟩
      by_cases e : j = k
      · rw [e]; simpa using c
      · exact a3 j (by omega) b2
section
variable {L : Nat} {xs : Nat → Int32} {z : z_T}
theorem m_cj {c : Nat → Nat} {p k : Nat} {y : z_T} (J : I_foe z) (hp1 : p < 16) (hk : k < 17) (h3 : kp z y) (C : clr z 130 y c p) : ∀ (d q n : Nat), q + d = p → d + 1 ≤ n → anyb (hit z c p k) q = false → L_X6_canJoin_2 n 105 (ii p) (ii k) (ii q) (hp L xs y) = some (if anyb (hit z c p k) p = true then .inl 0 else .inr ())
  | 0, q, n, h1, h2, hf => by
    obtain ⟨m, rfl⟩ : ∃ m, n = m + 1 := ⟨n - 1, by omega⟩
    obtain rfl : q = p := by omega
    rw [L_X6_canJoin_2, if_neg (by rw [ii_lt (by omega) (by omega)]; omega), if_neg (by rw [hf]; decide)]
  | d + 1, q, n, h1, h2, hf => by
    obtain ⟨m, rfl⟩ : ∃ m, n = m + 1 := ⟨n - 1, by omega⟩
    have hq : q < 16 := by omega
    have es : anyb (hit z c p k) (q + 1) = (anyb (hit z c p k) q || hit z c p k q) := rfl
    have e110 : y.1 110 p = z.1 10 p := (h3.2 110 p rfl).trans (J p hp1).1
    rw [L_X6_canJoin_2, if_pos (by rw [ii_lt (by omega) (by omega)]; omega)]
    simp only [zr_0, zr_1, zr_2, zr_3, zr_4, zr_5, zr_6, Option.bind_some, po_s, po_n, za_0, za_1, za_2, za_3, za_4, za_5, hp1, hq, e110, m_has (show q < 32 by omega), b01, ii_s]
    by_cases f : hb (z.1 10 p) q = true
    · obtain ⟨e1, e2⟩ := C q (by omega) (foe_t J p q hp1 f)
      simp only [f, one_ne0, Bool.false_eq_true, not_true, not_false_eq_true, Classical.not_not, ↓reduceIte, Option.bind_some, po_s, po_n, e1, ii_eq (show c q < 2147483648 by omega) (show k < 2147483648 by omega)]
      by_cases e : c q = k
      · have : anyb (hit z c p k) p = true := anyb_i.mpr ⟨q, by omega, by unfold hit; rw [f, decide_eq_true e]; rfl⟩
        rw [if_pos e, if_pos this]
      · rw [if_neg e]
        exact m_cj J hp1 hk h3 C d (q + 1) m (by omega) (by omega) (by rw [es, hf]; unfold hit; rw [decide_eq_false e, Bool.and_false]; rfl)
    · have f' : hb (z.1 10 p) q = false := by simpa using f
      simp only [f', one_ne0, Bool.false_eq_true, not_true, not_false_eq_true, Classical.not_not, ↓reduceIte, Option.bind_some, po_s, po_n]
      exact m_cj J hp1 hk h3 C d (q + 1) m (by omega) (by omega) (by rw [es, hf]; unfold hit; rw [f', Bool.false_and]; rfl)
theorem m_join {c : Nat → Nat} {p k n : Nat} {y : z_T} (J : I_foe z) (hp1 : p < 16) (hk : k < 17) (h3 : kp z y) (C : clr z 130 y c p) (hn : 20 ≤ n) : F_X6_canJoin n (hp L xs y) 105 (ii p) (ii k) = some (if okc (z.1 10 p) c p k = true then 1 else 0) := by
  have h := m_cj (L := L) (xs := xs) J hp1 hk h3 C p 0 n (by omega) (by omega) rfl
  have h : L_X6_canJoin_2 n 105 (ii p) (ii k) 0 (hp L xs y) = _ := h
  have eo : okc (z.1 10 p) c p k = !(anyb (hit z c p k) p) := rfl
  unfold F_X6_canJoin
  rw [h, eo]
  cases anyb (hit z c p k) p <;> rfl
theorem m_us' {c : Nat → Nat} {p : Nat} {y : z_T} (W : I_who z) (hp1 : p ≤ 16) (h3 : kp z y) (C : clr z 130 y c p) : ∀ (d q n : Nat), q + d = p → d + 1 ≤ n → L_X6_usedAhead_4 n 105 (ii p) (ii (us (tld z) c q)) (ii q) (hp L xs y) = some (ii (us (tld z) c p))
  | 0, q, n, h1, h2 => by
    obtain ⟨m, rfl⟩ : ∃ m, n = m + 1 := ⟨n - 1, by omega⟩
    obtain rfl : q = p := by omega
    rw [L_X6_usedAhead_4, if_neg (by rw [ii_lt (by omega) (by omega)]; omega)]
  | d + 1, q, n, h1, h2 => by
    obtain ⟨m, rfl⟩ : ∃ m, n = m + 1 := ⟨n - 1, by omega⟩
    have hq : q < 16 := by omega
    have hu : us (tld z) c q ≤ 16 := us_le (by omega) fun j hj hT => (C j (by omega) hT).2
    have ih := m_us' W hp1 h3 C d (q + 1) m (by omega) (by omega)
    have W2 : I_who y := by
      have et : tld y = tld z := h3.2 8 2 rfl
      exact ⟨by rw [et]; exact W.1, by rw [et]; exact (h3.2 105 7 rfl).trans W.2.1, by rw [show lck y = lck z from h3.2 8 3 rfl]; exact (h3.2 105 8 rfl).trans W.2.2.1, by rw [et, show lck y = lck z from h3.2 8 3 rfl]; exact W.2.2.2⟩
    rw [L_X6_usedAhead_4, if_pos (by rw [ii_lt (by omega) (by omega)]; omega)]
    simp only [zr_0, zr_1, zr_2, zr_3, zr_4, zr_5, zr_6, Option.bind_some, po_s, po_n, m_told W2, isT_ii hq, b01, show tld y = tld z from h3.2 8 2 rfl, ii_s]
    by_cases b : hb (tld z) q = true
    · obtain ⟨e1, e2⟩ := C q (by omega) b
      have es : us (tld z) c (q + 1) = mxN (us (tld z) c q) (c q + 1) := if_pos b
      rw [es] at ih
      simp only [b, one_ne0, Bool.false_eq_true, not_true, not_false_eq_true, Classical.not_not, ↓reduceIte, Option.bind_some, po_s, po_n, zr_0, zr_1, zr_2, zr_3, zr_4, zr_5, zr_6, za_0, za_1, za_2, za_3, za_4, za_5, hq, e1, ii_s, ii_lt (show c q < 2147483648 by omega) (show us (tld z) c q < 2147483648 by omega)]
      unfold mxN at ih
      by_cases e : c q < us (tld z) c q
      · rw [if_pos e]
        rw [if_neg (by omega)] at ih
        exact ih
      · rw [if_neg e]
        rw [if_pos (by omega)] at ih
        exact ih
    · have b' : hb (tld z) q = false := by simpa using b
      have es : us (tld z) c (q + 1) = us (tld z) c q := if_neg b
      rw [es] at ih
      simp only [b', one_ne0, Bool.false_eq_true, not_true, not_false_eq_true, Classical.not_not, ↓reduceIte, Option.bind_some, po_s, po_n]
      exact ih
theorem m_us {c : Nat → Nat} {p n : Nat} {y : z_T} (W : I_who z) (hp1 : p ≤ 16) (h3 : kp z y) (C : clr z 130 y c p) (hn : 20 ≤ n) : F_X6_usedAhead n (hp L xs y) 105 (ii p) = some (ii (us (tld z) c p)) := by
  have h := m_us' (L := L) (xs := xs) W hp1 h3 C p 0 n (by omega) (by omega)
  have h : L_X6_usedAhead_4 n 105 (ii p) 0 0 (hp L xs y) = _ := h
  unfold F_X6_usedAhead
  rw [h]
  rfl
theorem m_65 {c : Nat → Nat} {p l : Nat} {y : z_T} (W : I_who z) (J : I_foe z) (hp1 : p < 16) (hl : l ≤ 16) (hl1 : 1 ≤ l) (h3 : kp z y) (C : clr z 130 y c p) (hT : hb (tld z) p = true) : ∀ (r k n : Nat), k + r = l → r + 40 ≤ n → L_X6_fits_65 n 105 (ii p) (ii k) (ii (l - 1)) (hp L xs y) = some (ii (fo (okc (z.1 10 p) c p) r k))
  | 0, k, n, h1, h2 => by
    obtain ⟨m, rfl⟩ : ∃ m, n = m + 1 := ⟨n - 1, by omega⟩
    rw [L_X6_fits_65, if_pos (by rw [ii_lt (by omega) (by omega)]; omega)]
    rfl
  | r + 1, k, n, h1, h2 => by
    obtain ⟨m, rfl⟩ : ∃ m, n = m + 1 := ⟨n - 1, by omega⟩
    have W2 : I_who y := by
      have et : tld y = tld z := h3.2 8 2 rfl
      exact ⟨by rw [et]; exact W.1, by rw [et]; exact (h3.2 105 7 rfl).trans W.2.1, by rw [show lck y = lck z from h3.2 8 3 rfl]; exact (h3.2 105 8 rfl).trans W.2.2.1, by rw [et, show lck y = lck z from h3.2 8 3 rfl]; exact W.2.2.2⟩
    rw [L_X6_fits_65, if_neg (by rw [ii_lt (by omega) (by omega)]; omega)]
    simp only [zr_0, zr_1, zr_2, zr_3, zr_4, zr_5, zr_6, Option.bind_some, po_s, po_n, m_told W2, isT_ii hp1, show tld y = tld z from h3.2 8 2 rfl, hT, b01, one_ne0, Bool.false_eq_true, not_true, not_false_eq_true, Classical.not_not, ↓reduceIte, m_join J hp1 (show k < 17 by omega) h3 C (show 20 ≤ m by omega), ii_s]
    by_cases o : okc (z.1 10 p) c p k = true
    · rw [show fo (okc (z.1 10 p) c p) (r + 1) k = k from if_pos o]
      simp only [o, one_ne0, Bool.false_eq_true, not_true, not_false_eq_true, Classical.not_not, ↓reduceIte]
    · rw [show fo (okc (z.1 10 p) c p) (r + 1) k = fo (okc (z.1 10 p) c p) r (k + 1) from if_neg o]
      have o' : okc (z.1 10 p) c p k = false := by simpa using o
      simp only [o', one_ne0, Bool.false_eq_true, not_true, not_false_eq_true, Classical.not_not, ↓reduceIte]
      exact m_65 W J hp1 hl hl1 h3 C hT r (k + 1) m (by omega) (by omega)
end
