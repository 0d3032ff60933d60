/-! THE PLAIN LAW: parties, joined -/
set_option maxRecDepth 100000
def cst : Nat → Nat
  | 0 => 1
  | d + 1 => 18 * (cst d + 2) + 60
section
variable {L : Nat} {xs : Nat → Int32} {z : z_T}
/-- what the model's search from p on does -/
def QM (L : Nat) (xs : Nat → Int32) (z : z_T) (M p n C : Nat) (s : Option (Nat → Nat)) (y : z_T) : Prop :=
  (∃ c' y', s = some c' ∧ L_X6_fits_9 n 105 (ii M) (ii p) (hp L xs y) = some (16, hp L xs y') ∧ kp z y' ∧ clr z 130 y' c' 16) ∨ (∃ n' y', s = none ∧ n ≤ n' + C ∧ L_X6_fits_9 n 105 (ii M) (ii p) (hp L xs y) = L_X6_fits_9 n' 105 (ii M) (ii p - 1) (hp L xs y') ∧ kp z y' ∧ ∀ q, q < p → y'.1 130 q = y.1 130 q)
theorem ii_m1 {k : Nat} : ii (k + 1) - 1 = ii k := by
  rw [← ii_add, show ii 1 = 1 from rfl, Int32.add_sub_cancel]
theorem ii_p1 {k : Nat} : (ii k - 1) + 1 = ii k := by rw [Int32.sub_add_cancel]
/-- one step of the model's loop at one who is told -/
theorem m_st {M p k r n : Nat} {c : Nat → Nat} {y : z_T} (W : I_who z) (J : I_foe z) (hp1 : p < 16) (hM : M ≤ 16) (hM1 : 1 ≤ M) (h3 : kp z y) (C : clr z 130 y c p) (hT : hb (tld z) p = true) (hk : k + r = lim M (us (tld z) c p)) (hy : y.1 130 p = ii k - 1) (hn : 60 ≤ n) :
    L_X6_fits_9 (n + 1) 105 (ii M) (ii p) (hp L xs y) = if fo (okc (z.1 10 p) c p) r k = lim M (us (tld z) c p) then L_X6_fits_9 n 105 (ii M) (ii p - 1) (hp L xs y) else L_X6_fits_9 n 105 (ii M) (ii (p + 1)) (hp L xs (if p + 1 < 16 then ui (ui y 130 p (ii (fo (okc (z.1 10 p) c p) r k))) 130 (p + 1) (-1) else ui y 130 p (ii (fo (okc (z.1 10 p) c p) r k)))) := by
  have hu : us (tld z) c p ≤ 16 := us_le (by omega) fun q hq hT => (C q hq hT).2
  have hl : lim M (us (tld z) c p) ≤ M ∧ lim M (us (tld z) c p) ≤ us (tld z) c p + 1 ∧ 1 ≤ lim M (us (tld z) c p) := by
    unfold lim
    split <;> omega
  have el : ((if ii (us (tld z) c p) < ii M - 1 then some (ii (us (tld z) c p)) else some (ii M - 1)) : Option Int32) = some (ii (lim M (us (tld z) c p) - 1)) := by
    obtain ⟨m, rfl⟩ : ∃ m, M = m + 1 := ⟨M - 1, by omega⟩
    rw [ii_m1]
    simp only [ii_lt (show us (tld z) c p < 2147483648 by omega) (show m < 2147483648 by omega)]
    unfold lim
    by_cases a : us (tld z) c p < m
    · rw [if_pos a, if_neg (by omega)]
      rfl
    · rw [if_neg a]
      by_cases b : m + 1 < us (tld z) c p + 1
      · rw [if_pos b]
        rfl
      · rw [if_neg b, show us (tld z) c p + 1 = m + 1 by omega]
        rfl
  have W2 : I_who y := by
    have et : tld y = tld z := h3.2 8 2 rfl
    exact ⟨by rw [et]; exact W.1, by rw [et]; exact (h3.2 105 7 rfl).trans W.2.1, by rw [show lck y = lck z from h3.2 8 3 rfl]; exact (h3.2 105 8 rfl).trans W.2.2.1, by rw [et, show lck y = lck z from h3.2 8 3 rfl]; exact W.2.2.2⟩
  have h65 := m_65 (L := L) (xs := xs) (c := c) (p := p) (l := lim M (us (tld z) c p)) (y := y) W J hp1 (by omega) (by omega) h3 C hT r k n hk (by omega)
  obtain ⟨f1, f2, _, _⟩ := fo_s (o := okc (z.1 10 p) c p) r k
  generalize fo (okc (z.1 10 p) c p) r k = K at h65 f1 f2 ⊢
  rw [L_X6_fits_9, if_neg (nn16 hp1), if_pos (lt16 hp1)]
  simp only [zr_0, zr_1, zr_2, zr_3, zr_4, zr_5, zr_6, Option.bind_some, po_s, po_n, za_0, za_1, za_2, za_3, za_4, za_5, hp1, m_us W (show p ≤ 16 by omega) h3 C (show 20 ≤ n by omega), m_told W2, isT_ii hp1, show tld y = tld z from h3.2 8 2 rfl, hT, b01, one_ne0, Bool.false_eq_true, not_true, not_false_eq_true, Classical.not_not, ↓reduceIte, el, hy, ii_p1, h65, ii_s, ii_lt (show lim M (us (tld z) c p) - 1 < 2147483648 by omega) (show K < 2147483648 by omega)]
  by_cases a : K = lim M (us (tld z) c p)
  · rw [if_pos a, if_pos (by omega)]
  · rw [if_neg a, if_neg (by omega)]
    by_cases b : p + 1 < 16
    · have b' : ii (p + 1) < 16 := lt16 b
      simp only [b', b, one_ne0, Bool.false_eq_true, not_true, not_false_eq_true, Classical.not_not, ↓reduceIte, Option.bind_some, po_s, po_n, zr_0, zr_1, zr_2, zr_3, zr_4, zr_5, zr_6, za_0, za_1, za_2, za_3, za_4, za_5]
    · have b' : ¬ ii (p + 1) < 16 := by
        rw [show (16 : Int32) = ii 16 from rfl, ii_lt (by omega) (by omega)]
        exact b
      simp only [b', b, one_ne0, Bool.false_eq_true, not_true, not_false_eq_true, Classical.not_not, ↓reduceIte, Option.bind_some, po_s, po_n]
theorem m_inn {M d p : Nat} {c : Nat → Nat} (W : I_who z) (J : I_foe z) (hp1 : p < 16) (hM : M ≤ 16) (hM1 : 1 ≤ M) (hT : hb (tld z) p = true) (IH : ∀ n y k, cst d ≤ n → kp z y → clr z 130 y (updN c p k) (p + 1) → (p + 1 < 16 → y.1 130 (p + 1) = -1) → QM L xs z M (p + 1) n (cst d) (srch (tld z) (z.1 10) M d (p + 1) (mxN (us (tld z) c p) (k + 1)) (updN c p k)) y) :
    ∀ (s r k n : Nat) (y : z_T), r ≤ s → k + r = lim M (us (tld z) c p) → (r + 1) * (cst d + 2) + 60 ≤ n → kp z y → clr z 130 y c p → y.1 130 p = ii k - 1 →
      QM L xs z M p n ((r + 1) * (cst d + 2)) (tk (fun k => if okc (z.1 10 p) c p k = true then srch (tld z) (z.1 10) M d (p + 1) (mxN (us (tld z) c p) (k + 1)) (updN c p k) else none) r k) y := by
  intro s
  induction s with
  | zero =>
    intro r k n y hr hk hn h3 C hy
    obtain rfl : r = 0 := by omega
    obtain ⟨n, rfl⟩ : ∃ m, n = m + 1 := ⟨n - 1, by omega⟩
    rw [Nat.zero_add, Nat.one_mul] at hn
    have st := m_st (L := L) (xs := xs) (r := 0) W J hp1 hM hM1 h3 C hT hk hy (show 60 ≤ n by omega)
    rw [if_pos (by show k = _; omega)] at st
    exact Or.inr ⟨n, y, rfl, by rw [Nat.zero_add, Nat.one_mul]; omega, st, h3, fun _ _ => rfl⟩
  | succ s ih =>
    intro r k n y hr hk hn h3 C hy
    obtain ⟨n, rfl⟩ : ∃ m, n = m + 1 := ⟨n - 1, by omega⟩
    have e0 : (r + 1) * (cst d + 2) = r * (cst d + 2) + (cst d + 2) := Nat.succ_mul _ _
    have st := m_st (L := L) (xs := xs) (r := r) W J hp1 hM hM1 h3 C hT hk hy (show 60 ≤ n by omega)
    obtain ⟨f1, f2, f3, f4⟩ := fo_s (o := okc (z.1 10 p) c p) r k
    have hlM : lim M (us (tld z) c p) ≤ M := by
      unfold lim
      split <;> omega
    generalize fo (okc (z.1 10 p) c p) r k = K at st f1 f2 f3 f4
    have gN : ∀ j, k ≤ j → j < K → (fun k => if okc (z.1 10 p) c p k = true then srch (tld z) (z.1 10) M d (p + 1) (mxN (us (tld z) c p) (k + 1)) (updN c p k) else none) j = none := fun j a b => if_neg (by rw [f3 j a b]; decide)
    by_cases a : K = lim M (us (tld z) c p)
    · rw [if_pos a] at st
      refine Or.inr ⟨n, y, tk_none fun j b1 b2 => gN j b1 (by omega), by omega, st, h3, fun _ _ => rfl⟩
    · rw [if_neg a] at st
      have hK : K < k + r := by omega
      have gK := f4 hK
      have eY : (fun k => if okc (z.1 10 p) c p k = true then srch (tld z) (z.1 10) M d (p + 1) (mxN (us (tld z) c p) (k + 1)) (updN c p k) else none) K = srch (tld z) (z.1 10) M d (p + 1) (mxN (us (tld z) c p) (K + 1)) (updN c p K) := if_pos gK
      have sk := tk_skip (g := fun k => if okc (z.1 10 p) c p k = true then srch (tld z) (z.1 10) M d (p + 1) (mxN (us (tld z) c p) (k + 1)) (updN c p k) else none) (K - k) ((r - (K - k) - 1) + 1) k (fun j b1 b2 => gN j b1 (by omega))
      rw [show K - k + ((r - (K - k) - 1) + 1) = r by omega, show k + (K - k) = K by omega] at sk
      have y2 : ∃ y2, y2 = (if p + 1 < 16 then ui (ui y 130 p (ii K)) 130 (p + 1) (-1) else ui y 130 p (ii K)) ∧ kp z y2 ∧ (∀ q, q < p → y2.1 130 q = y.1 130 q) ∧ y2.1 130 p = ii K ∧ (p + 1 < 16 → y2.1 130 (p + 1) = -1) := by
        refine ⟨_, rfl, ?_⟩
        by_cases b : p + 1 < 16
        · rw [if_pos b]
          exact ⟨(h3.ui rfl).ui rfl, fun q hq => by rw [ui_b (by omega), ui_b (by omega)], by rw [ui_b (by omega), ui_a], fun _ => ui_a⟩
        · rw [if_neg b]
          exact ⟨h3.ui rfl, fun q hq => ui_b (by omega), ui_a, fun h => absurd h b⟩
      obtain ⟨y2, e2, k2, q2, p2, n2⟩ := y2
      rw [← e2] at st
      have C2 : clr z 130 y2 (updN c p K) (p + 1) := fun q hq hT => by
        unfold updN
        by_cases e : q = p
        · rw [if_pos e, e, p2]
          exact ⟨rfl, by omega⟩
        · rw [if_neg e, q2 q (by omega)]
          exact C q (by omega) hT
      rcases IH n y2 K (by omega) k2 C2 n2 with ⟨c', y', s1, s2, s3, s4⟩ | ⟨n', y', s1, s2, s3, s4, s5⟩
      · refine Or.inl ⟨c', y', ?_, st.trans s2, s3, s4⟩
        rw [sk]
        exact tk_y (eY.trans s1)
      · rw [ii_m1] at s3
        have hm : (r - (K - k) - 1 + 1) * (cst d + 2) ≤ r * (cst d + 2) := Nat.mul_le_mul_right _ (by omega)
        have := ih (r - (K - k) - 1) (K + 1) n' y' (by omega) (by omega) (by omega) s4 (fun q hq hT => by
          rw [s5 q (by omega), q2 q hq]
          exact C q hq hT) (by rw [s5 p (by omega), p2, ii_m1])
        rw [sk, tk_n (eY.trans s1)]
        rcases this with ⟨c', y3, t1, t2, t3, t4⟩ | ⟨n3, y3, t1, t2, t3, t4, t5⟩
        · exact Or.inl ⟨c', y3, t1, (st.trans s3).trans t2, t3, t4⟩
        · exact Or.inr ⟨n3, y3, t1, by omega, (st.trans s3).trans t3, t4, fun q hq => (t5 q hq).trans ((s5 q (by omega)).trans (q2 q hq))⟩
theorem m_sub {M : Nat} (W : I_who z) (J : I_foe z) (hM : M ≤ 16) (hM1 : 1 ≤ M) : ∀ (d p n : Nat) (y : z_T) (c : Nat → Nat), p + d = 16 → cst d ≤ n → kp z y → clr z 130 y c p → (p < 16 → y.1 130 p = -1) → QM L xs z M p n (cst d) (srch (tld z) (z.1 10) M d p (us (tld z) c p) c) y
  | 0, p, n, y, c, h1, h2, h3, C, h5 => by
    have h2 : 1 ≤ n := h2
    obtain ⟨m, rfl⟩ : ∃ m, n = m + 1 := ⟨n - 1, by omega⟩
    obtain rfl : p = 16 := by omega
    refine Or.inl ⟨c, y, rfl, ?_, h3, C⟩
    rw [L_X6_fits_9, if_neg (by decide), if_neg (by decide)]
    rfl
  | d + 1, p, n, y, c, h1, h2, h3, C, h5 => by
    have hp1 : p < 16 := by omega
    have h2 : 18 * (cst d + 2) + 60 ≤ n := h2
    have hl : lim M (us (tld z) c p) ≤ 16 := by
      unfold lim
      split <;> omega
    have hy := h5 hp1
    unfold srch
    by_cases a : hb (tld z) p = true
    · rw [if_pos a]
      have hmul : (lim M (us (tld z) c p) + 1) * (cst d + 2) ≤ 18 * (cst d + 2) := Nat.mul_le_mul_right _ (by omega)
      have := m_inn (L := L) (xs := xs) (d := d) (c := c) W J hp1 hM hM1 a (fun n y k a1 a2 a3 a4 => by
        have := m_sub W J hM hM1 d (p + 1) n y (updN c p k) (by omega) a1 a2 a3 a4
        rw [us_upd a] at this
        exact this) (lim M (us (tld z) c p)) (lim M (us (tld z) c p)) 0 n y (Nat.le_refl _) (by omega) (by omega) h3 C (by rw [hy]; rfl)
      rcases this with t | ⟨n3, y3, t1, t2, t3⟩
      · exact Or.inl t
      · exact Or.inr ⟨n3, y3, t1, by show n ≤ n3 + (18 * (cst d + 2) + 60); omega, t3⟩
    · rw [if_neg a]
      obtain ⟨n, rfl⟩ : ∃ m, n = m + 1 := ⟨n - 1, by omega⟩
      have a' : hb (tld z) p = false := by simpa using a
      have W2 : ∀ {y : z_T}, kp z y → I_who y := fun {y} h3 => by
        have et : tld y = tld z := h3.2 8 2 rfl
        exact ⟨by rw [et]; exact W.1, by rw [et]; exact (h3.2 105 7 rfl).trans W.2.1, by rw [show lck y = lck z from h3.2 8 3 rfl]; exact (h3.2 105 8 rfl).trans W.2.2.1, by rw [et, show lck y = lck z from h3.2 8 3 rfl]; exact W.2.2.2⟩
      have eu : us (tld z) c (p + 1) = us (tld z) c p := if_neg a
      have h65 : ∀ (m k : Nat) (y : z_T), k < 2 → kp z y → L_X6_fits_65 (m + 1) 105 (ii p) (ii k) 0 (hp L xs y) = some (ii k) := fun m k y hk h3 => by
        rw [L_X6_fits_65]
        by_cases b : (0 : Int32) < ii k
        · rw [if_pos b]
        · rw [if_neg b]
          simp only [zr_0, zr_1, zr_2, zr_3, zr_4, zr_5, zr_6, Option.bind_some, po_s, po_n, m_told (W2 h3), isT_ii hp1, show tld y = tld z from h3.2 8 2 rfl, a', b01, one_ne0, Bool.false_eq_true, not_true, not_false_eq_true, Classical.not_not, ↓reduceIte]
      have st : L_X6_fits_9 (n + 1) 105 (ii M) (ii p) (hp L xs y) = L_X6_fits_9 n 105 (ii M) (ii (p + 1)) (hp L xs (if p + 1 < 16 then ui (ui y 130 p 0) 130 (p + 1) (-1) else ui y 130 p 0)) := by
        obtain ⟨m, rfl⟩ : ∃ m, n = m + 1 := ⟨n - 1, by omega⟩
        have e65 : L_X6_fits_65 (m + 1) 105 (ii p) (-1 + 1) 0 (hp L xs y) = some 0 := h65 m 0 y (by omega) h3
        rw [L_X6_fits_9, if_neg (nn16 hp1), if_pos (lt16 hp1)]
        simp only [zr_0, zr_1, zr_2, zr_3, zr_4, zr_5, zr_6, Option.bind_some, po_s, po_n, za_0, za_1, za_2, za_3, za_4, za_5, hp1, m_us W (show p ≤ 16 by omega) h3 C (show 20 ≤ m + 1 by omega), m_told (W2 h3), isT_ii hp1, show tld y = tld z from h3.2 8 2 rfl, a', b01, one_ne0, Bool.false_eq_true, not_true, not_false_eq_true, Classical.not_not, ↓reduceIte, hy, e65, ii_s, show ¬ (0 : Int32) < 0 by decide]
        by_cases b : p + 1 < 16
        · have b' : ii (p + 1) < 16 := lt16 b
          simp only [b', b, one_ne0, Bool.false_eq_true, not_true, not_false_eq_true, Classical.not_not, ↓reduceIte, Option.bind_some, po_s, po_n, zr_0, zr_1, zr_2, zr_3, zr_4, zr_5, zr_6, za_0, za_1, za_2, za_3, za_4, za_5]
        · have b' : ¬ ii (p + 1) < 16 := by
            rw [show (16 : Int32) = ii 16 from rfl, ii_lt (by omega) (by omega)]
            exact b
          simp only [b', b, one_ne0, Bool.false_eq_true, not_true, not_false_eq_true, Classical.not_not, ↓reduceIte, Option.bind_some, po_s, po_n]
      have y2 : ∃ y2, y2 = (if p + 1 < 16 then ui (ui y 130 p 0) 130 (p + 1) (-1) else ui y 130 p 0) ∧ kp z y2 ∧ (∀ q, q < p → y2.1 130 q = y.1 130 q) ∧ y2.1 130 p = 0 ∧ (p + 1 < 16 → y2.1 130 (p + 1) = -1) := by
        refine ⟨_, rfl, ?_⟩
        by_cases b : p + 1 < 16
        · rw [if_pos b]
          exact ⟨(h3.ui rfl).ui rfl, fun q hq => by rw [ui_b (by omega), ui_b (by omega)], by rw [ui_b (by omega), ui_a], fun _ => ui_a⟩
        · rw [if_neg b]
          exact ⟨h3.ui rfl, fun q hq => ui_b (by omega), ui_a, fun h => absurd h b⟩
      obtain ⟨y2, e2, k2, q2, p2, n2⟩ := y2
      rw [← e2] at st
      have C2 : clr z 130 y2 c (p + 1) := fun q hq hT => by
        have : q ≠ p := fun e => by rw [e, a'] at hT; cases hT
        rw [q2 q (by omega)]
        exact C q (by omega) hT
      have := m_sub W J hM hM1 d (p + 1) n y2 c (by omega) (by omega) k2 C2 n2
      rw [eu] at this
      rcases this with ⟨c', y', s1, s2, s3, s4⟩ | ⟨n', y', s1, s2, s3, s4, s5⟩
      · exact Or.inl ⟨c', y', s1, st.trans s2, s3, s4⟩
      · rw [ii_m1] at s3
        have e3 : y'.1 130 p = 0 := (s5 p (by omega)).trans p2
        have C3 : clr z 130 y' c p := fun q hq hT => by
          rw [s5 q (by omega), q2 q hq]
          exact C q hq hT
        obtain ⟨m, rfl⟩ : ∃ m, n' = m + 2 := ⟨n' - 2, by omega⟩
        have e65 : L_X6_fits_65 (m + 1) 105 (ii p) (0 + 1) 0 (hp L xs y') = some 1 := h65 m 1 y' (by omega) s4
        have st2 : L_X6_fits_9 (m + 2) 105 (ii M) (ii p) (hp L xs y') = L_X6_fits_9 (m + 1) 105 (ii M) (ii p - 1) (hp L xs y') := by
          rw [L_X6_fits_9, if_neg (nn16 hp1), if_pos (lt16 hp1)]
          simp only [zr_0, zr_1, zr_2, zr_3, zr_4, zr_5, zr_6, Option.bind_some, po_s, po_n, za_0, za_1, za_2, za_3, za_4, za_5, hp1, m_us W (show p ≤ 16 by omega) s4 C3 (show 20 ≤ m + 1 by omega), m_told (W2 s4), isT_ii hp1, show tld y' = tld z from s4.2 8 2 rfl, a', b01, one_ne0, Bool.false_eq_true, not_true, not_false_eq_true, Classical.not_not, ↓reduceIte, e3, e65, show (0 : Int32) < 1 by decide]
        refine Or.inr ⟨m + 1, y', s1, ?_, (st.trans s3).trans st2, s4, fun q hq => (s5 q (by omega)).trans (q2 q hq)⟩
        show n + 1 ≤ m + 1 + (18 * (cst d + 2) + 60)
        omega
end
