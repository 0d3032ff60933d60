/-! THE PLAIN LAW: parties, the component's walk -/
set_option maxRecDepth 100000
section
variable {L : Nat} {xs : Nat → Int32} {z : z_T}
/-- the told below p are at what c says -/
def clr (z : z_T) (i : Nat) (y : z_T) (c : Nat → Nat) (p : Nat) : Prop := ∀ q, q < p → hb (tld z) q = true → y.1 i q = ii (c q) ∧ c q < 16
theorem one_ne : ¬ (1 : Int32) = 0 := by decide
theorem foe_t (J : I_foe z) : ∀ p q, p < 16 → hb (z.1 10 p) q = true → hb (tld z) q = true := fun p q hp1 h => ((J p hp1).2 q h).2.2.1
def hit (z : z_T) (c : Nat → Nat) (p k q : Nat) : Bool := hb (z.1 10 p) q && decide (c q = k)
theorem x_50 {fS : pm_H → Nat → Int32 → Int32 → Int32 → Option (Int32 × pm_H)} {c : Nat → Nat} {p k : Nat} {y : z_T} (J : I_foe z) (hp1 : p < 16) (hk : k < 16) (h3 : kp z y) (C : clr z 81 y c p) : ∀ (d q n : Nat), q + d = p → d + 1 ≤ n → L_X0_canParty_50 fS n 7 (ii p) (ii k) (if anyb (hit z c p k) q = true then 0 else 1) (ii q) (hp L xs y) = some (if anyb (hit z c p k) p = true then 0 else 1)
  | 0, q, n, h1, h2 => by
    obtain ⟨m, rfl⟩ : ∃ m, n = m + 1 := ⟨n - 1, by omega⟩
    obtain rfl : q = p := by omega
    rw [L_X0_canParty_50, if_neg (by rw [ii_lt (by omega) (by omega)]; omega)]
  | d + 1, q, n, h1, h2 => by
    obtain ⟨m, rfl⟩ : ∃ m, n = m + 1 := ⟨n - 1, by omega⟩
    have hq : q < 16 := by omega
    have ih := x_50 (fS := fS) J hp1 hk h3 C d (q + 1) m (by omega) (by omega)
    have es : anyb (hit z c p k) (q + 1) = (anyb (hit z c p k) q || hit z c p k q) := rfl
    rw [L_X0_canParty_50, if_pos (by rw [ii_lt (by omega) (by omega)]; omega)]
    by_cases a : anyb (hit z c p k) q = true
    · rw [es, a, Bool.true_or, if_pos rfl] at ih
      rw [if_pos a, if_pos rfl, ii_s]
      exact ih
    · have a' : anyb (hit z c p k) q = false := by simpa using a
      rw [es, a', Bool.false_or] at ih
      rw [if_neg a, if_neg (by decide)]
      simp only [zr_0, zr_1, zr_2, zr_3, zr_4, zr_5, zr_6, Option.bind_some, po_s, po_n, x_told, isT_ii hq, b01, show tld y = tld z from h3.2 8 2 rfl, ii_s]
      by_cases b : hb (tld z) q = true
      · obtain ⟨e1, e2⟩ := C q (by omega) b
        simp only [b, one_ne0, Bool.false_eq_true, not_true, not_false_eq_true, Classical.not_not, ↓reduceIte, Option.bind_some, po_s, po_n, zr_0, zr_1, zr_2, zr_3, zr_4, zr_5, zr_6, za_0, za_1, za_2, za_3, za_4, za_5, hq, hp1, e1, ii_eq (show c q < 2147483648 by omega) (show k < 2147483648 by omega), show y.1 10 p = z.1 10 p from h3.2 10 p rfl, e_has (show q < 32 by omega), b01]
        unfold hit at ih ⊢
        by_cases e : c q = k
        · by_cases f : hb (z.1 10 p) q = true
          · simp only [e, f, one_ne0, Bool.false_eq_true, not_true, not_false_eq_true, Classical.not_not, ↓reduceIte, Option.bind_some, po_s, po_n]
            rw [f, decide_eq_true e] at ih
            exact ih
          · have f' : hb (z.1 10 p) q = false := by simpa using f
            simp only [e, f', one_ne0, Bool.false_eq_true, not_true, not_false_eq_true, Classical.not_not, ↓reduceIte, Option.bind_some, po_s, po_n]
            rw [f', Bool.false_and] at ih
            exact ih
        · simp only [e, one_ne0, Bool.false_eq_true, not_true, not_false_eq_true, Classical.not_not, ↓reduceIte, Option.bind_some, po_s, po_n]
          rw [decide_eq_false e, Bool.and_false] at ih
          exact ih
      · have b' : hb (tld z) q = false := by simpa using b
        simp only [b', one_ne0, Bool.false_eq_true, not_true, not_false_eq_true, Classical.not_not, ↓reduceIte, Option.bind_some, po_s, po_n]
        have : hit z c p k q = false := by
          unfold hit
          cases e : hb (z.1 10 p) q with
          | false => rfl
          | true => exact absurd (foe_t J p q hp1 e) b
        rw [this] at ih
        exact ih
/-- what a search from p on does -/
def XC (L : Nat) (xs : Nat → Int32) (z : z_T) (M d p : Nat) (c : Nat → Nat) (u : Nat) (fS : pm_H → Nat → Int32 → Int32 → Int32 → Option (Int32 × pm_H)) (y : z_T) : Prop :=
  ∃ y', kp z y' ∧ ((∃ c', srch (tld z) (z.1 10) M d p u c = some c' ∧ fS (hp L xs y) 7 (ii p) (ii u) (ii M) = some (1, hp L xs y') ∧ clr z 81 y' c' 16) ∨ (srch (tld z) (z.1 10) M d p u c = none ∧ fS (hp L xs y) 7 (ii p) (ii u) (ii M) = some (0, hp L xs y') ∧ ∀ q, q < p → y'.1 81 q = y.1 81 q))
theorem x_32 {fS : pm_H → Nat → Int32 → Int32 → Int32 → Option (Int32 × pm_H)} {M d p u : Nat} {c : Nat → Nat} (J : I_foe z) (hp1 : p < 16) (hM : M ≤ 16) (hu : u ≤ 16) (hS : ∀ k y, k < lim M u → kp z y → clr z 81 y (updN c p k) (p + 1) → XC L xs z M d (p + 1) (updN c p k) (mxN u (k + 1)) fS y) : ∀ (r k n : Nat) (y : z_T), k + r = lim M u → r + 40 ≤ n → kp z y → clr z 81 y c p →
    ∃ y', kp z y' ∧ ((∃ c', tk (fun k => if okc (z.1 10 p) c p k = true then srch (tld z) (z.1 10) M d (p + 1) (mxN u (k + 1)) (updN c p k) else none) r k = some c' ∧ L_X0_canParty_32 fS n 7 (ii p) (ii u) (ii M) (ii k) (hp L xs y) = some (.inl (1, hp L xs y')) ∧ clr z 81 y' c' 16) ∨ (tk (fun k => if okc (z.1 10 p) c p k = true then srch (tld z) (z.1 10) M d (p + 1) (mxN u (k + 1)) (updN c p k) else none) r k = none ∧ L_X0_canParty_32 fS n 7 (ii p) (ii u) (ii M) (ii k) (hp L xs y) = some (.inr (hp L xs y')) ∧ ∀ q, q < p → y'.1 81 q = y.1 81 q))
  | 0, k, n, y, h1, h2, h3, C => by
    obtain ⟨m, rfl⟩ : ∃ m, n = m + 1 := ⟨n - 1, by omega⟩
    refine ⟨y, h3, Or.inr ⟨rfl, ?_, fun _ _ => rfl⟩⟩
    rw [L_X0_canParty_32]
    unfold lim at h1
    by_cases a : k < M
    · rw [if_pos (by rw [ii_lt (by omega) (by omega)]; exact a), if_pos]
      rw [ii_lt (by omega) (by split at h1 <;> omega)]
      split at h1 <;> omega
    · rw [if_neg (by rw [ii_lt (by split at h1 <;> omega) (by omega)]; exact a)]
  | r + 1, k, n, y, h1, h2, h3, C => by
    obtain ⟨m, rfl⟩ : ∃ m, n = m + 1 := ⟨n - 1, by omega⟩
    have hl : lim M u ≤ M ∧ lim M u ≤ u + 1 := by
      unfold lim
      split <;> omega
    have hk : k < 16 := by omega
    have C1 : ∀ y1 : z_T, (∀ q, q < p → y1.1 81 q = y.1 81 q) → clr z 81 y1 c p := fun y1 e q hq hT => by
      rw [e q hq]
      exact C q hq hT
    have C2 : clr z 81 (ui y 81 p (ii k)) (updN c p k) (p + 1) := fun q hq hT => by
      unfold updN
      by_cases e : q = p
      · rw [if_pos e, e, ui_a]
        exact ⟨rfl, hk⟩
      · rw [if_neg e, ui_b e]
        exact C q (by omega) hT
    have h50 := x_50 (L := L) (xs := xs) (fS := fS) J hp1 hk h3 C p 0 m (by omega) (by omega)
    rw [show anyb (hit z c p k) 0 = false from rfl, if_neg (by decide)] at h50
    have h50 : L_X0_canParty_50 fS m 7 (ii p) (ii k) 1 0 (hp L xs y) = _ := h50
    have eo : okc (z.1 10 p) c p k = !(anyb (hit z c p k) p) := rfl
    have em : F_J2_max (ii u) (ii (k + 1)) = some (ii (mxN u (k + 1))) := by
      rw [e_max, mx_ii (by omega) (by omega)]
      rfl
    rw [L_X0_canParty_32, if_pos (by rw [ii_lt (by omega) (by omega)]; omega), if_neg (by rw [ii_lt (by omega) (by omega)]; omega), h50]
    simp only [zr_0, zr_1, zr_2, zr_3, zr_4, zr_5, zr_6, Option.bind_some, po_s, po_n, za_0, za_1, za_2, za_3, za_4, za_5, hp1, ii_s, em, ↓reduceIte]
    have eN : okc (z.1 10 p) c p k = false → (fun k => if okc (z.1 10 p) c p k = true then srch (tld z) (z.1 10) M d (p + 1) (mxN u (k + 1)) (updN c p k) else none) k = none := fun e => if_neg (by rw [e]; decide)
    have eY : okc (z.1 10 p) c p k = true → (fun k => if okc (z.1 10 p) c p k = true then srch (tld z) (z.1 10) M d (p + 1) (mxN u (k + 1)) (updN c p k) else none) k = srch (tld z) (z.1 10) M d (p + 1) (mxN u (k + 1)) (updN c p k) := fun e => if_pos e
    by_cases a : anyb (hit z c p k) p = true
    · have eo' : okc (z.1 10 p) c p k = false := by rw [eo, a]; rfl
      rw [if_pos a, if_pos rfl, tk_n (eN eo')]
      obtain ⟨y', k1, e⟩ := x_32 J hp1 hM hu hS r (k + 1) m (ui y 81 p (ii k)) (by omega) (by omega) (h3.ui rfl) (C1 _ fun q hq => ui_b (by omega))
      exact ⟨y', k1, e.imp id fun e => ⟨e.1, e.2.1, fun q hq => (e.2.2 q hq).trans (ui_b (by omega))⟩⟩
    · have a' : anyb (hit z c p k) p = false := by simpa using a
      have eo' : okc (z.1 10 p) c p k = true := by rw [eo, a']; rfl
      rw [if_neg a, if_neg one_ne]
      obtain ⟨y1, k1, e1⟩ := hS k (ui y 81 p (ii k)) (by omega) (h3.ui rfl) C2
      rcases e1 with ⟨c', s1, s2, s3⟩ | ⟨s1, s2, s3⟩
      · refine ⟨y1, k1, Or.inl ⟨c', tk_y ((eY eo').trans s1), ?_, s3⟩⟩
        rw [s2]
        rfl
      · rw [tk_n ((eY eo').trans s1), s2]
        obtain ⟨y', k2, e⟩ := x_32 J hp1 hM hu hS r (k + 1) m y1 (by omega) (by omega) k1 (C1 _ fun q hq => (s3 q (by omega)).trans (ui_b (by omega)))
        exact ⟨y', k2, e.imp id fun e => ⟨e.1, e.2.1, fun q hq => (e.2.2 q hq).trans ((s3 q (by omega)).trans (ui_b (by omega)))⟩⟩
theorem x_cp {M : Nat} (J : I_foe z) (hM : M ≤ 16) : ∀ (d p K n : Nat) (y : z_T) (c : Nat → Nat), p + d = 16 → d + 1 ≤ K → 100 ≤ n → kp z y → clr z 81 y c p → XC L xs z M d p c (us (tld z) c p) (K_X0_canParty K n) y
  | 0, p, K, n, y, c, h1, h2, h3, h4, C => by
    obtain ⟨m, rfl⟩ : ∃ m, K = m + 1 := ⟨K - 1, by omega⟩
    obtain rfl : p = 16 := by omega
    refine ⟨y, h4, Or.inl ⟨c, rfl, ?_, C⟩⟩
    rw [K_X0_canParty, F_X0_canParty, if_pos (show ii 16 = 16 from rfl)]
  | d + 1, p, K, n, y, c, h1, h2, h3, h4, C => by
    obtain ⟨m, rfl⟩ : ∃ m, K = m + 1 := ⟨K - 1, by omega⟩
    have hp1 : p < 16 := by omega
    have hu : us (tld z) c p ≤ 16 := us_le (by omega) fun q hq hT => (C q hq hT).2
    have et : tld y = tld z := h4.2 8 2 rfl
    unfold XC
    rw [K_X0_canParty]
    unfold srch F_X0_canParty
    rw [if_neg (show ¬ ii p = 16 by rw [show (16 : Int32) = ii 16 from rfl, ii_eq (by omega) (by omega)]; omega)]
    simp only [zr_0, zr_1, zr_2, zr_3, zr_4, zr_5, zr_6, Option.bind_some, po_s, po_n, x_told, isT_ii hp1, b01, et, ii_s]
    by_cases a : hb (tld z) p = true
    · simp only [a, one_ne0, Bool.false_eq_true, not_true, not_false_eq_true, Classical.not_not, ↓reduceIte, Option.bind_some, po_s, po_n]
      obtain ⟨y', k1, e⟩ := x_32 (L := L) (xs := xs) (z := z) (fS := K_X0_canParty m n) (M := M) (d := d) (p := p) (u := us (tld z) c p) (c := c) J hp1 hM hu (fun k y1 hk k1 C1 => by
        have := x_cp J hM d (p + 1) m n y1 (updN c p k) (by omega) (by omega) h3 k1 C1
        rw [us_upd a] at this
        exact this) (lim M (us (tld z) c p)) 0 n y (by omega) (by unfold lim; split <;> omega) h4 C
      refine ⟨y', k1, e.imp (fun ⟨c', s1, s2, s3⟩ => ⟨c', s1, ?_, s3⟩) (fun ⟨s1, s2, s3⟩ => ⟨s1, ?_, s3⟩)⟩
      · have s2 : L_X0_canParty_32 (K_X0_canParty m n) n 7 (ii p) (ii (us (tld z) c p)) (ii M) 0 (hp L xs y) = some (.inl (1, hp L xs y')) := s2
        rw [s2]
        rfl
      · have s2 : L_X0_canParty_32 (K_X0_canParty m n) n 7 (ii p) (ii (us (tld z) c p)) (ii M) 0 (hp L xs y) = some (.inr (hp L xs y')) := s2
        rw [s2]
        rfl
    · have a' : hb (tld z) p = false := by simpa using a
      simp only [a', one_ne0, Bool.false_eq_true, not_true, not_false_eq_true, Classical.not_not, ↓reduceIte, Option.bind_some, po_s, po_n]
      have eu : us (tld z) c (p + 1) = us (tld z) c p := if_neg a
      have := x_cp (M := M) J hM d (p + 1) m n y c (by omega) (by omega) h3 h4 (fun q hq hT => by
        have : q ≠ p := fun e => by rw [e, a'] at hT; cases hT
        exact C q (by omega) hT)
      rw [eu] at this
      obtain ⟨y', k1, e⟩ := this
      refine ⟨y', k1, e.imp (fun ⟨c', s1, s2, s3⟩ => ⟨c', s1, ?_, s3⟩) (fun ⟨s1, s2, s3⟩ => ⟨s1, ?_, fun q hq => s3 q (by omega)⟩)⟩
      · rw [s2]
        rfl
      · rw [s2]
        rfl
end
