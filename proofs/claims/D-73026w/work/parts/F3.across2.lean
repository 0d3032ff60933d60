/-! THE PLAIN LAW: across, joined -/
set_option maxRecDepth 100000
section
variable {L : Nat} {xs : Nat → Int32} {z : z_T}
theorem m_frY {y : z_T} (W : I_who z) (J : I_foe z) (h3 : kp z y) {p : Nat} (hp1 : p < 16) : F_X6_friendsOf (hp L xs y) 105 (ii p) = some (fr z p) := by
  unfold F_X6_friendsOf
  simp only [zr_0, zr_1, zr_2, zr_3, zr_4, zr_5, zr_6, Option.bind_some, po_s, po_n, za_0, za_1, za_2, za_3, za_4, za_5, hp1, show y.1 105 7 = tld z from (h3.2 105 7 rfl).trans W.2.1, show y.1 110 p = z.1 10 p from (h3.2 110 p rfl).trans (J p hp1).1]
  rfl
/-- who is which -/
def mem (r : Int32) (f : Int32) (m : Nat) (y : z_T) : Prop := ∀ j, j < m → ∃ q, q < 16 ∧ y.1 133 j = ii q ∧ hb f q = hb r j
theorem m_27 {r : Nat → Int32} {m i p : Nat} {S : Int32} (W : I_who z) (J : I_foe z) (hp1 : p < 16) (hm : m ≤ 8) (hS : sub S (full m)) (hi : pc S = i) : ∀ (d k n : Nat) (y : z_T), k + d = m → d + 1 ≤ n → kp z y → mem (r i) (fr z p) m y → (∀ T, sub T (full m) → y.1 132 (sn T) = ii (Vn r m i (sn S) k T)) →
    ∃ y', kp z y' ∧ L_X6_pairs_27 n 105 (ii p) (ii m) S (ii k) (hp L xs y) = some (hp L xs y') ∧ y'.1 133 = y.1 133 ∧ ∀ T, sub T (full m) → y'.1 132 (sn T) = ii (Vn r m i (sn S) m T)
  | 0, k, n, y, h1, h2, h3, h4, h5 => by
    obtain ⟨q, rfl⟩ : ∃ q, n = q + 1 := ⟨n - 1, by omega⟩
    obtain rfl : k = m := by omega
    rw [L_X6_pairs_27, if_neg (by rw [ii_lt (by omega) (by omega)]; omega)]
    exact ⟨y, h3, rfl, rfl, h5⟩
  | d + 1, k, n, y, h1, h2, h3, h4, h5 => by
    obtain ⟨n, rfl⟩ : ∃ q, n = q + 1 := ⟨n - 1, by omega⟩
    have hk : k < 16 := by omega
    have hkm : k < m := by omega
    have h2m := p2 hm
    have hS16 := sub16 hS (full16 hm)
    have hsn := (full_sub hm).mp hS
    obtain ⟨q, q1, q2, q3⟩ := h4 k (by omega)
    have stay : pc S ≠ i ∨ hb S k = true ∨ hb (r i) k = false → ∃ y', kp z y' ∧ L_X6_pairs_27 n 105 (ii p) (ii m) S (ii (k + 1)) (hp L xs y) = some (hp L xs y') ∧ y'.1 133 = y.1 133 ∧ ∀ T, sub T (full m) → y'.1 132 (sn T) = ii (Vn r m i (sn S) m T) := fun e =>
      m_27 W J hp1 hm hS hi d (k + 1) n y (by omega) (by omega) h3 h4 fun T hT => by
        rw [h5 T hT, Vn_no hS16 e hk]
    rw [L_X6_pairs_27, if_pos (by rw [ii_lt (by omega) (by omega)]; omega)]
    simp only [zr_0, zr_1, zr_2, zr_3, zr_4, zr_5, zr_6, Option.bind_some, po_s, po_n, m_has (show k < 32 by omega), b01, ii_s, btd]
    by_cases c1 : hb S k = true
    · simp only [c1, one_ne0, Bool.false_eq_true, not_true, not_false_eq_true, Classical.not_not, ↓reduceIte, Option.bind_some, po_s, po_n]
      exact stay (Or.inr (Or.inl c1))
    · have c1' : hb S k = false := by simpa using c1
      simp only [c1', one_ne0, Bool.false_eq_true, not_true, not_false_eq_true, Classical.not_not, ↓reduceIte, Option.bind_some, po_s, po_n, zr_0, zr_1, zr_2, zr_3, zr_4, zr_5, zr_6, za_0, za_1, za_2, za_3, za_4, za_5, show k < 8 by omega, m_frY W J h3 hp1, q2, m_has (show q < 32 by omega), b01]
      by_cases c2 : hb (fr z p) q = true
      · have hr : hb (r i) k = true := by rw [← q3]; exact c2
        have hT1 : sub (S ||| bt k) (full m) := sub_or hS fun j hj => by
          rw [hb_bt (by omega)] at hj
          rw [of_decide_eq_true hj, hb_full hm]
          exact decide_eq_true hkm
        have hT2 := (full_sub hm).mp hT1
        simp only [c2, one_ne0, Bool.false_eq_true, not_true, not_false_eq_true, Classical.not_not, ↓reduceIte, Option.bind_some, po_s, po_n, zr_0, zr_1, zr_2, zr_3, zr_4, zr_5, zr_6, ai132 (show sn S < 256 by omega), ai132 (show sn (S ||| bt k) < 256 by omega), si132 (show sn (S ||| bt k) < 256 by omega)]
        refine m_27 W J hp1 hm hS hi d (k + 1) n (ui y 132 (sn (S ||| bt k)) (y.1 132 (sn (S ||| bt k)) + y.1 132 (sn S))) (by omega) (by omega) (h3.ui rfl) (fun j hj => by rw [ui_o (by decide)]; exact h4 j hj) fun T hT => ?_
        by_cases e : sn T = sn (S ||| bt k)
        · have e' := sn_inj e
          subst e'
          rw [ui_a, h5 _ hT1, h5 _ hS, ii_add, Vn_at hS16 hkm hm hi c1' hr]
          refine congrArg ii ?_
          have : Vn r m i (sn S) k S = Cn r m i S := by
            unfold Vn
            rw [if_pos (by omega), hi]
          rw [this]
        · rw [ui_b e, h5 T hT, Vn_oth (by omega) c1' (fun x => e (by rw [x]))]
      · have c2' : hb (fr z p) q = false := by simpa using c2
        simp only [c2', one_ne0, Bool.false_eq_true, not_true, not_false_eq_true, Classical.not_not, ↓reduceIte, Option.bind_some, po_s, po_n]
        exact stay (Or.inr (Or.inr (by rw [← q3]; exact c2')))
theorem m_7 {r : Nat → Int32} {m i p : Nat} (W : I_who z) (J : I_foe z) (hp1 : p < 16) (hm : m ≤ 8) (hi : i < 16) : ∀ (s n : Nat) (y : z_T), s < 2 ^ m → s + 60 ≤ n → kp z y → mem (r i) (fr z p) m y → (∀ T, sub T (full m) → y.1 132 (sn T) = ii (Vn r m i s 0 T)) →
    ∃ y', kp z y' ∧ L_X6_pairs_7 n 105 (ii p) (ii m) (ii i) (ii s) (hp L xs y) = some (hp L xs y') ∧ y'.1 133 = y.1 133 ∧ ∀ T, sub T (full m) → y'.1 132 (sn T) = ii (Vn r m i 0 m T)
  | s, n, y, h1, h2, h3, h4, h5 => by
    obtain ⟨n, rfl⟩ : ∃ q, n = q + 1 := ⟨n - 1, by omega⟩
    have h2m := p2 hm
    have hsn : sn (ii s) = s := sn_ii (by omega)
    have hS : sub (ii s) (full m) := (full_sub hm).mpr (by omega)
    have hS16 := sub16 hS (full16 hm)
    have hps := pc_le (ii s)
    have next : ∃ y1, kp z y1 ∧ y1.1 133 = y.1 133 ∧ (∀ T, sub T (full m) → y1.1 132 (sn T) = ii (Vn r m i s m T)) ∧ L_X6_pairs_7 (n + 1) 105 (ii p) (ii m) (ii i) (ii s) (hp L xs y) = L_X6_pairs_7 n 105 (ii p) (ii m) (ii i) (ii s + -1) (hp L xs y1) := by
      rw [L_X6_pairs_7, if_neg (ii_nn (by omega)), m_bits (by omega), Option.bind_some]
      by_cases c : pc (ii s) = i
      · obtain ⟨y1, k1, w1, w2, w3⟩ := m_27 (L := L) (xs := xs) (z := z) (r := r) W J hp1 hm hS c m 0 n y (by omega) (by omega) h3 h4 (by rw [hsn]; exact h5)
        have w1 : L_X6_pairs_27 n 105 (ii p) (ii m) (ii s) 0 (hp L xs y) = some (hp L xs y1) := w1
        rw [if_pos (by rw [c]), w1]
        rw [hsn] at w3
        exact ⟨y1, k1, w2, w3, rfl⟩
      · rw [if_neg (by rw [ii_eq (by omega) (by omega)]; exact c)]
        refine ⟨y, h3, rfl, fun T hT => ?_, rfl⟩
        have all : ∀ k, k ≤ m → Vn r m i (sn (ii s)) k T = Vn r m i (sn (ii s)) 0 T := fun k => by
          induction k with
          | zero => exact fun _ => rfl
          | succ k ih => exact fun hk => (Vn_no hS16 (Or.inl c) (by omega) T).trans (ih (by omega))
        have := all m (Nat.le_refl _)
        rw [hsn] at this
        rw [this]
        exact h5 T hT
    obtain ⟨y1, k1, w2, w3, e⟩ := next
    rw [e]
    match s, h1, h2, w3 with
    | 0, h1, h2, w3 =>
      obtain ⟨q, rfl⟩ : ∃ q, n = q + 1 := ⟨n - 1, by omega⟩
      rw [L_X6_pairs_7, if_pos (by decide)]
      exact ⟨y1, k1, rfl, w2, w3⟩
    | s + 1, h1, h2, w3 =>
      have em : ii (s + 1) + -1 = ii s := by
        rw [← ii_add, show ii 1 = 1 from rfl, Int32.add_assoc, show (1 : Int32) + -1 = 0 from rfl, Int32.add_zero]
      rw [em]
      obtain ⟨y', r1, r2, r3, r4⟩ := m_7 (r := r) (i := i) W J hp1 hm hi s n y1 (by omega) (by omega) k1 (by intro j hj; rw [w2]; exact h4 j hj) (fun T hT => by rw [w3 T hT, Vn_dn])
      exact ⟨y', r1, r2, r3.trans w2, r4⟩
theorem m_pairs {r : Nat → Int32} {m i p n : Nat} (W : I_who z) (J : I_foe z) (hp1 : p < 16) (hm : m ≤ 8) (hi : i < 16) {y : z_T} (hn : 400 ≤ n) (h3 : kp z y) (h4 : mem (r i) (fr z p) m y) (h5 : ∀ T, sub T (full m) → y.1 132 (sn T) = ii (if pc T ≤ i then Cn r m (pc T) T else 0)) :
    ∃ y', kp z y' ∧ F_X6_pairs n (hp L xs y) 105 (ii p) (ii m) (ii i) = some (hp L xs y') ∧ y'.1 133 = y.1 133 ∧ ∀ T, sub T (full m) → y'.1 132 (sn T) = ii (if pc T ≤ i + 1 then Cn r m (pc T) T else 0) := by
  have h2m := p2 hm
  obtain ⟨y', r1, r2, r3, r4⟩ := m_7 (L := L) (xs := xs) (r := r) (i := i) W J hp1 hm hi (2 ^ m - 1) n y (by omega) (by omega) h3 h4 (fun T hT => by rw [h5 T hT, Vn_beg hm (by omega) hT])
  refine ⟨y', r1, ?_, r3, fun T hT => by rw [r4 T hT, Vn_end hm hT]⟩
  have ef : pm_shl 1 (ii m) - 1 = full m := by
    have : ∀ m, m < 9 → pm_shl 1 (ii m) - 1 = ii (2 ^ m - 1) := by decide
    exact this m (by omega)
  unfold F_X6_pairs
  rw [ef, show full m = ii (2 ^ m - 1) from rfl, r2]
  rfl
end
