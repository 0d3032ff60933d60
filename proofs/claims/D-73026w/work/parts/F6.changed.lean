/-! THE PLAIN LAW: changed, the walks -/
set_option maxRecDepth 100000
theorem mx_ii {a b : Nat} (ha : a < 2147483648) (hb : b < 2147483648) : mx (ii a) (ii b) = ii (if a < b then b else a) := by
  unfold mx
  simp only [ii_lt ha hb]
  split <;> rfl
section
variable {L : Nat} {xs : Nat → Int32} {z : z_T}
theorem ai104 {s : Int32} (h : sn s < 256) : pm_ai 0 (hp L xs z) 104 s = some (z.1 104 (sn s)) := by
  have e := (show ∀ k, k < 256 → pm_ai 0 (hp L xs z) 104 (ii k) = some (z.1 104 k) by intro k hk; simp only [za_0, za_1, za_2, za_3, za_4, za_5, hk]) (sn s) h
  rw [ii_sn] at e
  exact e
theorem si104 {s : Int32} (h : sn s < 256) {v : Int32} : pm_si 0 (hp L xs z) 104 s v = some (hp L xs (ui z 104 (sn s) v)) := by
  have e := (show ∀ k, k < 256 → pm_si 0 (hp L xs z) 104 (ii k) v = some (hp L xs (ui z 104 k v)) by intro k hk; simp only [za_0, za_1, za_2, za_3, za_4, za_5, hk]) (sn s) h
  rw [ii_sn] at e
  exact e
theorem x_c88 {m : Nat} (hm : m ≤ 8) : ∀ (d s n : Nat) (y : z_T), s + d = 2 ^ m → d + 1 ≤ n → kp z y → (∀ T, sn T < s → y.1 104 (sn T) = 0) →
    ∃ y', kp z y' ∧ L_X0_changed_88 n 7 (ii m) (ii s) (hp L xs y) = some (hp L xs y') ∧ y'.1 84 = y.1 84 ∧ ∀ T, sn T < 2 ^ m → y'.1 104 (sn T) = 0
  | 0, s, n, y, h1, h2, h3, h4 => by
    obtain ⟨q, rfl⟩ : ∃ q, n = q + 1 := ⟨n - 1, by omega⟩
    have h2m := p2 hm
    obtain rfl : s = 2 ^ m := by omega
    rw [L_X0_changed_88, if_neg (by rw [btd, bt_eq (by omega), ii_lt (by omega) (by omega)]; omega)]
    exact ⟨y, h3, rfl, rfl, h4⟩
  | d + 1, s, n, y, h1, h2, h3, h4 => by
    obtain ⟨q, rfl⟩ : ∃ q, n = q + 1 := ⟨n - 1, by omega⟩
    have h2m := p2 hm
    have hsn : sn (ii s) = s := sn_ii (by omega)
    rw [L_X0_changed_88, if_pos (by rw [btd, bt_eq (by omega), ii_lt (by omega) (by omega)]; omega)]
    simp only [zr_0, zr_1, zr_2, zr_3, zr_4, zr_5, zr_6, Option.bind_some, po_s, po_n, si104 (show sn (ii s) < 256 by omega), ii_s]
    obtain ⟨y', r1, r2, r3, r4⟩ := x_c88 hm d (s + 1) q (ui y 104 (sn (ii s)) 0) (by omega) (by omega) (h3.ui rfl) (fun T t => by
      by_cases e : sn T = sn (ii s)
      · rw [e, ui_a]
      · rw [ui_b e]
        exact h4 T (by omega))
    exact ⟨y', r1, r2, r3.trans (ui_o (by decide)), r4⟩
theorem x_c130 {r : Nat → Int32} {m i : Nat} (hm : m ≤ 8) (hi : i < m) {S : Int32} (hS : sub S (full m)) : ∀ (d k n : Nat) (y : z_T) (a : Nat), k + d = m → d + 1 ≤ n → kp z y → y.1 84 i = r i → (∀ T, sub T (full m) → sn T < sn S → y.1 104 (sn T) = ii (Mx r m i T)) → a < 2147483648 → y.1 104 (sn S) = ii a →
    ∃ y', kp z y' ∧ L_X0_changed_130 n 7 (ii m) (ii i) S (ii k) (hp L xs y) = some (hp L xs y') ∧ y'.1 84 = y.1 84 ∧ (∀ j, j ≠ sn S → y'.1 104 j = y.1 104 j) ∧ y'.1 104 (sn S) = ii (lp (s_Mx (Mx r m i) (r i) S) d k a)
  | 0, k, n, y, a, h1, h2, h3, hr, h4, ha, h5 => by
    obtain ⟨q, rfl⟩ : ∃ q, n = q + 1 := ⟨n - 1, by omega⟩
    obtain rfl : k = m := by omega
    rw [L_X0_changed_130, if_neg (by rw [ii_lt (by omega) (by omega)]; omega)]
    exact ⟨y, h3, rfl, rfl, fun _ _ => rfl, h5⟩
  | d + 1, k, n, y, a, h1, h2, h3, hr, h4, ha, h5 => by
    obtain ⟨q, rfl⟩ : ∃ q, n = q + 1 := ⟨n - 1, by omega⟩
    have hk : k < 16 := by omega
    have hkm : k < m := by omega
    have h2m := p2 hm
    have hsn := (full_sub hm).mp hS
    have e1 : hb (S &&& r i) k = (hb S k && hb (r i) k) := hb_and _ _ _
    show ∃ y', kp z y' ∧ _ = some (hp L xs y') ∧ y'.1 84 = y.1 84 ∧ (∀ j, j ≠ sn S → y'.1 104 j = y.1 104 j) ∧ y'.1 104 (sn S) = ii (lp (s_Mx (Mx r m i) (r i) S) d (k + 1) (s_Mx (Mx r m i) (r i) S k a))
    rw [L_X0_changed_130, if_pos (by rw [ii_lt (by omega) (by omega)]; omega)]
    simp only [zr_0, zr_1, zr_2, zr_3, zr_4, zr_5, zr_6, Option.bind_some, po_s, po_n, za_0, za_1, za_2, za_3, za_4, za_5, show i < 8 by omega, hr, e_has (show k < 32 by omega), b01, e1, ii_s, btd]
    by_cases c : (hb S k && hb (r i) k) = true
    · have c' := c
      rw [Bool.and_eq_true] at c'
      have hne := out_ne (S := S) (p := k) (by omega) c'.1
      have hS16 := sub16 hS (full16 hm)
      have hlt := sn_lt2 (sub16 (sub_out (S := S) (j := k)) hS16) (sub_out (S := S) (j := k)) (fun e => hne (by rw [e]))
      have hT := h4 _ ((sub_out (S := S) (j := k)).tr hS) hlt
      have hM := Mx_le (r := r) (m := m) i (S &&& (bt k ^^^ (-1)))
      have es : s_Mx (Mx r m i) (r i) S k a = if a < Mx r m i (S &&& (bt k ^^^ (-1))) + 1 then Mx r m i (S &&& (bt k ^^^ (-1))) + 1 else a := if_pos c
      simp only [c, one_ne0, Bool.false_eq_true, not_true, not_false_eq_true, Classical.not_not, ↓reduceIte, Option.bind_some, po_s, po_n, zr_0, zr_1, zr_2, zr_3, zr_4, zr_5, zr_6, ai104 (show sn S < 256 by omega), ai104 (show sn (S &&& (bt k ^^^ (-1))) < 256 by omega), si104 (show sn S < 256 by omega), hT, h5, e_max, ii_s, mx_ii ha (show Mx r m i (S &&& (bt k ^^^ (-1))) + 1 < 2147483648 by omega), ← es]
      obtain ⟨y', r1, r2, r3, r4, r5⟩ := x_c130 (r := r) hm hi hS d (k + 1) q (ui y 104 (sn S) (ii (s_Mx (Mx r m i) (r i) S k a))) (s_Mx (Mx r m i) (r i) S k a) (by omega) (by omega) (h3.ui rfl) (by rw [ui_o (by decide)]; exact hr) (fun T t1 t2 => by
        rw [ui_b (by omega)]
        exact h4 T t1 t2) (by rw [es]; split <;> omega) ui_a
      exact ⟨y', r1, r2, r3.trans (ui_o (by decide)), fun j hj => (r4 j hj).trans (ui_b hj), r5⟩
    · have c' : (hb S k && hb (r i) k) = false := by simpa using c
      have es : s_Mx (Mx r m i) (r i) S k a = a := if_neg c
      simp only [c', one_ne0, Bool.false_eq_true, not_true, not_false_eq_true, Classical.not_not, ↓reduceIte, Option.bind_some, po_s, po_n, es]
      exact x_c130 hm hi hS d (k + 1) q y a (by omega) (by omega) h3 hr h4 ha h5
theorem x_c122 {r : Nat → Int32} {m i : Nat} (hm : m ≤ 8) (hi : i < m) : ∀ (s n : Nat) (y : z_T), s < 2 ^ m → s + 60 ≤ n → kp z y → y.1 84 i = r i → (∀ T, sub T (full m) → y.1 104 (sn T) = ii (if s < sn T then Mx r m (i + 1) T else Mx r m i T)) →
    ∃ y', kp z y' ∧ L_X0_changed_122 n 7 (ii m) (ii i) (ii s) (hp L xs y) = some (hp L xs y') ∧ y'.1 84 = y.1 84 ∧ ∀ T, sub T (full m) → y'.1 104 (sn T) = ii (if 0 < sn T then Mx r m (i + 1) T else Mx r m i T)
  | 0, n, y, h1, h2, h3, hr, h4 => by
    obtain ⟨q, rfl⟩ : ∃ q, n = q + 1 := ⟨n - 1, by omega⟩
    rw [L_X0_changed_122, if_neg (by decide)]
    exact ⟨y, h3, rfl, rfl, h4⟩
  | s + 1, n, y, h1, h2, h3, hr, h4 => by
    obtain ⟨q, rfl⟩ : ∃ q, n = q + 1 := ⟨n - 1, by omega⟩
    have h2m := p2 hm
    have hsn : sn (ii (s + 1)) = s + 1 := sn_ii (by omega)
    have hS : sub (ii (s + 1)) (full m) := (full_sub hm).mpr (by omega)
    have em : ii (s + 1) + -1 = ii s := by
      rw [← ii_add, show ii 1 = 1 from rfl, Int32.add_assoc, show (1 : Int32) + -1 = 0 from rfl, Int32.add_zero]
    have hM := Mx_le (r := r) (m := m) i (ii (s + 1))
    obtain ⟨y1, k1, w1, w2, w3, w4⟩ := x_c130 (L := L) (xs := xs) (z := z) (r := r) hm hi hS m 0 q y (Mx r m i (ii (s + 1))) (by omega) (by omega) h3 hr (fun T t1 t2 => by rw [h4 T t1, if_neg (by omega)]) (by omega) (by rw [h4 _ hS, if_neg (by omega)])
    have w1 : L_X0_changed_130 q 7 (ii m) (ii i) (ii (s + 1)) 0 (hp L xs y) = some (hp L xs y1) := w1
    have w4 : y1.1 104 (sn (ii (s + 1))) = ii (Mx r m (i + 1) (ii (s + 1))) := w4
    rw [L_X0_changed_122, if_pos (by rw [show (0 : Int32) = ii 0 from rfl, ii_lt (by omega) (by omega)]; omega), w1, Option.bind_some, em]
    obtain ⟨y', r1, r2, r3, r4⟩ := x_c122 (r := r) hm hi s q y1 (by omega) (by omega) k1 (by rw [w2]; exact hr) (fun T hT => by
      by_cases e : sn T = sn (ii (s + 1))
      · rw [e, w4, if_pos (by omega), sn_inj e]
      · rw [w3 _ e, h4 T hT]
        by_cases c : s < sn T
        · rw [if_pos c, if_pos (by omega)]
        · rw [if_neg c, if_neg (by omega)])
    exact ⟨y', r1, r2, r3.trans w2, r4⟩
theorem Mx_0 {r : Nat → Int32} {m : Nat} (i : Nat) : Mx r m (i + 1) 0 = Mx r m i 0 := lp_fx (f := s_Mx (Mx r m i) (r i) 0) (a := Mx r m i 0) (fun j => by
  unfold s_Mx
  rw [hb_0, Bool.false_and, if_neg (by decide)]) m 0
theorem x_c110 {r : Nat → Int32} {m : Nat} (hm : m ≤ 8) : ∀ (d i n : Nat) (y : z_T), i + d = m → d + 400 ≤ n → kp z y → (∀ k, k < m → y.1 84 k = r k) → (∀ T, sub T (full m) → y.1 104 (sn T) = ii (Mx r m i T)) →
    ∃ y', kp z y' ∧ L_X0_changed_110 n 7 (ii m) (ii i) (hp L xs y) = some (hp L xs y') ∧ ∀ T, sub T (full m) → y'.1 104 (sn T) = ii (Mx r m m T)
  | 0, i, n, y, h1, h2, h3, hr, h4 => by
    obtain ⟨q, rfl⟩ : ∃ q, n = q + 1 := ⟨n - 1, by omega⟩
    obtain rfl : i = m := by omega
    rw [L_X0_changed_110, if_neg (by rw [ii_lt (by omega) (by omega)]; omega)]
    exact ⟨y, h3, rfl, h4⟩
  | d + 1, i, n, y, h1, h2, h3, hr, h4 => by
    obtain ⟨q, rfl⟩ : ∃ q, n = q + 1 := ⟨n - 1, by omega⟩
    have h2m := p2 hm
    have ef : pm_shl 1 (ii m) - 1 = ii (2 ^ m - 1) := by
      have : ∀ m, m < 9 → pm_shl 1 (ii m) - 1 = ii (2 ^ m - 1) := by decide
      exact this m (by omega)
    obtain ⟨y1, k1, w1, w2, w3⟩ := x_c122 (L := L) (xs := xs) (z := z) (r := r) (i := i) hm (by omega) (2 ^ m - 1) q y (by omega) (by omega) h3 (hr i (by omega)) (fun T hT => by
      have := (full_sub hm).mp hT
      rw [h4 T hT, if_neg (by omega)])
    rw [L_X0_changed_110, if_pos (by rw [ii_lt (by omega) (by omega)]; omega), ef, w1, Option.bind_some, ii_s]
    refine x_c110 hm d (i + 1) q y1 (by omega) (by omega) k1 (fun k hk => by rw [w2]; exact hr k hk) fun T hT => ?_
    rw [w3 T hT]
    by_cases c : 0 < sn T
    · rw [if_pos c]
    · have e : T = 0 := sn_inj (by show sn T = 0; omega)
      rw [if_neg c, e, Mx_0]
end
