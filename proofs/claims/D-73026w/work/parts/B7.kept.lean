/-! THE PLAIN LAW: keep, undo -/
set_option maxRecDepth 100000
theorem tk3_s {b0 c0 o0 b1 c1 o1 : Nat} (hb : b0 + 16 ≤ b1 ∨ b1 + 16 ≤ b0) (h0 : c0 < b0 ∨ b0 + 16 ≤ c0) (h1 : c0 < b1 ∨ b1 + 16 ≤ c0) (h2 : c1 < b0 ∨ b0 + 16 ≤ c1) (hc : c0 ≠ c1) (h3 : o0 < b0 ∨ b0 + 16 ≤ o0) (h4 : o1 < b0 ∨ b0 + 16 ≤ o1) (h5 : o0 ≠ c0) (h6 : o1 ≠ c0) (h7 : o0 ≠ o1) {z : z_T} :
    (tk3 b0 c0 o0 b1 c1 o1 z).2 = z.2 ∧ ∀ i k, (tk3 b0 c0 o0 b1 c1 o1 z).1 i k = if i = o0 ∧ (k = 3 ∨ k = 4) then z.1 o1 k else if b0 ≤ i ∧ i < b0 + 16 ∧ k < 16 then z.1 (b1 + (i - b0)) k else if i = c0 ∧ k < 16 then z.1 c1 k else z.1 i k := by
  obtain ⟨e1, e2⟩ := tk2_s hb h0 h1 h2 hc (z := z) 16 (Nat.le_refl _)
  unfold tk3
  generalize lp (tk2 b0 c0 b1 c1) 16 0 z = A at e1 e2 ⊢
  refine ⟨e1, fun i k => ?_⟩
  have eo : ∀ k, A.1 o1 k = z.1 o1 k := fun k => by rw [e2, if_neg (by omega), if_neg (by omega)]
  by_cases hi : i = o0
  · subst hi
    rw [ui_i, upd, ui_o (Ne.symm h7), eo, eo, ui_i, upd]
    by_cases k4 : k = 4
    · rw [if_pos k4, if_pos ⟨rfl, Or.inr k4⟩, k4]
    · rw [if_neg k4]
      by_cases k3 : k = 3
      · rw [if_pos k3, if_pos ⟨rfl, Or.inl k3⟩, k3]
      · rw [if_neg k3, e2, if_neg (show ¬ (i = i ∧ (k = 3 ∨ k = 4)) by omega)]
  · rw [ui_o hi, ui_o hi, e2, if_neg (show ¬ (i = o0 ∧ (k = 3 ∨ k = 4)) by omega)]
theorem Inv.mk' {z z2 : z_T} (I : Inv z) (e8 : z2.1 8 = z.1 8) (e9 : z2.1 9 = z.1 9) (e10 : z2.1 10 = z.1 10) (e109 : z2.1 109 = z.1 109) (e110 : z2.1 110 = z.1 110) (h7 : z2.1 105 7 = z.1 105 7) (h8 : z2.1 105 8 = z.1 105 8) (tw : I_twn z2 17 33 15 106) (tk : I_twn z2 57 73 55 108) (tp : I_tape z2) (ik : I_isk z2) : Inv z2 := by
  have et : tld z2 = tld z := congrFun e8 2
  refine ⟨?_, ?_, ?_, tw, tk, tp, ik⟩
  · unfold I_who
    rw [et, show lck z2 = lck z from congrFun e8 3, h7, h8]
    exact I.1
  · unfold I_hou
    rw [e9, e109]
    exact I.2.1
  · unfold I_foe
    rw [e10, e110, et]
    exact I.2.2.1
/-- a town has become another one -/
theorem I_twn.to {z z2 : z_T} {b c o a b1 c1 o1 a1 : Nat} (I : I_twn z b1 c1 o1 a1) (ht : tld z2 = tld z) (ha : ∀ k, k < 274 → z2.1 a k = z.1 a1 k) (hc : ∀ k, k < 16 → z2.1 c k = z.1 c1 k) (h3 : z2.1 o 3 = z.1 o1 3) (h4 : z2.1 o 4 = z.1 o1 4) (hr : ∀ p q, p < 16 → q < 16 → z2.1 (b + p) q = z.1 (b1 + p) q) : I_twn z2 b c o a := by
  obtain ⟨h1, h2, h5, h6⟩ := I
  refine ⟨fun p hp => ?_, fun p q hp hq => ?_, ?_, ?_⟩
  · rw [ha p (by omega), hc p hp, ht]; exact h1 p hp
  · rw [ha _ (by omega), hr p q hp hq]; exact h2 p q hp hq
  · rw [ha _ (by omega), h3]; exact h5
  · rw [ha _ (by omega), h4]; exact h6
section
variable {L : Nat} {xs : Nat → Int32} {z : z_T}
theorem o_keep {n : Nat} (I : Inv z) (hn : 300 ≤ n) : Op L xs z (fun h => F_X0_keep n h 7) (fun h => F_X6_keep n h 105) := by
  obtain ⟨a1, a2⟩ := tk3_s (b0 := 57) (c0 := 73) (o0 := 55) (b1 := 17) (c1 := 33) (o1 := 15) (by omega) (by omega) (by omega) (by omega) (by omega) (by omega) (by omega) (by omega) (by omega) (by omega) (z := ui z 7 9 1)
  have hx := x_tk55_15 (L := L) (xs := xs) (z := ui z 7 9 1) (n := n) (by omega)
  generalize tk3 57 73 55 17 33 15 (ui z 7 9 1) = z1 at a1 a2 hx
  obtain ⟨b1, b2⟩ := cpy_s (i0 := 106) (j0 := 108) (by omega) (z := ui z1 105 51 1) 274
  have hm := m_cp106_108 (L := L) (xs := xs) (z := ui z1 105 51 1) (n := n) (by omega)
  generalize lp (cpy 106 108) 274 0 (ui z1 105 51 1) = z2 at b1 b2 hm
  have o7 : ∀ j, j ≠ 7 → (ui z 7 9 1).1 j = z.1 j := fun j h => ui_o h
  have o5 : ∀ j, j ≠ 105 → (ui z1 105 51 1).1 j = z1.1 j := fun j h => ui_o h
  have e1 : ∀ i, i ≠ 7 → i ≠ 55 → i ≠ 73 → ¬ (57 ≤ i ∧ i < 73) → z1.1 i = z.1 i := fun i h1 h2 h3 h4 => funext fun k => by
    rw [a2, if_neg (by omega), if_neg (by omega), if_neg (by omega), o7 i h1]
  have e2 : ∀ i, i ≠ 105 → i ≠ 108 → z2.1 i = z1.1 i := fun i h1 h2 => funext fun k => by
    rw [b2, if_neg (by omega), o5 i h1]
  have e12 : ∀ i, i ≠ 7 → i ≠ 55 → i ≠ 73 → ¬ (57 ≤ i ∧ i < 73) → i ≠ 105 → i ≠ 108 → z2.1 i = z.1 i := fun i h1 h2 h3 h4 h5 h6 => (e2 i h5 h6).trans (e1 i h1 h2 h3 h4)
  have e105 : ∀ k, k ≠ 51 → z2.1 105 k = z.1 105 k := fun k hk => by
    rw [b2, if_neg (by omega), ui_i, upd, if_neg hk, e1 105 (by omega) (by omega) (by omega) (by omega)]
  have e7 : ∀ k, k ≠ 9 → z2.1 7 k = z.1 7 k := fun k hk => by
    rw [e2 7 (by omega) (by omega), a2, if_neg (by omega), if_neg (by omega), if_neg (by omega), ui_i, upd, if_neg hk]
  have et : tld z2 = tld z := congrFun (e12 8 (by omega) (by omega) (by omega) (by omega) (by omega) (by omega)) 2
  have k272 : (272 : Int32) = ii 272 := rfl
  refine ⟨z.1 15 3, z1, z2, ?_, ?_, I.mk' (e12 8 (by omega) (by omega) (by omega) (by omega) (by omega) (by omega)) (e12 9 (by omega) (by omega) (by omega) (by omega) (by omega) (by omega)) (e12 10 (by omega) (by omega) (by omega) (by omega) (by omega) (by omega)) (e12 109 (by omega) (by omega) (by omega) (by omega) (by omega) (by omega)) (e12 110 (by omega) (by omega) (by omega) (by omega) (by omega) (by omega)) (e105 7 (by omega)) (e105 8 (by omega)) ?_ ?_ ?_ ?_, ?_, ?_⟩
  · unfold F_X0_keep
    simp only [zr_0, zr_1, zr_2, zr_3, zr_4, zr_5, zr_6, zw_0, zw_1, Option.bind_some, po_s, po_n, hx, one_ne0, Bool.false_eq_true, not_true, not_false_eq_true, Classical.not_not, ↓reduceIte, e1 15 (by omega) (by omega) (by omega) (by omega)]
  · unfold F_X6_keep
    simp only [zr_0, zr_1, zr_2, zr_3, zr_4, zr_5, zr_6, zw_0, zw_1, Option.bind_some, po_s, po_n, hm, k272, za_0, za_1, za_2, za_3, za_4, za_5, show 272 < 274 by decide, e12 106 (by omega) (by omega) (by omega) (by omega) (by omega) (by omega), I.2.2.2.1.2.2.1.1]
  · refine I.2.2.2.1.to et (fun k _ => congrFun (e12 106 (by omega) (by omega) (by omega) (by omega) (by omega) (by omega)) k) (fun k _ => congrFun (e12 33 (by omega) (by omega) (by omega) (by omega) (by omega) (by omega)) k) (congrFun (e12 15 (by omega) (by omega) (by omega) (by omega) (by omega) (by omega)) 3) (congrFun (e12 15 (by omega) (by omega) (by omega) (by omega) (by omega) (by omega)) 4) (fun p q hp hq => congrFun (e12 (17 + p) (by omega) (by omega) (by omega) (by omega) (by omega) (by omega)) q)
  · refine I.2.2.2.1.to et (fun k hk => ?_) (fun k hk => ?_) ?_ ?_ (fun p q hp hq => ?_)
    · rw [b2, if_pos ⟨rfl, hk⟩, o5 106 (by omega), e1 106 (by omega) (by omega) (by omega) (by omega)]
    · rw [e2 73 (by omega) (by omega), a2, if_neg (by omega), if_neg (by omega), if_pos ⟨rfl, hk⟩, o7 33 (by omega)]
    · rw [e2 55 (by omega) (by omega), a2, if_pos ⟨rfl, Or.inl rfl⟩, o7 15 (by omega)]
    · rw [e2 55 (by omega) (by omega), a2, if_pos ⟨rfl, Or.inr rfl⟩, o7 15 (by omega)]
    · rw [e2 (57 + p) (by omega) (by omega), a2, if_neg (by omega), if_pos (by omega), o7 _ (by omega), show 17 + (57 + p - 57) = 17 + p by omega]
  · obtain ⟨t1, t2, t3⟩ := I.2.2.2.2.2.1
    refine ⟨fun i hi => ?_, ?_, ?_⟩
    · rw [e12 113 (by omega) (by omega) (by omega) (by omega) (by omega) (by omega), e12 75 (by omega) (by omega) (by omega) (by omega) (by omega) (by omega)]
      exact t1 i hi
    · rw [e105 12 (by omega), e7 8 (by omega)]
      exact t2
    · rw [e7 8 (by omega)]
      exact t3
  · show z2.1 105 51 = z2.1 7 9
    rw [b2, if_neg (by omega), ui_i, upd, if_pos rfl, e2 7 (by omega) (by omega), a2, if_neg (by omega), if_neg (by omega), if_neg (by omega), ui_i, upd, if_pos rfl]
  · have e : z2.2 = z.2 := b1.trans (a1.trans rfl)
    refine ⟨by rw [e], fun i _ => by rw [e], by rw [e]; exact Nat.le_refl _, fun i h1 h2 => e12 i (by omega) (by omega) (by omega) (by omega) (by omega) (by omega), e105 21 (by omega)⟩
  · have e : z2.2 = z.2 := b1.trans (a1.trans rfl)
    unfold rm
    rw [e]
    exact ⟨by omega, by omega⟩
theorem o_undo {n : Nat} (I : Inv z) (hn : 300 ≤ n) : Op L xs z (fun h => F_X0_undo n h 7) (fun h => F_X6_undo n h 105) := by
  by_cases h0 : z.1 7 9 = 0
  · refine Op.no I (r := 0) ?_ ?_
    · unfold F_X0_undo
      simp only [zr_0, zr_1, zr_2, zr_3, zr_4, zr_5, zr_6, Option.bind_some, po_s, po_n, h0, one_ne0, Bool.false_eq_true, not_true, not_false_eq_true, Classical.not_not, ↓reduceIte]
    · unfold F_X6_undo
      simp only [zr_0, zr_1, zr_2, zr_3, zr_4, zr_5, zr_6, Option.bind_some, po_s, po_n, show z.1 105 51 = z.1 7 9 from I.2.2.2.2.2.2, h0, one_ne0, Bool.false_eq_true, not_true, not_false_eq_true, Classical.not_not, ↓reduceIte]
  · obtain ⟨a1, a2⟩ := tk3_s (b0 := 17) (c0 := 33) (o0 := 15) (b1 := 57) (c1 := 73) (o1 := 55) (by omega) (by omega) (by omega) (by omega) (by omega) (by omega) (by omega) (by omega) (by omega) (by omega) (z := z)
    have hx := x_tk15_55 (L := L) (xs := xs) (z := z) (n := n) (by omega)
    generalize tk3 17 33 15 57 73 55 z = z1 at a1 a2 hx
    obtain ⟨b1, b2⟩ := cpy_s (i0 := 108) (j0 := 106) (by omega) (z := z1) 274
    have hm := m_cp108_106 (L := L) (xs := xs) (z := z1) (n := n) (by omega)
    generalize lp (cpy 108 106) 274 0 z1 = z2 at b1 b2 hm
    have e1 : ∀ i, i ≠ 15 → i ≠ 33 → ¬ (17 ≤ i ∧ i < 33) → z1.1 i = z.1 i := fun i h2 h3 h4 => funext fun k => by
      rw [a2, if_neg (by omega), if_neg (by omega), if_neg (by omega)]
    have e2 : ∀ i, i ≠ 106 → z2.1 i = z1.1 i := fun i h2 => funext fun k => by
      rw [b2, if_neg (by omega)]
    have e12 : ∀ i, i ≠ 15 → i ≠ 33 → ¬ (17 ≤ i ∧ i < 33) → i ≠ 106 → z2.1 i = z.1 i := fun i h2 h3 h4 h6 => (e2 i h6).trans (e1 i h2 h3 h4)
    have et : tld z2 = tld z := congrFun (e12 8 (by omega) (by omega) (by omega) (by omega)) 2
    refine ⟨1, z1, z2, ?_, ?_, I.mk' (e12 8 (by omega) (by omega) (by omega) (by omega)) (e12 9 (by omega) (by omega) (by omega) (by omega)) (e12 10 (by omega) (by omega) (by omega) (by omega)) (e12 109 (by omega) (by omega) (by omega) (by omega)) (e12 110 (by omega) (by omega) (by omega) (by omega)) (congrFun (e12 105 (by omega) (by omega) (by omega) (by omega)) 7) (congrFun (e12 105 (by omega) (by omega) (by omega) (by omega)) 8) ?_ ?_ ?_ ?_, ?_, ?_⟩
    · unfold F_X0_undo
      simp only [zr_0, zr_1, zr_2, zr_3, zr_4, zr_5, zr_6, zw_0, zw_1, Option.bind_some, po_s, po_n, hx, h0, one_ne0, Bool.false_eq_true, not_true, not_false_eq_true, Classical.not_not, ↓reduceIte]
    · unfold F_X6_undo
      simp only [zr_0, zr_1, zr_2, zr_3, zr_4, zr_5, zr_6, zw_0, zw_1, Option.bind_some, po_s, po_n, hm, show z1.1 105 51 = z.1 7 9 from (congrFun (e1 105 (by omega) (by omega) (by omega)) 51).trans I.2.2.2.2.2.2, h0, one_ne0, Bool.false_eq_true, not_true, not_false_eq_true, Classical.not_not, ↓reduceIte]
    · refine I.2.2.2.2.1.to et (fun k hk => ?_) (fun k hk => ?_) ?_ ?_ (fun p q hp hq => ?_)
      · rw [b2, if_pos ⟨rfl, hk⟩, e1 108 (by omega) (by omega) (by omega)]
      · rw [e2 33 (by omega), a2, if_neg (by omega), if_neg (by omega), if_pos ⟨rfl, hk⟩]
      · rw [e2 15 (by omega), a2, if_pos ⟨rfl, Or.inl rfl⟩]
      · rw [e2 15 (by omega), a2, if_pos ⟨rfl, Or.inr rfl⟩]
      · rw [e2 (17 + p) (by omega), a2, if_neg (by omega), if_pos (by omega), show 57 + (17 + p - 17) = 57 + p by omega]
    · refine I.2.2.2.2.1.to et (fun k _ => congrFun (e12 108 (by omega) (by omega) (by omega) (by omega)) k) (fun k _ => congrFun (e12 73 (by omega) (by omega) (by omega) (by omega)) k) (congrFun (e12 55 (by omega) (by omega) (by omega) (by omega)) 3) (congrFun (e12 55 (by omega) (by omega) (by omega) (by omega)) 4) (fun p q hp hq => congrFun (e12 (57 + p) (by omega) (by omega) (by omega) (by omega)) q)
    · unfold I_tape
      rw [e12 113 (by omega) (by omega) (by omega) (by omega), e12 75 (by omega) (by omega) (by omega) (by omega), e12 105 (by omega) (by omega) (by omega) (by omega), e12 7 (by omega) (by omega) (by omega) (by omega)]
      exact I.2.2.2.2.2.1
    · show z2.1 105 51 = z2.1 7 9
      rw [e12 105 (by omega) (by omega) (by omega) (by omega), e12 7 (by omega) (by omega) (by omega) (by omega)]
      exact I.2.2.2.2.2.2
    · have e : z2.2 = z.2 := b1.trans a1
      refine ⟨by rw [e], fun i _ => by rw [e], by rw [e]; exact Nat.le_refl _, fun i h1 h2 => e12 i (by omega) (by omega) (by omega) (by omega), congrFun (e12 105 (by omega) (by omega) (by omega) (by omega)) 21⟩
    · have e : z2.2 = z.2 := b1.trans a1
      unfold rm
      rw [e]
      exact ⟨by omega, by omega⟩
end
