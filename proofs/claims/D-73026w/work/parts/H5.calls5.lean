/-! THE PLAIN LAW: calls, the call -/
set_option maxRecDepth 100000
section
variable {L : Nat} {xs : Nat → Int32} {z : z_T}
theorem x_38 {m : Nat} (hm : m ≤ 8) : ∀ (d i n : Nat), i + d = m → d + 1 ≤ n →
    ((∀ k, i ≤ k → k < m → ¬ (99 : Int32) < by_ z (2 * k)) → L_X0_calls_38 n 7 (ii m) (ii i) (hp L xs z) = some (.inr ())) ∧ ((∃ k, i ≤ k ∧ k < m ∧ (99 : Int32) < by_ z (2 * k)) → L_X0_calls_38 n 7 (ii m) (ii i) (hp L xs z) = some (.inl (-3, hp L xs z)))
  | 0, i, n, h1, h2 => by
    obtain ⟨q, rfl⟩ : ∃ q, n = q + 1 := ⟨n - 1, by omega⟩
    obtain rfl : i = m := by omega
    rw [L_X0_calls_38, if_neg (by rw [ii_lt (by omega) (by omega)]; omega)]
    exact ⟨fun _ => rfl, fun ⟨k, a, b, _⟩ => absurd a (by omega)⟩
  | d + 1, i, n, h1, h2 => by
    obtain ⟨q, rfl⟩ : ∃ q, n = q + 1 := ⟨n - 1, by omega⟩
    have ih := x_38 (m := m) hm d (i + 1) q (by omega) (by omega)
    have hf : F_X0_fed (hp L xs z) 7 (ii (2 * i)) = some (by_ z (2 * i)) := x_fed (by omega)
    rw [L_X0_calls_38, if_pos (by rw [ii_lt (by omega) (by omega)]; omega)]
    simp only [zr_0, zr_1, zr_2, zr_3, zr_4, zr_5, zr_6, Option.bind_some, po_s, po_n, ii_2, hf, ↓reduceIte, ii_s, x100]
    by_cases c : (99 : Int32) < by_ z (2 * i)
    · simp only [c, one_ne0, Bool.false_eq_true, not_true, not_false_eq_true, Classical.not_not, ↓reduceIte]
      exact ⟨fun h => absurd c (h i (Nat.le_refl _) (by omega)), fun _ => trivial⟩
    · simp only [c, one_ne0, Bool.false_eq_true, not_true, not_false_eq_true, Classical.not_not, ↓reduceIte]
      refine ⟨fun h => ih.1 fun k a b => h k (by omega) b, fun ⟨k, a, b, e⟩ => ih.2 ⟨k, ?_, b, e⟩⟩
      have : k ≠ i := fun x => by subst x; exact c e
      omega
theorem m_39 {m : Nat} (hT : ∀ i, i < 260 → z.1 113 i = z.1 75 i) (hm : m ≤ 8) : ∀ (d i n : Nat), i + d = m → d + 1 ≤ n →
    ((∀ k, i ≤ k → k < m → ¬ (99 : Int32) < by_ z (2 * k)) → L_X6_calls_39 n 105 (ii m) (ii i) (hp L xs z) = some (.inr ())) ∧ ((∃ k, i ≤ k ∧ k < m ∧ (99 : Int32) < by_ z (2 * k)) → L_X6_calls_39 n 105 (ii m) (ii i) (hp L xs z) = some (.inl (-3, hp L xs z)))
  | 0, i, n, h1, h2 => by
    obtain ⟨q, rfl⟩ : ∃ q, n = q + 1 := ⟨n - 1, by omega⟩
    obtain rfl : i = m := by omega
    rw [L_X6_calls_39, if_neg (by rw [ii_lt (by omega) (by omega)]; omega)]
    exact ⟨fun _ => rfl, fun ⟨k, a, b, _⟩ => absurd a (by omega)⟩
  | d + 1, i, n, h1, h2 => by
    obtain ⟨q, rfl⟩ : ∃ q, n = q + 1 := ⟨n - 1, by omega⟩
    have ih := m_39 (m := m) hT hm d (i + 1) q (by omega) (by omega)
    rw [L_X6_calls_39, if_pos (by rw [ii_lt (by omega) (by omega)]; omega)]
    simp only [zr_0, zr_1, zr_2, zr_3, zr_4, zr_5, zr_6, Option.bind_some, po_s, po_n, ii_2, m_octY hT kp.rf (show 2 * i < 260 by omega), ↓reduceIte, ii_s]
    by_cases c : (99 : Int32) < by_ z (2 * i)
    · simp only [c, one_ne0, Bool.false_eq_true, not_true, not_false_eq_true, Classical.not_not, ↓reduceIte]
      exact ⟨fun h => absurd c (h i (Nat.le_refl _) (by omega)), fun _ => trivial⟩
    · simp only [c, one_ne0, Bool.false_eq_true, not_true, not_false_eq_true, Classical.not_not, ↓reduceIte]
      refine ⟨fun h => ih.1 fun k a b => h k (by omega) b, fun ⟨k, a, b, e⟩ => ih.2 ⟨k, ?_, b, e⟩⟩
      have : k ≠ i := fun x => by subst x; exact c e
      omega
theorem hNd {z' : z_T} (e : by_ z' = by_ z) : hN z' = hN z ∧ dN z' = dN z := by
  unfold hN dN
  rw [e]
  exact ⟨rfl, rfl⟩
theorem o_calls {x w : Int32} {n : Nat} (I : Inv z) (hn : 2000 ≤ n) : Op L xs z (fun h => F_X0_calls n h 7 x w) (fun h => F_X6_calls n h 105 x w) := by
  have T := I.2.2.2.2.2.1
  have e100 : ∀ {w : Int32}, (w < 100) = ¬ ((99 : Int32) < w) := x100
  by_cases hx : ¬ x < 1 ∧ ¬ (8 : Int32) < x
  · by_cases hw : ¬ w < 0 ∧ ¬ (99 : Int32) < w
    · have hw2 : ¬ w < 0 ∧ w < 100 := ⟨hw.1, x100 ▸ hw.2⟩
      by_cases ht : z.1 7 8 < 2 * x
      · refine Op.no I (r := -1) ?_ ?_
        · show F_X0_calls n (hp L xs z) 7 x w = _
          unfold F_X0_calls
          rw [e_within, Option.bind_some, if_pos hx, if_neg (by decide), e_in, Option.bind_some, if_pos hw2, if_neg (by decide)]
          simp only [zr_0, zr_1, zr_2, zr_3, zr_4, zr_5, zr_6, Option.bind_some, po_s, po_n]
          rw [if_pos ht]
        · show F_X6_calls n (hp L xs z) 105 x w = _
          unfold F_X6_calls
          rw [m_in, Option.bind_some, if_pos hx, if_neg (by decide), m_in, Option.bind_some, if_pos hw, if_neg (by decide)]
          simp only [zr_0, zr_1, zr_2, zr_3, zr_4, zr_5, zr_6, Option.bind_some, po_s, po_n, T.2.1]
          rw [if_pos ht]
      · obtain ⟨m, a0, a2, rfl⟩ := in_of 1 8 (by decide) (by decide) hx
        obtain ⟨f, _, a4, rfl⟩ := in_of 0 99 (by decide) (by decide) hw
        have h2m := p2 a2
        have by0 : by_ (ui z 7 8 0) = by_ z := rfl
        have hTy : ∀ {y : z_T}, kp (ui z 7 8 0) y → (∀ i, i < 260 → (ui y 105 12 0).1 113 i = (ui y 105 12 0).1 75 i) ∧ by_ (ui y 105 12 0) = by_ z := fun {y} k => by
          refine ⟨fun i hi => ?_, funext fun i => ?_⟩
          · rw [ui_o (by decide), ui_o (by decide), k.2 113 i rfl, k.2 75 i rfl]
            exact T.1 i hi
          · unfold by_
            rw [ui_o (by decide), k.2 75 i rfl]
            rfl
        have hxh : ∀ {v : Option (Int32 × pm_H)}, ((L_X0_calls_38 n 7 (ii m) 0 (hp L xs (ui z 7 8 0))).bind fun q6 => po_s q6 (fun r => some r) fun e7 =>
            (if pm_cl_ (hp L xs (ui z 7 8 0)) 7 = some 0 then F_X0_sorts n (hp L xs (ui z 7 8 0)) 7 (ii m) else none).bind fun q8 =>
            (L_X0_calls_71 n 7 (ii m) (ii f) 0 q8).bind fun q11 =>
            (pm_fR [(0, 16)] q11 7).bind fun v12 =>
            (pm_aR q11 v12 0).bind fun v13 =>
            (pm_ai 0 q11 v13 (ii m - 1)).bind fun v14 =>
            (pm_fR [(0, 17)] q11 7).bind fun v15 =>
            (pm_aR q11 v15 0).bind fun v16 =>
            (pm_ai 0 q11 v16 (ii m - 1)).bind fun v17 =>
            (F_J2_min v14 v17).bind fun q18 =>
            if q18 < 268435456 then
              some (q18, q11)
            else
              some ((-2), q11)) = v → F_X0_calls n (hp L xs z) 7 (ii m) (ii f) = v := fun {v} e => by
          unfold F_X0_calls
          rw [e_within, Option.bind_some, if_pos hx, if_neg (by decide), e_in, Option.bind_some, if_pos hw2, if_neg (by decide)]
          rw [show pm_fI [(0, 8)] (hp L xs z) 7 = some (z.1 7 8) by simp only [zr_0, zr_1, zr_2, zr_3, zr_4, zr_5, zr_6], Option.bind_some, if_neg ht, show pm_put [(0, 8, 0)] (hp L xs z) 7 (.int 0) = some (hp L xs (ui z 7 8 0)) by simp only [zw_0, zw_1], Option.bind_some]
          exact e
        have hmh : ∀ {y : z_T} {v : Option (Int32 × pm_H)}, kp (ui z 7 8 0) y → ((L_X6_calls_39 n 105 (ii m) 0 (hp L xs (ui y 105 12 0))).bind fun q6 => po_s q6 (fun r => some r) fun e7 =>
            (L_X6_calls_67 n 105 (ii m) (ii f) 1 (hp L xs (ui y 105 12 0))).bind fun q14 =>
            (L_X6_calls_138 n 105 (ii m) 1000000 0 q14).bind fun q18 =>
            if q18 < 1000000 then
              some (q18, q14)
            else
              some ((-2), q14)) = v → F_X6_calls n (hp L xs y) 105 (ii m) (ii f) = v := fun {y v} k e => by
          have et : y.1 105 12 = z.1 7 8 := (k.2 105 12 rfl).trans T.2.1
          unfold F_X6_calls
          rw [m_in, Option.bind_some, if_pos hx, if_neg (by decide), m_in, Option.bind_some, if_pos hw, if_neg (by decide)]
          rw [show pm_fI [(5, 12)] (hp L xs y) 105 = some (z.1 7 8) by simp only [zr_0, zr_1, zr_2, zr_3, zr_4, zr_5, zr_6, et], Option.bind_some, if_neg ht, show pm_put [(5, 12, 0)] (hp L xs y) 105 (.int 0) = some (hp L xs (ui y 105 12 0)) by simp only [zw_0, zw_1], Option.bind_some]
          exact e
        by_cases hbad : ∃ k, 0 ≤ k ∧ k < m ∧ (99 : Int32) < by_ z (2 * k)
        · have x1 : L_X0_calls_38 n 7 (ii m) 0 (hp L xs (ui z 7 8 0)) = some (.inl (-3, hp L xs (ui z 7 8 0))) := (x_38 (L := L) (xs := xs) (z := ui z 7 8 0) a2 m 0 n (by omega) (by omega)).2 hbad
          have m1 : L_X6_calls_39 n 105 (ii m) 0 (hp L xs (ui (ui z 7 8 0) 105 12 0)) = some (.inl (-3, hp L xs (ui (ui z 7 8 0) 105 12 0))) := (m_39 (L := L) (xs := xs) (z := ui (ui z 7 8 0) 105 12 0) (hTy kp.rf).1 a2 m 0 n (by omega) (by omega)).2 (by rw [(hTy kp.rf).2]; exact hbad)
          refine Op_tq I (r := -3) (y := ui z 7 8 0) (y2 := ui (ui z 7 8 0) 105 12 0) (hxh ?_) kp.rf (hmh kp.rf ?_) kp.rf
          · rw [x1]
            rfl
          · rw [m1]
            rfl
        · have hok : ∀ k, 0 ≤ k → k < m → ¬ (99 : Int32) < by_ z (2 * k) := fun k a b c => hbad ⟨k, a, b, c⟩
          have x1 : L_X0_calls_38 n 7 (ii m) 0 (hp L xs (ui z 7 8 0)) = some (.inr ()) := (x_38 (L := L) (xs := xs) (z := ui z 7 8 0) a2 m 0 n (by omega) (by omega)).1 hok
          obtain ⟨o, y1, k1, S, s1, s2⟩ := x_sorts (L := L) (xs := xs) (z := ui z 7 8 0) (m := m) (n := n) a2 kp.rf (by omega)
          obtain ⟨y2, k2, t1, t2⟩ := x_71 (L := L) (xs := xs) (z := ui z 7 8 0) (f := f) a2 (by omega) S m 0 n y1 (by omega) (by omega) k1 s1 (fun w i' h => absurd h (by omega))
          have t1 : L_X0_calls_71 n 7 (ii m) (ii f) 0 (hp L xs y1) = some (hp L xs y2) := t1
          obtain ⟨T1, T2⟩ := hTy k2
          have m1 : L_X6_calls_39 n 105 (ii m) 0 (hp L xs (ui y2 105 12 0)) = some (.inr ()) := (m_39 (L := L) (xs := xs) (z := ui y2 105 12 0) T1 a2 m 0 n (by omega) (by omega)).1 (by rw [T2]; exact hok)
          obtain ⟨y3, k3, u1, u2⟩ := m_67 (L := L) (xs := xs) (z := ui y2 105 12 0) (f := f) T1 a2 (by omega) (2 ^ m - 1) 1 n (ui y2 105 12 0) (by omega) (by omega) kp.rf (fun q _ _ hq0 hq => absurd (sn_inj (by show sn q = 0; omega) : q = 0) hq0)
          have u1 : L_X6_calls_67 n 105 (ii m) (ii f) 1 (hp L xs (ui y2 105 12 0)) = some (hp L xs y3) := u1
          have hf0 : full m ≠ 0 := fun e => by
            have := congrArg sn e
            rw [sn_full a2] at this
            have h21 : 2 ^ 1 ≤ 2 ^ m := Nat.pow_le_pow_right (by decide) a0
            have : 2 ^ m - 1 = 0 := this
            omega
          have v1 := m_138 (L := L) (xs := xs) (z := ui y2 105 12 0) (f := f) (n := n) a2 a0 (y := y3) (fun q hq => u2 (full m) q hq hf0 (by rw [sn_full a2]; omega)) (by omega)
          have hh : hN (ui y2 105 12 0) = hN (ui z 7 8 0) ∧ dN (ui y2 105 12 0) = dN (ui z 7 8 0) := hNd (T2.trans by0.symm)
          rw [hh.1, hh.2] at v1
          have t3 := t2 (m - 1) 0 (by omega)
          unfold tbl at t3
          rw [Nat.zero_add] at t3
          obtain ⟨t4, t5⟩ := t3
          have t4 : y2.1 87 (m - 1) = _ := t4
          have t5 : y2.1 96 (m - 1) = _ := t5
          have hB := LR_b (h := hN (ui z 7 8 0)) (d := dN (ui z 7 8 0)) (f := f) (o := o) (fun l => by_lt) (by omega) (m - 1) 0
          obtain ⟨g1, g2⟩ := calls_eq (f := f) (d := dN (ui z 7 8 0)) S a2 a0 (fun l _ => by_lt)
          have hml := mnN_l (a := (LR (hN (ui z 7 8 0)) (dN (ui z 7 8 0)) f o (m - 1) 0).1) (b := (LR (hN (ui z 7 8 0)) (dN (ui z 7 8 0)) f o (m - 1) 0).2)
          have e86 : pm_aR (hp L xs y2) 86 0 = some 87 := by
            have h : ∀ k, k < 8 → pm_aR (hp L xs y2) 86 (ii k) = some (87 + k) := by intro k hk; simp only [za_0, za_1, za_2, za_3, za_4, za_5, hk]
            exact h 0 (by omega)
          have e95 : pm_aR (hp L xs y2) 95 0 = some 96 := by
            have h : ∀ k, k < 8 → pm_aR (hp L xs y2) 95 (ii k) = some (96 + k) := by intro k hk; simp only [za_0, za_1, za_2, za_3, za_4, za_5, hk]
            exact h 0 (by omega)
          have e87 : pm_ai 0 (hp L xs y2) 87 (ii (m - 1)) = some (y2.1 87 (m - 1)) := by simp only [za_0, za_1, za_2, za_3, za_4, za_5, show m - 1 < 8 by omega]
          have e96 : pm_ai 0 (hp L xs y2) 96 (ii (m - 1)) = some (y2.1 96 (m - 1)) := by simp only [za_0, za_1, za_2, za_3, za_4, za_5, show m - 1 < 8 by omega]
          have em : ii m - 1 = ii (m - 1) := ii_sub (c := 1) a0
          have hmn : mn (y2.1 87 (m - 1)) (y2.1 96 (m - 1)) = ii (mnN (LR (hN (ui z 7 8 0)) (dN (ui z 7 8 0)) f o (m - 1) 0).1 (LR (hN (ui z 7 8 0)) (dN (ui z 7 8 0)) f o (m - 1) 0).2) := by
            rw [t4, t5, mn_ii (by omega) (by omega)]
          generalize mnN (LR (hN (ui z 7 8 0)) (dN (ui z 7 8 0)) f o (m - 1) 0).1 (LR (hN (ui z 7 8 0)) (dN (ui z 7 8 0)) f o (m - 1) 0).2 = bx at g1 g2 hml hmn
          generalize lp (fun q a => mnN a (Mt m (hN (ui z 7 8 0)) (dN (ui z 7 8 0)) f (m - 1) (full m) q)) m 0 1000000 = bm at g1 g2 v1
          have cX : (ii bx < 268435456) = (bx < 268435456) := ii_lt (b := 268435456) (by omega) (by decide)
          have bm6 : bm ≤ 1000000 := by
            by_cases c : bx < 268435456
            · have := g1 c; omega
            · have := g2 c; omega
          have cM : (ii bm < 1000000) = (bm < 1000000) := ii_lt (b := 1000000) (by omega) (by decide)
          refine Op_tq I (r := if bx < 268435456 then ii bx else -2) (y := y2) (y2 := y3) (hxh ?_) k2 (hmh k2 ?_) k3
          · rw [x1]
            show (if pm_cl_ (hp L xs (ui z 7 8 0)) 7 = some 0 then F_X0_sorts n (hp L xs (ui z 7 8 0)) 7 (ii m) else none).bind _ = _
            rw [if_pos (show pm_cl_ (hp L xs (ui z 7 8 0)) 7 = some 0 by simp only [zr_0, zr_1, zr_2, zr_3, zr_4, zr_5, zr_6]), s2, Option.bind_some, t1, Option.bind_some]
            simp only [zr_0, zr_1, zr_2, zr_3, zr_4, zr_5, zr_6, Option.bind_some, po_s, po_n, e86, e95, em, e87, e96, e_min, hmn, cX]
            by_cases c : bx < 268435456
            · rw [if_pos c, if_pos c]
            · rw [if_neg c, if_neg c]
          · rw [m1]
            show (L_X6_calls_67 n 105 (ii m) (ii f) 1 (hp L xs (ui y2 105 12 0))).bind _ = _
            rw [u1, Option.bind_some, v1, Option.bind_some]
            simp only [cM]
            by_cases c : bx < 268435456
            · have := g1 c
              rw [if_pos (by omega), if_pos c, this.1]
            · have := g2 c
              rw [if_neg (by omega), if_neg c]
    · have hw2 : ¬ (¬ w < 0 ∧ w < 100) := fun q => hw ⟨q.1, x100 ▸ q.2⟩
      refine Op.no I (r := -1) ?_ ?_
      · show F_X0_calls n (hp L xs z) 7 x w = _
        unfold F_X0_calls
        rw [e_within, Option.bind_some, if_pos hx, if_neg (by decide), e_in, Option.bind_some, if_neg hw2, if_pos rfl]
      · show F_X6_calls n (hp L xs z) 105 x w = _
        unfold F_X6_calls
        rw [m_in, Option.bind_some, if_pos hx, if_neg (by decide), m_in, Option.bind_some, if_neg hw, if_pos rfl]
  · refine Op.no I (r := -1) ?_ ?_
    · show F_X0_calls n (hp L xs z) 7 x w = _
      unfold F_X0_calls
      rw [e_within, Option.bind_some, if_neg hx, if_pos rfl]
    · show F_X6_calls n (hp L xs z) 105 x w = _
      unfold F_X6_calls
      rw [m_in, Option.bind_some, if_neg hx, if_pos rfl]
end
