/-! THE PLAIN LAW: orders, a line of the model, joined -/
set_option maxRecDepth 100000
theorem hm_sg {z : z_T} {N a : Nat} (h : sg (hr z N a)) : hm z N a = hr z N a := by
  unfold hm hr at *
  by_cases c : a < N
  · rw [if_pos c, if_pos c]
  · rw [if_neg c] at h
    exact absurd h (by decide)
theorem hm_nsg {z : z_T} {N a : Nat} (h : ¬ sg (hr z N a)) : ¬ sg (hm z N a) := by
  unfold hm hr at *
  by_cases c : a < N
  · rw [if_pos c] at h ⊢
    exact h
  · rw [if_neg c]
    decide
section
variable {L : Nat} {xs : Nat → Int32} {z : z_T}
theorem m_toldY {y : z_T} {r : RL} {x : Int32} (h : y.1 105 7 = r.1) : F_X6_isTold (hp L xs y) 105 x = some (if isT r.1 x = true then 1 else 0) := by
  unfold F_X6_isTold
  rw [m_in]
  simp only [zr_0, zr_1, zr_2, zr_3, zr_4, zr_5, zr_6, Option.bind_some, po_s, po_n, h]
  rcases in16 x with ⟨k, hk, rfl⟩ | hx
  · have h15 : ¬ (15 : Int32) < ii k := by
      rw [show (15 : Int32) = ii 15 from rfl, ii_lt (by decide) (by omega)]
      omega
    rw [isT_ii hk, if_neg (by rw [b01]; simp [nn16 hk, h15]), m_has (by omega)]
    by_cases h : hb r.1 k = true <;> simp [h]
  · have : isT r.1 x = false := by
      cases h : isT r.1 x with
      | false => rfl
      | true =>
        obtain ⟨k, hk, rfl, _⟩ := isT_of h
        rcases hx with h1 | h1
        · exact absurd h1 (nn16 hk)
        · exact absurd (lt16 hk) h1
    rw [this, if_pos]
    · rfl
    · rw [b01]
      rcases hx with h1 | h1
      · simp [h1]
      · by_cases h0 : x < 0
        · simp [h0]
        · obtain ⟨k, hk, rfl⟩ := ii_of h0
          rw [show (16 : Int32) = ii 16 from rfl, ii_lt hk (by decide)] at h1
          rw [show (15 : Int32) = ii 15 from rfl, ii_lt (by decide) hk]
          simp
          omega
theorem m_oth {y : z_T} {N a q l : Nat} {r : RL} {b : Bool} (T : ∀ i, i < 260 → z.1 113 i = z.1 75 i) (hq : q < 16) (hN : N ≤ 260) (ha : a < 5000) (h3 : mq z y) (S : mst y N a l r) : mO L xs z N l (otS z N a q b r) (F_X6_readsOther (hp L xs y) 105 (ii q) (if b = true then 1 else 0)) := by
  have S0 := S
  obtain ⟨s1, s2, s3, x1, x2, x3, x4⟩ := S
  unfold otS F_X6_readsOther
  rw [if_pos mcl, m_letY T h3 hN (by omega) s1 s2, Option.bind_some]
  by_cases c : ltr (hr z N a)
  · obtain ⟨k1, k2⟩ := pn_s c
    rw [if_pos c, if_pos c, if_neg one_ne, if_pos mcl, m_hereY T h3 hN (by omega) s1 s2, Option.bind_some, hm_at (Or.inr c), k2]
    have eqk : (ii (pn (hr z N a)) = ii q) = (pn (hr z N a) = q) := ii_eq (by omega) (by omega)
    by_cases c1 : q = pn (hr z N a)
    · rw [if_pos c1, if_pos (show ii (pn (hr z N a)) = ii q by rw [eqk]; exact c1.symm), show pm_fI [(5, 13)] (hp L xs y) 105 = some (ii a) by simp only [zr_0, zr_1, zr_2, zr_3, zr_4, zr_5, zr_6, s1], Option.bind_some, if_pos mcl, m_wrong, Option.bind_some, if_pos (Or.inl rfl)]
      exact ⟨_, rfl, ui_a, mq_ui h3 (Or.inl rfl)⟩
    · rw [if_neg c1, if_neg (show ¬ ii (pn (hr z N a)) = ii q by rw [eqk]; exact fun e => c1 e.symm), if_pos mcl, m_toldY x1, Option.bind_some, isT_ii k1]
      by_cases c2 : hb r.1 (pn (hr z N a)) = true
      · rw [if_pos c2, if_pos c2, if_neg one_ne]
        have e1 : ∀ v, (ui y 105 13 v).1 110 = y.1 110 := fun v => rfl
        refine ⟨ui (ui (ui y 105 13 (ii (a + 1))) 110 q (one_ (y.1 110 q) (pn (hr z N a)) b)) 110 (pn (hr z N a)) (one_ ((ui (ui y 105 13 (ii (a + 1))) 110 q (one_ (y.1 110 q) (pn (hr z N a)) b)).1 110 (pn (hr z N a))) q b), ?_, ⟨rfl, s2, s3, x1, x2, x3, fun j hj => ?_⟩, mq_ui (mq_ui (mq_ui h3 (Or.inl rfl)) (Or.inr (Or.inr (Or.inr rfl)))) (Or.inr (Or.inr (Or.inr rfl)))⟩
        · unfold one_
          cases b
          · simp only [zr_0, zr_1, zr_2, zr_3, zr_4, zr_5, zr_6, zw_0, zw_1, Option.bind_some, po_s, po_n, za_0, za_1, za_2, za_3, za_4, za_5, hq, k1, s1, ii_s, Bool.false_eq_true, ↓reduceIte, btd]
            rfl
          · simp only [zr_0, zr_1, zr_2, zr_3, zr_4, zr_5, zr_6, zw_0, zw_1, Option.bind_some, po_s, po_n, za_0, za_1, za_2, za_3, za_4, za_5, hq, k1, s1, ii_s, one_ne0, ↓reduceIte, btd]
            rfl
        · rw [ui_i, ui_i, e1]
          unfold prt upd
          dsimp only
          rw [x4 q hq, x4 _ k1]
          by_cases d1 : j = pn (hr z N a)
          · rw [if_pos d1, if_pos d1]
          · rw [if_neg d1, if_neg d1]
            by_cases d2 : j = q
            · rw [if_pos d2, if_pos d2]
            · rw [if_neg d2, if_neg d2, x4 j hj]
      · rw [if_neg c2, if_neg c2, if_pos rfl, show pm_fI [(5, 13)] (hp L xs y) 105 = some (ii a) by simp only [zr_0, zr_1, zr_2, zr_3, zr_4, zr_5, zr_6, s1], Option.bind_some, if_pos mcl, m_wrong, Option.bind_some, if_pos (Or.inl rfl)]
        exact ⟨_, rfl, ui_a, mq_ui h3 (Or.inl rfl)⟩
  · rw [if_neg c, if_neg c, if_pos rfl, show pm_fI [(5, 13)] (hp L xs y) 105 = some (ii a) by simp only [zr_0, zr_1, zr_2, zr_3, zr_4, zr_5, zr_6, s1], Option.bind_some, if_pos mcl, m_wrong, Option.bind_some, if_pos (Or.inl rfl)]
    exact ⟨_, rfl, ui_a, mq_ui h3 (Or.inl rfl)⟩
theorem mO_b {N l : Nat} {o : Int32 ⊕ (Nat × RL)} {s : Option (Int32 × pm_H)} (h : mO L xs z N l o s) : mO L xs z N l o (s.bind fun q => if q.1 = 0 ∨ q.1 = 1 then some (q.1, q.2) else none) := by
  match o, h with
  | .inl v, ⟨y, h1, h2, h3⟩ => exact ⟨y, by rw [h1, Option.bind_some, if_pos (Or.inl rfl)], h2, h3⟩
  | .inr (a, r), ⟨y, h1, h2, h3⟩ => exact ⟨y, by rw [h1, Option.bind_some, if_pos (Or.inr rfl)], h2, h3⟩
theorem m_line {y : z_T} {N a l n : Nat} {r : RL} (T : ∀ i, i < 260 → z.1 113 i = z.1 75 i) (hN : N ≤ 260) (ha : a < 4000) (hl : l ≤ 24) (h3 : mq z y) (S : mst y N a l r) (hn : 40 ≤ n) : mO L xs z N (l + 1) (lnS z N a l r) (F_X6_readsOrder n (hp L xs y) 105) := by
  obtain ⟨s1, s2, s3, X⟩ := S
  have bad : ∀ {y : z_T} (w v : Int32), mq z y → mO L xs z N (l + 1) (.inl (-1000 * w - v)) ((if pm_cl_ (hp L xs y) 105 = some 5 then F_X6_wrongAt (hp L xs y) 105 w v else none).bind fun q => if q.1 = 0 ∨ q.1 = 1 then some (q.1, q.2) else none) := fun {y} w v h => by
    rw [if_pos mcl, m_wrong, Option.bind_some, if_pos (Or.inl rfl)]
    exact ⟨_, rfl, ui_a, mq_ui h (Or.inl rfl)⟩
  unfold lnS F_X6_readsOrder
  rw [if_pos mcl, m_letY T h3 hN (by omega) s1 s2, Option.bind_some]
  by_cases c : ltr (hr z N a)
  · obtain ⟨k1, k2⟩ := pn_s c
    rw [if_pos c, if_pos c, if_neg one_ne, show pm_fI [(5, 35)] (hp L xs y) 105 = some (ii l) by simp only [zr_0, zr_1, zr_2, zr_3, zr_4, zr_5, zr_6, s3], Option.bind_some]
    have e24 : (ii l = 24) = (l = 24) := ii_eq (b := 24) (by omega) (by omega)
    by_cases c1 : l = 24
    · rw [if_pos c1, if_pos (show ii l = 24 by rw [e24]; exact c1), show pm_fI [(5, 13)] (hp L xs y) 105 = some (ii a) by simp only [zr_0, zr_1, zr_2, zr_3, zr_4, zr_5, zr_6, s1], Option.bind_some]
      exact bad 4 (ii a) h3
    · have k2' : mq z (ui y 105 35 (ii (l + 1))) := mq_ui h3 (Or.inl rfl)
      have k3 : mq z (ui (ui y 105 35 (ii (l + 1))) 105 13 (ii (a + 1))) := mq_ui k2' (Or.inl rfl)
      have k4 : mq z (ui (ui (ui y 105 35 (ii (l + 1))) 105 13 (ii (a + 1))) 105 13 (ii (a + 2))) := mq_ui k3 (Or.inl rfl)
      have S4 : mst (ui (ui (ui y 105 35 (ii (l + 1))) 105 13 (ii (a + 1))) 105 13 (ii (a + 2))) N (a + 2) (l + 1) r := ⟨ui_a, s2, rfl, X⟩
      have e97 : hr z N a - 97 = ii (pn (hr z N a)) := k2
      rw [if_neg c1, if_neg (show ¬ ii l = 24 by rw [e24]; exact c1), Option.bind_some, ii_s, show pm_put [(5, 35, 0)] (hp L xs y) 105 (.int (ii (l + 1))) = some (hp L xs (ui y 105 35 (ii (l + 1)))) by simp only [zw_0, zw_1], Option.bind_some,
        show pm_fI [(5, 13)] (hp L xs (ui y 105 35 (ii (l + 1)))) 105 = some (ii a) by simp only [zr_0, zr_1, zr_2, zr_3, zr_4, zr_5, zr_6]; exact congrArg some s1, Option.bind_some, if_pos mcl, m_hereY T k2' hN (by omega) s1 s2, Option.bind_some, hm_at (Or.inr c), Option.bind_some, ii_s, show pm_put [(5, 13, 0)] (hp L xs (ui y 105 35 (ii (l + 1)))) 105 (.int (ii (a + 1))) = some (hp L xs (ui (ui y 105 35 (ii (l + 1))) 105 13 (ii (a + 1)))) by simp only [zw_0, zw_1], Option.bind_some,
        if_pos mcl, m_hereY T k3 hN (show a + 1 < 10000 by omega) ui_a s2, Option.bind_some]
      have p13 : pm_fI [(5, 13)] (hp L xs (ui (ui y 105 35 (ii (l + 1))) 105 13 (ii (a + 1)))) 105 = some (ii (a + 1)) := by simp only [zr_0, zr_1, zr_2, zr_3, zr_4, zr_5, zr_6]; exact congrArg some ui_a
      have w13 : pm_put [(5, 13, 0)] (hp L xs (ui (ui y 105 35 (ii (l + 1))) 105 13 (ii (a + 1)))) 105 (.int (ii (a + 1 + 1))) = some (hp L xs (ui (ui (ui y 105 35 (ii (l + 1))) 105 13 (ii (a + 1))) 105 13 (ii (a + 2)))) := by simp only [zw_0, zw_1]
      generalize ui (ui y 105 35 (ii (l + 1))) 105 13 (ii (a + 1)) = y3 at k3 k4 S4 p13 w13
      by_cases c2 : sg (hr z N (a + 1))
      · rw [if_pos c2, hm_sg c2]
        have hO := fun b => m_oth (L := L) (xs := xs) (b := b) T k1 hN (show a + 2 < 5000 by omega) k4 S4
        have hH := m_house (L := L) (xs := xs) (n := n) T k1 hN (show a + 2 < 5000 by omega) k4 S4 (by omega)
        have hO1 : mO L xs z N (l + 1) (otS z N (a + 2) (pn (hr z N a)) true r) (F_X6_readsOther (hp L xs (ui y3 105 13 (ii (a + 2)))) 105 (ii (pn (hr z N a))) 1) := hO true
        have hO0 : mO L xs z N (l + 1) (otS z N (a + 2) (pn (hr z N a)) false r) (F_X6_readsOther (hp L xs (ui y3 105 13 (ii (a + 2)))) 105 (ii (pn (hr z N a))) 0) := hO false
        obtain ⟨q1, q2, q3, x1, x2, x3, x4⟩ := S4
        generalize ui y3 105 13 (ii (a + 2)) = y4 at k4 q1 q2 q3 x1 x2 x3 x4 w13 hO1 hO0 hH
        have hT := m_toldY (L := L) (xs := xs) (x := ii (pn (hr z N a))) x1
        rw [isT_ii k1] at hT
        have r8 : pm_fI [(5, 8)] (hp L xs y4) 105 = some r.2.1 := by simp only [zr_0, zr_1, zr_2, zr_3, zr_4, zr_5, zr_6, x2]
        have w8 : ∀ v, pm_put [(5, 8, 0)] (hp L xs y4) 105 (.int v) = some (hp L xs (ui y4 105 8 v)) := fun v => by simp only [zw_0, zw_1]
        rcases c2 with c2 | c2 | c2 | c2 | c2
        · simp only [c2, ↓reduceIte, p13, Option.bind_some, po_s, po_n, ii_s, w13, mcl, e97]
          exact mO_b hH
        · simp only [c2, ↓reduceIte, p13, Option.bind_some, po_s, po_n, ii_s, w13, mcl, e97, show ¬ (35 : Int32) = 64 by decide, show ¬ (35 : Int32) = 42 by decide, show ¬ (35 : Int32) = 38 by decide, show ¬ (35 : Int32) = 61 by decide, hT, b01]
          by_cases c4 : hb r.1 (pn (hr z N a)) = true
          · simp only [c4, one_ne0, Bool.false_eq_true, not_true, not_false_eq_true, Classical.not_not, ↓reduceIte, Option.bind_some, po_s, po_n, r8, w8, btd]
            exact ⟨_, rfl, ⟨q1, q2, q3, x1, ui_a, x3, x4⟩, mq_ui k4 (Or.inr (Or.inl ⟨rfl, Or.inr rfl⟩))⟩
          · have c4' : hb r.1 (pn (hr z N a)) = false := by simpa using c4
            simp only [c4', one_ne0, Bool.false_eq_true, not_true, not_false_eq_true, Classical.not_not, ↓reduceIte, Option.bind_some, po_s, po_n, m_wrong, true_or]
            exact ⟨_, rfl, ui_a, mq_ui k4 (Or.inl rfl)⟩
        · simp only [c2, ↓reduceIte, p13, Option.bind_some, po_s, po_n, ii_s, w13, mcl, e97, show ¬ (61 : Int32) = 64 by decide, show ¬ (61 : Int32) = 42 by decide, show ¬ (61 : Int32) = 38 by decide, show ¬ (61 : Int32) = 35 by decide, hT, b01]
          by_cases c4 : hb r.1 (pn (hr z N a)) = true
          · simp only [c4, one_ne0, Bool.false_eq_true, not_true, not_false_eq_true, Classical.not_not, ↓reduceIte, Option.bind_some, po_s, po_n, r8, w8, btd]
            exact ⟨_, rfl, ⟨q1, q2, q3, x1, ui_a, x3, x4⟩, mq_ui k4 (Or.inr (Or.inl ⟨rfl, Or.inr rfl⟩))⟩
          · have c4' : hb r.1 (pn (hr z N a)) = false := by simpa using c4
            simp only [c4', one_ne0, Bool.false_eq_true, not_true, not_false_eq_true, Classical.not_not, ↓reduceIte, Option.bind_some, po_s, po_n, m_wrong, true_or]
            exact ⟨_, rfl, ui_a, mq_ui k4 (Or.inl rfl)⟩
        · simp only [c2, ↓reduceIte, p13, Option.bind_some, po_s, po_n, ii_s, w13, mcl, e97, show ¬ (42 : Int32) = 64 by decide, show ¬ (42 : Int32) = 35 by decide, show ¬ (42 : Int32) = 61 by decide, hT, b01]
          by_cases c4 : hb r.1 (pn (hr z N a)) = true
          · simp only [c4, one_ne0, Bool.false_eq_true, not_true, not_false_eq_true, Classical.not_not, ↓reduceIte, Option.bind_some, po_s, po_n]
            exact mO_b hO1
          · have c4' : hb r.1 (pn (hr z N a)) = false := by simpa using c4
            simp only [c4', one_ne0, Bool.false_eq_true, not_true, not_false_eq_true, Classical.not_not, ↓reduceIte, Option.bind_some, po_s, po_n, m_wrong, true_or]
            exact ⟨_, rfl, ui_a, mq_ui k4 (Or.inl rfl)⟩
        · simp only [c2, ↓reduceIte, p13, Option.bind_some, po_s, po_n, ii_s, w13, mcl, e97, show ¬ (38 : Int32) = 64 by decide, show ¬ (38 : Int32) = 42 by decide, show ¬ (38 : Int32) = 35 by decide, show ¬ (38 : Int32) = 61 by decide, hT, b01]
          by_cases c4 : hb r.1 (pn (hr z N a)) = true
          · simp only [c4, one_ne0, Bool.false_eq_true, not_true, not_false_eq_true, Classical.not_not, ↓reduceIte, Option.bind_some, po_s, po_n]
            exact mO_b hO0
          · have c4' : hb r.1 (pn (hr z N a)) = false := by simpa using c4
            simp only [c4', one_ne0, Bool.false_eq_true, not_true, not_false_eq_true, Classical.not_not, ↓reduceIte, Option.bind_some, po_s, po_n, m_wrong, true_or]
            exact ⟨_, rfl, ui_a, mq_ui k4 (Or.inl rfl)⟩
      · have hn2 := hm_nsg c2
        rw [if_neg c2, if_neg (fun e => hn2 (Or.inl e)), if_neg (fun e => hn2 (Or.inr (Or.inl e))), if_neg (fun e => hn2 (Or.inr (Or.inr (Or.inl e)))), if_neg (fun e => hn2 (Or.inr (Or.inr (Or.inr (Or.inl e))))), if_neg (fun e => hn2 (Or.inr (Or.inr (Or.inr (Or.inr e))))), p13, Option.bind_some]
        exact bad 1 (ii (a + 1)) k3
  · rw [if_neg c, if_neg c, if_pos rfl, show pm_fI [(5, 13)] (hp L xs y) 105 = some (ii a) by simp only [zr_0, zr_1, zr_2, zr_3, zr_4, zr_5, zr_6, s1], Option.bind_some]
    exact bad 1 (ii a) h3
end
