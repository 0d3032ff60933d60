/-! THE PLAIN LAW: orders, a line of the model -/
set_option maxRecDepth 100000
section
variable {L : Nat} {xs : Nat → Int32} {z : z_T}
theorem mcl {y : z_T} : pm_cl_ (hp L xs y) 105 = some 5 := by simp only [zr_0, zr_1, zr_2, zr_3, zr_4, zr_5, zr_6]
/-- the end of a house -/
theorem m_hend {y : z_T} {N a p l : Nat} {r : RL} {v : Int32} (hp1 : p < 16) (h3 : mq z y) (S : mst y N a l r) (hv : y.1 105 16 = v) : mO L xs z N l (.inr (a, setH r p v)) (
    (pm_fR [(5, 3)] (hp L xs y) 105).bind fun v15 =>
    (pm_fI [(5, 16)] (hp L xs y) 105).bind fun v16 =>
    (pm_si 0 (hp L xs y) v15 (ii p) v16).bind fun h17 =>
    (pm_fI [(5, 7)] h17 105).bind fun v18 =>
    (F_X6_has v18 (ii p)).bind fun q19 =>
    ((
      if q19 = 0 then
        (pm_fI [(5, 8)] h17 105).bind fun v20 =>
        (pm_put [(5, 8, 0)] h17 105 (.int (v20 ||| (pm_shl 1 (ii p))))).bind fun h21 =>
        some h21
      else
        some h17
    ) : Option (pm_H)).bind fun q22 =>
    (pm_fI [(5, 7)] q22 105).bind fun v23 =>
    (pm_put [(5, 7, 0)] q22 105 (.int (v23 ||| (pm_shl 1 (ii p))))).bind fun h24 =>
    some (1, h24)) := by
  obtain ⟨s1, s2, s3, x1, x2, x3, x4⟩ := S
  have e7 : (ui y 109 p (y.1 105 16)).1 105 7 = r.1 := x1
  have x3' : ∀ j, j < 16 → (ui y 109 p v).1 109 j = upd r.2.2.1 p v j := fun j hj => by
    rw [ui_i]
    exact upd_cg (x3 j hj)
  have k1 : mq z (ui y 109 p v) := mq_ui h3 (Or.inr (Or.inr (Or.inl rfl)))
  simp only [zr_0, zr_1, zr_2, zr_3, zr_4, zr_5, zr_6, Option.bind_some, po_s, po_n, za_0, za_1, za_2, za_3, za_4, za_5, hp1, e7, m_has (show p < 32 by omega), b01, btd, zw_0, zw_1, hv]
  have e7 : (ui y 109 p v).1 105 7 = r.1 := x1
  rw [e7]
  by_cases c : hb r.1 p = true
  · simp only [c, one_ne0, Bool.false_eq_true, not_true, not_false_eq_true, Classical.not_not, ↓reduceIte, Option.bind_some, po_s, po_n, zr_0, zr_1, zr_2, zr_3, zr_4, zr_5, zr_6, zw_0, zw_1, e7]
    refine ⟨_, rfl, ⟨s1, s2, s3, ?_, ?_, fun j hj => ?_, fun j hj => x4 j hj⟩, mq_ui k1 (Or.inr (Or.inl ⟨rfl, Or.inl rfl⟩))⟩
    · rw [ui_a]
      rfl
    · show y.1 105 8 = r.2.1 ||| (if hb r.1 p = true then 0 else bt p)
      rw [if_pos c, or0, x2]
    · exact x3' j hj
  · have c' : hb r.1 p = false := by simpa using c
    simp only [c', one_ne0, Bool.false_eq_true, not_true, not_false_eq_true, Classical.not_not, ↓reduceIte, Option.bind_some, po_s, po_n, zr_0, zr_1, zr_2, zr_3, zr_4, zr_5, zr_6, zw_0, zw_1]
    refine ⟨_, rfl, ⟨s1, s2, s3, ?_, ?_, fun j hj => ?_, fun j hj => x4 j hj⟩, mq_ui (mq_ui k1 (Or.inr (Or.inl ⟨rfl, Or.inr rfl⟩))) (Or.inr (Or.inl ⟨rfl, Or.inl rfl⟩))⟩
    · rw [ui_a]
      exact congrArg (fun q => q ||| bt p) x1
    · show y.1 105 8 ||| bt p = r.2.1 ||| (if hb r.1 p = true then 0 else bt p)
      rw [if_neg c, x2]
    · exact x3' j hj
theorem m_house {y : z_T} {N a q l n : Nat} {r : RL} (T : ∀ i, i < 260 → z.1 113 i = z.1 75 i) (hq : q < 16) (hN : N ≤ 260) (ha : a < 5000) (h3 : mq z y) (S : mst y N a l r) (hn : 20 ≤ n) : mO L xs z N l (hsS z N a q r) (F_X6_readsHouse n (hp L xs y) 105 (ii q)) := by
  obtain ⟨s1, s2, s3, X⟩ := S
  obtain ⟨n, rfl⟩ : ∃ m, n = m + 5 := ⟨n - 5, by omega⟩
  unfold hsS F_X6_readsHouse
  rw [show pm_fI [(5, 13)] (hp L xs y) 105 = some (ii a) by simp only [zr_0, zr_1, zr_2, zr_3, zr_4, zr_5, zr_6, s1], Option.bind_some, if_pos mcl, m_digY T h3 hN (by omega) s1 s2, Option.bind_some]
  by_cases d1 : dg (hr z N a)
  · rw [if_pos d1, if_pos d1, if_neg one_ne, show pm_put [(5, 16, 0)] (hp L xs y) 105 (.int 0) = some (hp L xs (ui y 105 16 0)) by simp only [zw_0, zw_1], Option.bind_some]
    have k0 : mq z (ui y 105 16 0) := mq_ui h3 (Or.inl rfl)
    have k1 : mq z (ui (ui (ui y 105 16 0) 105 16 (((10 * (ui y 105 16 0).1 105 16) + hr z N a) - 48)) 105 13 (ii (a + 1))) := mq_ui (mq_ui k0 (Or.inl rfl)) (Or.inl rfl)
    rw [mr27_Y T k0 hN (by omega) (by omega) s1 s2 d1 (by omega)]
    have S1 : mst (ui (ui (ui y 105 16 0) 105 16 (((10 * (ui y 105 16 0).1 105 16) + hr z N a) - 48)) 105 13 (ii (a + 1))) N (a + 1) l r := ⟨ui_a, s2, s3, X⟩
    have n1 : (ui (ui (ui y 105 16 0) 105 16 (((10 * (ui y 105 16 0).1 105 16) + hr z N a) - 48)) 105 13 (ii (a + 1))).1 105 16 = 10 * 0 + hr z N a - 48 := rfl
    generalize ui (ui (ui y 105 16 0) 105 16 (((10 * (ui y 105 16 0).1 105 16) + hr z N a) - 48)) 105 13 (ii (a + 1)) = y1 at k1 S1 n1
    obtain ⟨u1, u2, u3, X1⟩ := S1
    by_cases d2 : dg (hr z N (a + 1))
    · rw [if_pos d2, mr27_Y T k1 hN (by omega) (by omega) u1 u2 d2 (by omega)]
      have k2 : mq z (ui (ui y1 105 16 (((10 * y1.1 105 16) + hr z N (a + 1)) - 48)) 105 13 (ii (a + 1 + 1))) := mq_ui (mq_ui k1 (Or.inl rfl)) (Or.inl rfl)
      have S2 : mst (ui (ui y1 105 16 (((10 * y1.1 105 16) + hr z N (a + 1)) - 48)) 105 13 (ii (a + 1 + 1))) N (a + 2) l r := ⟨ui_a, u2, u3, X1⟩
      have n2 : (ui (ui y1 105 16 (((10 * y1.1 105 16) + hr z N (a + 1)) - 48)) 105 13 (ii (a + 1 + 1))).1 105 16 = 10 * (10 * 0 + hr z N a - 48) + hr z N (a + 1) - 48 := by
        rw [← n1]
        rfl
      generalize ui (ui y1 105 16 (((10 * y1.1 105 16) + hr z N (a + 1)) - 48)) 105 13 (ii (a + 1 + 1)) = y2 at k2 S2 n2
      obtain ⟨w1, w2, w3, X2⟩ := S2
      by_cases d3 : dg (hr z N (a + 2))
      · rw [if_pos d3, mr27_B T k2 hN (by omega) w1 w2 d3]
        exact ⟨_, rfl, ui_a, mq_ui k2 (Or.inl rfl)⟩
      · rw [if_neg d3, mr27_N T k2 hN (by omega) w1 w2 d3]
        exact m_hend hq k2 ⟨w1, w2, w3, X2⟩ n2
    · rw [if_neg d2, mr27_N T k1 hN (by omega) u1 u2 d2]
      exact m_hend hq k1 ⟨u1, u2, u3, X1⟩ n1
  · rw [if_neg d1, if_neg d1, if_pos rfl, Option.bind_some, if_pos mcl, m_wrong, Option.bind_some, if_pos (Or.inl rfl)]
    exact ⟨_, rfl, ui_a, mq_ui h3 (Or.inl rfl)⟩
end
