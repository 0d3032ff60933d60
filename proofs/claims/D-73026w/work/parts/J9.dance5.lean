/-! THE PLAIN LAW: dances, the model's call -/
set_option maxRecDepth 100000
def dst (y : z_T) (N a : Nat) (s : DL) : Prop := y.1 105 13 = ii a ∧ y.1 105 14 = ii N ∧ y.1 105 37 = s.1 ∧ y.1 105 38 = s.2.1 ∧ y.1 105 39 = s.2.2.1 ∧ ∀ j, j < 16 → y.1 127 j = s.2.2.2 j
section
variable {L : Nat} {xs : Nat → Int32} {z : z_T}
theorem m_hereK {y : z_T} {N a : Nat} (T : ∀ i, i < 260 → z.1 113 i = z.1 75 i) (h3 : kp z y) (hN : N ≤ 260) (ha : a < 10000) (e1 : y.1 105 13 = ii a) (e2 : y.1 105 14 = ii N) : F_X6_here (hp L xs y) 105 = some (hm z N a) := by
  unfold F_X6_here hm by_
  simp only [zr_0, zr_1, zr_2, zr_3, zr_4, zr_5, zr_6, Option.bind_some, po_s, po_n, e1, e2, ii_lt (show a < 2147483648 by omega) (show N < 2147483648 by omega)]
  by_cases c : a < N
  · simp only [c, ↓reduceIte, zr_0, zr_1, zr_2, zr_3, zr_4, zr_5, zr_6, Option.bind_some, po_s, po_n, za_0, za_1, za_2, za_3, za_4, za_5, show a < 260 by omega, show y.1 113 a = z.1 75 a from (h3.2 113 a rfl).trans (T a (by omega))]
  · simp only [c, ↓reduceIte]
theorem m_letK {y : z_T} {N a : Nat} (T : ∀ i, i < 260 → z.1 113 i = z.1 75 i) (h3 : kp z y) (hN : N ≤ 260) (ha : a < 10000) (e1 : y.1 105 13 = ii a) (e2 : y.1 105 14 = ii N) : F_X6_isLetter (hp L xs y) 105 = some (if ltr (hr z N a) then 1 else 0) := by
  unfold F_X6_isLetter
  rw [if_pos mcl, m_hereK T h3 hN ha e1 e2, Option.bind_some, m_in, Option.bind_some]
  by_cases c : ltr (hr z N a)
  · rw [if_pos (hm_ltr.mpr c), if_pos c]
    rfl
  · rw [if_neg (fun h => c (hm_ltr.mp h)), if_neg c]
    rfl
theorem m_dn {y : z_T} {N a : Nat} {s : DL} (W : I_who z) (H : I_hou z) (J : I_foe z) (T : ∀ i, i < 260 → z.1 113 i = z.1 75 i) (hN : N ≤ 260) (ha : a < 5000) (h3 : kp z y) (D : dst y N a s) : match dnS z N a s with
    | .inl v => ∃ y', F_X6_readsDance (hp L xs y) 105 = some (0, hp L xs y') ∧ y'.1 105 15 = v ∧ kp z y'
    | .inr (a', s') => ∃ y', F_X6_readsDance (hp L xs y) 105 = some (1, hp L xs y') ∧ dst y' N a' s' ∧ kp z y' := by
  obtain ⟨d1, d2, d3, d4, d5, d6⟩ := D
  have bad : ∀ {y : z_T} (w v : Int32) (k : kp z y), ∃ y', ((if pm_cl_ (hp L xs y) 105 = some 5 then F_X6_wrongAt (hp L xs y) 105 w v else none).bind fun q => if q.1 = 0 ∨ q.1 = 1 then some (q.1, q.2) else none) = some (0, hp L xs y') ∧ y'.1 105 15 = -1000 * w - v ∧ kp z y' := fun {y} w v k => by
    rw [if_pos mcl, m_wrong, Option.bind_some, if_pos (Or.inl rfl)]
    exact ⟨_, rfl, ui_a, k.ui rfl⟩
  have e7 : y.1 105 7 = (rl0 z).1 := (h3.2 105 7 rfl).trans W.2.1
  have e8 : y.1 105 8 = lck z := (h3.2 105 8 rfl).trans W.2.2.1
  have p13 : pm_fI [(5, 13)] (hp L xs y) 105 = some (ii a) := by simp only [zr_0, zr_1, zr_2, zr_3, zr_4, zr_5, zr_6, d1]
  unfold dnS F_X6_readsDance
  rw [if_pos mcl, m_letK T h3 hN (by omega) d1 d2, Option.bind_some]
  by_cases c : ltr (hr z N a)
  · obtain ⟨k1, k2⟩ := pn_s c
    rw [if_pos c, if_pos c, if_neg one_ne, if_pos mcl, m_hereK T h3 hN (by omega) d1 d2, Option.bind_some, hm_at (Or.inr c), k2, if_pos mcl, m_toldY e7, Option.bind_some, isT_ii k1]
    by_cases c1 : hb (tld z) (pn (hr z N a)) = true
    · have c1' : hb (rl0 z).1 (pn (hr z N a)) = true := c1
      rw [if_pos c1, if_pos c1', if_neg one_ne, show pm_fI [(5, 8)] (hp L xs y) 105 = some (lck z) by simp only [zr_0, zr_1, zr_2, zr_3, zr_4, zr_5, zr_6, e8], Option.bind_some, m_has (by omega), Option.bind_some]
      by_cases c2 : hb (lck z) (pn (hr z N a)) = true
      · rw [if_pos c2, if_neg one_ne, show pm_fI [(5, 37)] (hp L xs y) 105 = some s.1 by simp only [zr_0, zr_1, zr_2, zr_3, zr_4, zr_5, zr_6, d3], Option.bind_some, m_has (by omega), Option.bind_some]
        by_cases c3 : hb s.1 (pn (hr z N a)) = true
        · rw [if_neg (show ¬ (hb (lck z) (pn (hr z N a)) = true ∧ ¬ hb s.1 (pn (hr z N a)) = true) from fun h => h.2 c3), if_pos c3, if_neg one_ne, p13, Option.bind_some]
          exact bad 8 (ii a) h3
        · rw [if_pos (And.intro c2 c3), if_neg c3, if_pos rfl, p13, Option.bind_some, ii_s, show pm_put [(5, 13, 0)] (hp L xs y) 105 (.int (ii (a + 1))) = some (hp L xs (ui y 105 13 (ii (a + 1)))) by simp only [zw_0, zw_1], Option.bind_some]
          have k3 : kp z (ui y 105 13 (ii (a + 1))) := h3.ui rfl
          have q13 : pm_fI [(5, 13)] (hp L xs (ui y 105 13 (ii (a + 1)))) 105 = some (ii (a + 1)) := by simp only [zr_0, zr_1, zr_2, zr_3, zr_4, zr_5, zr_6]; exact congrArg some ui_a
          rw [if_pos mcl, m_letK T k3 hN (show a + 1 < 10000 by omega) ui_a d2, Option.bind_some]
          by_cases d : ltr (hr z N (a + 1))
          · obtain ⟨m1, m2⟩ := pn_s d
            have eqk : (ii (pn (hr z N (a + 1))) = ii (pn (hr z N a))) = (pn (hr z N (a + 1)) = pn (hr z N a)) := ii_eq (by omega) (by omega)
            rw [if_pos d, if_pos d, if_neg one_ne, if_pos mcl, m_hereK T k3 hN (show a + 1 < 10000 by omega) ui_a d2, Option.bind_some, hm_at (Or.inr d), m2]
            by_cases f1 : pn (hr z N a) = pn (hr z N (a + 1))
            · rw [if_pos f1, if_pos (show ii (pn (hr z N (a + 1))) = ii (pn (hr z N a)) by rw [eqk]; exact f1.symm), q13, Option.bind_some]
              exact bad 6 (ii (a + 1)) k3
            · rw [if_neg f1, if_neg (show ¬ ii (pn (hr z N (a + 1))) = ii (pn (hr z N a)) by rw [eqk]; exact fun x => f1 x.symm), if_pos mcl, m_toldY (r := rl0 z) (show (ui y 105 13 (ii (a + 1))).1 105 7 = (rl0 z).1 from e7), Option.bind_some, isT_ii m1]
              by_cases f2 : hb (tld z) (pn (hr z N (a + 1))) = true
              · have f2' : hb (rl0 z).1 (pn (hr z N (a + 1))) = true := f2
                rw [if_pos f2, if_pos f2', if_neg one_ne, show pm_fI [(5, 37)] (hp L xs (ui y 105 13 (ii (a + 1)))) 105 = some s.1 by simp only [zr_0, zr_1, zr_2, zr_3, zr_4, zr_5, zr_6]; exact congrArg some d3, Option.bind_some, m_has (by omega), Option.bind_some]
                by_cases f3 : hb s.1 (pn (hr z N (a + 1))) = true
                · rw [if_neg (show ¬ (¬ hb s.1 (pn (hr z N (a + 1))) = true ∧ ¬ hb (z.1 10 (pn (hr z N a))) (pn (hr z N (a + 1))) = true) from fun h => h.1 f3), if_pos f3, if_neg one_ne, q13, Option.bind_some]
                  exact bad 9 (ii (a + 1)) k3
                · have r110 : pm_ai 0 (hp L xs (ui y 105 13 (ii (a + 1)))) 110 (ii (pn (hr z N a))) = some (z.1 10 (pn (hr z N a))) := by
                    simp only [za_0, za_1, za_2, za_3, za_4, za_5, k1]
                    exact congrArg some ((h3.2 110 _ rfl).trans (J _ k1).1)
                  rw [if_neg f3, if_pos rfl, show pm_fR [(5, 4)] (hp L xs (ui y 105 13 (ii (a + 1)))) 105 = some 110 by simp only [zr_0, zr_1, zr_2, zr_3, zr_4, zr_5, zr_6], Option.bind_some, r110, Option.bind_some, m_has (by omega), Option.bind_some]
                  by_cases f4 : hb (z.1 10 (pn (hr z N a))) (pn (hr z N (a + 1))) = true
                  · rw [if_neg (show ¬ (¬ hb s.1 (pn (hr z N (a + 1))) = true ∧ ¬ hb (z.1 10 (pn (hr z N a))) (pn (hr z N (a + 1))) = true) from fun h => h.2 f4), if_pos f4, if_neg one_ne, q13, Option.bind_some]
                    exact bad 9 (ii (a + 1)) k3
                  · have h9 : y.1 109 (pn (hr z N a)) = z.1 9 (pn (hr z N a)) := (h3.2 109 _ rfl).trans (H _ k1).1
                    have hq := d6 _ m1
                    rw [if_pos (show ¬ hb s.1 (pn (hr z N (a + 1))) = true ∧ ¬ hb (z.1 10 (pn (hr z N a))) (pn (hr z N (a + 1))) = true from ⟨f3, f4⟩), if_neg f4, if_pos rfl]
                    refine ⟨ui (ui (ui (ui (ui (ui y 105 13 (ii (a + 1))) 105 13 (ii (a + 2))) 105 37 (s.1 ||| bt (pn (hr z N a)))) 105 39 (s.2.2.1 + ab (s.2.2.2 (pn (hr z N (a + 1))) - z.1 9 (pn (hr z N a))))) 127 (pn (hr z N (a + 1))) (z.1 9 (pn (hr z N a)))) 105 38 (s.2.1 + 1), ?_, ⟨rfl, d2, rfl, rfl, rfl, fun j hj => ?_⟩, ((((k3.ui rfl).ui rfl).ui rfl).ui rfl).ui rfl⟩
                    · rw [q13, Option.bind_some, ii_s]
                      simp only [zw_0, zw_1, zr_0, zr_1, zr_2, zr_3, zr_4, zr_5, zr_6, Option.bind_some, po_s, po_n, za_0, za_1, za_2, za_3, za_4, za_5, m1, k1, m_size, btd]
                      have g1 : (ui (ui y 105 13 (ii (a + 1))) 105 13 (ii (a + 1 + 1))).1 105 37 = s.1 := d3
                      rw [g1]
                      have g2 : ∀ v, (ui (ui (ui y 105 13 (ii (a + 1))) 105 13 (ii (a + 1 + 1))) 105 37 v).1 105 39 = s.2.2.1 := fun v => d5
                      have g3 : ∀ v, (ui (ui (ui y 105 13 (ii (a + 1))) 105 13 (ii (a + 1 + 1))) 105 37 v).1 127 (pn (hr z N (a + 1))) = s.2.2.2 (pn (hr z N (a + 1))) := fun v => hq
                      have g4 : ∀ v, (ui (ui (ui y 105 13 (ii (a + 1))) 105 13 (ii (a + 1 + 1))) 105 37 v).1 109 (pn (hr z N a)) = z.1 9 (pn (hr z N a)) := fun v => h9
                      rw [g2, g3, g4]
                      have g5 : ∀ v w, (ui (ui (ui (ui y 105 13 (ii (a + 1))) 105 13 (ii (a + 1 + 1))) 105 37 v) 105 39 w).1 109 (pn (hr z N a)) = z.1 9 (pn (hr z N a)) := fun v w => h9
                      rw [g5]
                      have g6 : ∀ v w x, (ui (ui (ui (ui (ui y 105 13 (ii (a + 1))) 105 13 (ii (a + 1 + 1))) 105 37 v) 105 39 w) 127 (pn (hr z N (a + 1))) x).1 105 38 = s.2.1 := fun v w x => d4
                      rw [g6]
                    · rw [ui_o (by decide), ui_i]
                      exact upd_cg (d6 j hj)
              · have f2' : ¬ hb (rl0 z).1 (pn (hr z N (a + 1))) = true := f2
                rw [if_neg f2, if_neg f2', if_pos rfl, q13, Option.bind_some]
                exact bad 7 (ii (a + 1)) k3
          · rw [if_neg d, if_neg d, if_pos rfl, q13, Option.bind_some]
            exact bad 1 (ii (a + 1)) k3
      · rw [if_neg (show ¬ (hb (lck z) (pn (hr z N a)) = true ∧ ¬ hb s.1 (pn (hr z N a)) = true) from fun h => c2 h.1), if_neg c2, if_pos rfl, p13, Option.bind_some]
        exact bad 8 (ii a) h3
    · have c1' : ¬ hb (rl0 z).1 (pn (hr z N a)) = true := c1
      rw [if_neg c1, if_neg c1', if_pos rfl, p13, Option.bind_some]
      exact bad 7 (ii a) h3
  · rw [if_neg c, if_neg c, if_pos rfl, p13, Option.bind_some]
    exact bad 1 (ii a) h3
end
