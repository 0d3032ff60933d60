/-! THE PLAIN LAW: dances, two by two, the component's -/
set_option maxRecDepth 100000
section
variable {L : Nat} {xs : Nat → Int32} {z : z_T} {e : Nat}
theorem s_personF {n a cl : Nat} {f p : Int32} {R : List Value} (hc : cl = 13 ∨ cl = 14) (he : 135 ≤ e ∧ e < 135 + z.2.2.2.2.1) (hn : n ≤ 260) (ha : a < 2147483648) (hf : f ≠ 0) : F_X16_person (hp L xs (ue z e (sc cl (ii n) (ii a) f p R))) e = some (hr z n a - 97, hp L xs (ue z e (sc cl (ii n) (ii (a + 1)) f p R))) := by
  obtain ⟨r0, r1, r2, r3, r4, r5⟩ := sc_r (L := L) (xs := xs) (z := z) (e := e) (N := ii n) (A := ii a) (f := f) (p := p) (R := R) hc he
  obtain ⟨w1, w2, w3⟩ := sc_w (L := L) (xs := xs) (z := z) (e := e) (N := ii n) (A := ii a) (f := f) (p := p) (R := R) hc he
  unfold F_X16_person
  rw [s_cl (cl := cl) hc he rfl, s_here hc he hn ha, Option.bind_some, s_cl (cl := cl) hc he rfl, s_good hc he, Option.bind_some, if_pos (good0 hf), r1, Option.bind_some, w1, Option.bind_some, ii_s]
theorem ds_personF {y : z_T} {N a : Nat} {f p : Int32} {s : DL} (he : 135 ≤ e ∧ e + 1 < 135 + y.2.2.2.2.1) (hN : N ≤ 260) (ha : a < 10000) (hf : f ≠ 0) : F_X16_person (dS L xs y e (ii N) (ii a) f p s) e = some (hr y N a - 97, dS L xs y e (ii N) (ii (a + 1)) f p s) :=
  s_personF (z := dY y e s.2.2.2) (Or.inr rfl) ⟨he.1, by show e < 135 + y.2.2.2.2.1; omega⟩ hN (by omega) hf
theorem ds_roll {y : z_T} : (∀ N A f p s, pm_fR [(0, 0)] (dS L xs y e N A f p s) 7 = some 8) ∧ (∀ N A f p s, pm_cl_ (dS L xs y e N A f p s) 8 = some 1) ∧ (∀ N A f p s x, F_X1_isTold (dS L xs y e N A f p s) 8 x = some (if isT (tld y) x = true then 1 else 0)) ∧ (∀ N A f p s, pm_fI [(1, 3)] (dS L xs y e N A f p s) 8 = some (lck y)) ∧ (∀ N A f p s, pm_fR [(1, 1)] (dS L xs y e N A f p s) 8 = some 10) ∧ (∀ N A f p s, pm_fR [(1, 0)] (dS L xs y e N A f p s) 8 = some 9) ∧ (∀ N A f p s k, k < 16 → pm_ai 0 (dS L xs y e N A f p s) 10 (ii k) = some (y.1 10 k)) ∧ (∀ N A f p s k, k < 16 → pm_ai 0 (dS L xs y e N A f p s) 9 (ii k) = some (y.1 9 k)) := by
  refine ⟨fun N A f p s => ?_, fun N A f p s => ?_, fun N A f p s x => ?_, fun N A f p s => ?_, fun N A f p s => ?_, fun N A f p s => ?_, fun N A f p s k hk => ?_, fun N A f p s k hk => ?_⟩
  · unfold dS; simp only [zr_0, zr_1, zr_2, zr_3, zr_4, zr_5, zr_6]
  · unfold dS; simp only [zr_0, zr_1, zr_2, zr_3, zr_4, zr_5, zr_6]
  · unfold dS; rw [x_told]; rfl
  · unfold dS; simp only [zr_0, zr_1, zr_2, zr_3, zr_4, zr_5, zr_6]; rfl
  · unfold dS; simp only [zr_0, zr_1, zr_2, zr_3, zr_4, zr_5, zr_6]
  · unfold dS; simp only [zr_0, zr_1, zr_2, zr_3, zr_4, zr_5, zr_6]
  · unfold dS; simp only [za_0, za_1, za_2, za_3, za_4, za_5, hk]; rfl
  · unfold dS; simp only [za_0, za_1, za_2, za_3, za_4, za_5, hk]; rfl
/-- what a step leaves -/
def xD (L : Nat) (xs : Nat → Int32) (y : z_T) (e N : Nat) (o : Int32 ⊕ (Nat × DL)) (S : Option pm_H) : Prop := match o with
  | .inl v => ∃ A f p s, S = some (dS L xs y e (ii N) A f p s) ∧ f ≠ 0 ∧ -1000 * f - p = v
  | .inr (a, s) => ∃ p, S = some (dS L xs y e (ii N) (ii a) 0 p s)
theorem x_two {y : z_T} {N a : Nat} {p : Int32} {s : DL} (he : 135 ≤ e ∧ e + 1 < 135 + y.2.2.2.2.1) (hN : N ≤ 260) (ha : a < 5000) : xD L xs y e N (dnS y N a s) (F_X18_two (dS L xs y e (ii N) (ii a) 0 p s) e) := by
  obtain ⟨t1, t2, t3, t4, t5, t6, t7, t8, t9, t10, t11, t12, t13, t14, t15⟩ := ds_all (L := L) (xs := xs) (y := y) he
  obtain ⟨u1, u2, u3, u4, u5, u6, u7, u8⟩ := ds_roll (L := L) (xs := xs) (e := e) (y := y)
  have pF := fun f p s (hf : f ≠ 0) => ds_personF (L := L) (xs := xs) (y := y) (e := e) (N := N) (a := a + 1) (f := f) (p := p) (s := s) he hN (by omega) hf
  have g7 : ¬ (7 : Int32) = 0 := by decide
  have g8 : ¬ (8 : Int32) = 0 := by decide
  have g1 : ¬ (1 : Int32) = 0 := by decide
  have g6 : ¬ (6 : Int32) = 0 := by decide
  have g9 : ¬ (9 : Int32) = 0 := by decide
  unfold dnS F_X18_two
  rw [if_pos (t1 _ _ _ _ _), t2, Option.bind_some, if_pos (t1 _ _ _ _ _), ds_person he hN (by omega), Option.bind_some]
  by_cases c : ltr (hr y N a)
  · obtain ⟨k1, k2⟩ := pn_s c
    rw [if_pos c, if_pos c]
    dsimp only
    rw [k2]
    simp only [t1, t3, t9, u1, u2, u3, isT_ii k1, b01, ↓reduceIte, Option.bind_some, po_s, po_n, one_ne0]
    by_cases c1 : hb (tld y) (pn (hr y N a)) = true
    · simp only [c1, one_ne0, Bool.false_eq_true, not_true, not_false_eq_true, Classical.not_not, ↓reduceIte, Option.bind_some, po_s, po_n, t1, t2, t3, t9, u1, u4, e_has (show pn (hr y N a) < 32 by omega), b01]
      by_cases c2 : hb (lck y) (pn (hr y N a)) = true
      · by_cases c3 : hb s.1 (pn (hr y N a)) = true
        · have c23 : ¬ (hb (lck y) (pn (hr y N a)) = true ∧ ¬ hb s.1 (pn (hr y N a)) = true) := fun h => h.2 c3
          rw [if_neg c23]
          simp only [c2, c3, one_ne0, Bool.false_eq_true, not_true, not_false_eq_true, Classical.not_not, ↓reduceIte, Option.bind_some, po_s, po_n, t1, t2, t3, t4, t5, e_has (show pn (hr y N a) < 32 by omega), b01, pF 8 _ _ g8, g8]
          exact ⟨_, 8, _, _, rfl, g8, rfl⟩
        · have c23 : hb (lck y) (pn (hr y N a)) = true ∧ ¬ hb s.1 (pn (hr y N a)) = true := ⟨c2, c3⟩
          have c3' : hb s.1 (pn (hr y N a)) = false := by simpa using c3
          rw [if_pos c23]
          simp only [c2, c3', one_ne0, Bool.false_eq_true, not_true, not_false_eq_true, Classical.not_not, ↓reduceIte, Option.bind_some, po_s, po_n, t1, t2, t3, t5, e_has (show pn (hr y N a) < 32 by omega), b01, ds_person he hN (show a + 1 < 10000 by omega)]
          by_cases d : ltr (hr y N (a + 1))
          · obtain ⟨m1, m2⟩ := pn_s d
            rw [if_pos d, if_pos d]
            rw [m2]
            have eqk : (ii (pn (hr y N a)) = ii (pn (hr y N (a + 1)))) = (pn (hr y N a) = pn (hr y N (a + 1))) := ii_eq (by omega) (by omega)
            simp only [eqk, t1, t3, one_ne0, Bool.false_eq_true, not_true, not_false_eq_true, Classical.not_not, ↓reduceIte, Option.bind_some, po_s, po_n]
            by_cases d1 : pn (hr y N a) = pn (hr y N (a + 1))
            · simp only [d1, ↓reduceIte, Option.bind_some, po_s, po_n, t1, t3, t4, g6]
              exact ⟨_, 6, _, _, rfl, g6, rfl⟩
            · simp only [d1, ↓reduceIte, Option.bind_some, po_s, po_n, t1, t3, t9, u1, u2, u3, isT_ii m1, b01, one_ne0]
              by_cases d2 : hb (tld y) (pn (hr y N (a + 1))) = true
              · simp only [d2, one_ne0, Bool.false_eq_true, not_true, not_false_eq_true, Classical.not_not, ↓reduceIte, Option.bind_some, po_s, po_n, t1, t3, t5, t9, u1, u5, u7 _ _ _ _ _ _ k1, e_has (show pn (hr y N (a + 1)) < 32 by omega), b01]
                by_cases d3 : hb s.1 (pn (hr y N (a + 1))) = true
                · rw [if_neg (show ¬ (¬ hb s.1 (pn (hr y N (a + 1))) = true ∧ ¬ hb (y.1 10 (pn (hr y N a))) (pn (hr y N (a + 1))) = true) from fun h => h.1 d3)]
                  simp only [d3, one_ne0, Bool.false_eq_true, not_true, not_false_eq_true, Classical.not_not, ↓reduceIte, Option.bind_some, po_s, po_n, t1, t3, t4, g9]
                  exact ⟨_, 9, _, _, rfl, g9, rfl⟩
                · have d3' : hb s.1 (pn (hr y N (a + 1))) = false := by simpa using d3
                  by_cases d4 : hb (y.1 10 (pn (hr y N a))) (pn (hr y N (a + 1))) = true
                  · rw [if_neg (show ¬ (¬ hb s.1 (pn (hr y N (a + 1))) = true ∧ ¬ hb (y.1 10 (pn (hr y N a))) (pn (hr y N (a + 1))) = true) from fun h => h.2 d4)]
                    simp only [d3', d4, one_ne0, Bool.false_eq_true, not_true, not_false_eq_true, Classical.not_not, ↓reduceIte, Option.bind_some, po_s, po_n, t1, t3, t4, t9, u1, u5, u7 _ _ _ _ _ _ k1, e_has (show pn (hr y N (a + 1)) < 32 by omega), b01, g9]
                    exact ⟨_, 9, _, _, rfl, g9, rfl⟩
                  · have d4' : hb (y.1 10 (pn (hr y N a))) (pn (hr y N (a + 1))) = false := by simpa using d4
                    rw [if_pos (show ¬ hb s.1 (pn (hr y N (a + 1))) = true ∧ ¬ hb (y.1 10 (pn (hr y N a))) (pn (hr y N (a + 1))) = true from ⟨d3, d4⟩)]
                    simp only [d3', d4', one_ne0, Bool.false_eq_true, not_true, not_false_eq_true, Classical.not_not, ↓reduceIte, Option.bind_some, po_s, po_n, t1, t3, t5, t6, t7, t8, t9, t10, t11, t12, u1, u5, u6, u7 _ _ _ _ _ _ k1, u8 _ _ _ _ _ _ k1, t14 _ _ _ _ _ _ m1, t15 _ _ _ _ _ _ _ m1, e_has (show pn (hr y N (a + 1)) < 32 by omega), b01, e_abs, btd]
                    exact ⟨p, rfl⟩
              · have d2' : hb (tld y) (pn (hr y N (a + 1))) = false := by simpa using d2
                simp only [d2', one_ne0, Bool.false_eq_true, not_true, not_false_eq_true, Classical.not_not, ↓reduceIte, Option.bind_some, po_s, po_n, t1, t3, t4, g7]
                exact ⟨_, 7, _, _, rfl, g7, rfl⟩
          · rw [if_neg d, if_neg d]
            simp only [t1, t3, one_ne0, Bool.false_eq_true, not_true, not_false_eq_true, Classical.not_not, ↓reduceIte, Option.bind_some, po_s, po_n, g1]
            exact ⟨_, 1, _, _, rfl, g1, rfl⟩
      · have c2' : hb (lck y) (pn (hr y N a)) = false := by simpa using c2
        rw [if_neg (show ¬ (hb (lck y) (pn (hr y N a)) = true ∧ ¬ hb s.1 (pn (hr y N a)) = true) from fun h => c2 h.1)]
        simp only [c2', one_ne0, Bool.false_eq_true, not_true, not_false_eq_true, Classical.not_not, ↓reduceIte, Option.bind_some, po_s, po_n, t1, t2, t3, t4, pF 8 _ _ g8, g8]
        exact ⟨_, 8, _, _, rfl, g8, rfl⟩
    · have c1' : hb (tld y) (pn (hr y N a)) = false := by simpa using c1
      simp only [c1', one_ne0, Bool.false_eq_true, not_true, not_false_eq_true, Classical.not_not, ↓reduceIte, Option.bind_some, po_s, po_n, t1, t2, t3, t4, pF 7 _ _ g7, g7]
      exact ⟨_, 7, _, _, rfl, g7, rfl⟩
  · rw [if_neg c, if_neg c]
    dsimp only
    simp only [t1, t2, t3, one_ne0, Bool.false_eq_true, not_true, not_false_eq_true, Classical.not_not, ↓reduceIte, Option.bind_some, po_s, po_n, pF 1 _ _ g1, g1]
    exact ⟨_, 1, _, _, rfl, g1, rfl⟩
end
