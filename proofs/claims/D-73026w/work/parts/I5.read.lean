/-! THE PLAIN LAW: orders read, the component's -/
set_option maxRecDepth 100000
theorem hr_v {z : z_T} {N a : Nat} : ∃ v, v < 256 ∧ hr z N a = ii v := by
  unfold hr
  by_cases c : a < N
  · rw [if_pos c]
    exact byte
  · rw [if_neg c]
    exact ⟨0, by omega, rfl⟩
def F5 (q : Nat) : Int32 := ([64, 35, 61, 42, 38] : List Int32).getD q 0
theorem sg_ix : ∀ v, v < 256 → (ixl F5 (pm_i2b (ii v)) 5 0 < 0 ↔ ¬ (ii v = 64 ∨ ii v = 35 ∨ ii v = 61 ∨ ii v = 42 ∨ ii v = 38)) := by decide +kernel
section
variable {L : Nat} {xs : Nat → Int32} {z : z_T} {e : Nat}
theorem x_sign {y : z_T} {c : Int32} {n : Nat} (hc : ∃ v, v < 256 ∧ c = ii v) (hn : 120 ≤ n) : ∃ k, F_J0_indexOf n (hp L xs y) 3 c = some k ∧ (k < 0 ↔ ¬ sg c) := by
  obtain ⟨v, hv, rfl⟩ := hc
  exact ⟨_, x_ixo (s := 3) (b := 6) (m := 5) (F := F5) (zs_g (by decide)) (zs_g (by decide)) (by decide) (by decide) hv hn, sg_ix v hv⟩
theorem x_line {y : z_T} {N a l n : Nat} {r : RL} {p : Int32} (he : 135 ≤ e ∧ e < 135 + y.2.2.2.2.1) (hN : N ≤ 260) (ha : a < 4000) (hl : l ≤ 24) (h3 : kp z y) (X : xrl y r) (hn : 200 ≤ n) : xO L xs z e N (ii (l + 1)) (lnS z N a l r) (F_X17_line n (cS L xs y e (ii N) (ii a) 0 p (ii l)) e) := by
  have X0 := X
  obtain ⟨x1, x2, x3, x4⟩ := X
  obtain ⟨t1, t2, t3, t4, t5, t6, t7, t8, t9, t10, t11, t12, t13, t14, t15, t16⟩ := cs_all (L := L) (xs := xs) (y := y) he
  have hh := hr_kp h3
  have fin : ∀ (A f p w : Int32), f ≠ 0 → -1000 * f - p = w → xO L xs z e N (ii (l + 1)) (.inl w) (some (cS L xs y e (ii N) A f p (ii (l + 1)))) := fun A f p w hf hw => ⟨y, A, f, p, rfl, hf, hw, h3⟩
  obtain ⟨k, hk, hsg⟩ := x_sign (L := L) (xs := xs) (y := ue y e (sc 13 (ii N) (ii (a + 1)) 0 p [.int (ii (l + 1)), .ref 7])) (c := hr z N (a + 1)) (n := n) hr_v (by omega)
  have hk : F_J0_indexOf n (cS L xs y e (ii N) (ii (a + 1)) 0 p (ii (l + 1))) 3 (hr z N (a + 1)) = some k := hk
  unfold lnS F_X17_line
  rw [if_pos (t1 _ _ _ _ _), t2, Option.bind_some, if_pos (t1 _ _ _ _ _), cs_person he hN (by omega), Option.bind_some, hh]
  by_cases c : ltr (hr z N a)
  · obtain ⟨k1, k2⟩ := pn_s c
    rw [if_pos c, if_pos c]
    dsimp only
    rw [k2]
    have e24 : (ii l = 24) = (l = 24) := ii_eq (b := 24) (by omega) (by omega)
    simp only [t1, t3, t7, ↓reduceIte, Option.bind_some, po_s, po_n, one_ne0, e24]
    by_cases c1 : l = 24
    · subst c1
      simp only [↓reduceIte, Option.bind_some, po_s, po_n, t1, t2, t3, t4, t5, t6 N (a + 1) 4 (ii a) _ hN (by omega), t7, t9, show ¬ (4 : Int32) = 0 by decide, ii_s]
      exact fin _ 4 _ _ (by decide) rfl
    · simp only [c1, ↓reduceIte, Option.bind_some, po_s, po_n, t1, t2, t3, t5, t6 N (a + 1) 0 p _ hN (by omega), t7, t9, one_ne0, ii_s, hh]
      by_cases c2 : sg (hr z N (a + 1))
      · have c0 : ¬ hr z N (a + 1) = 0 := fun q => by rw [q] at c2; exact absurd c2 (by decide)
        have ck : ¬ k < 0 := fun q => (hsg.mp q) c2
        rw [if_pos c2]
        simp only [c0, ↓reduceIte, Option.bind_some, po_s, po_n, t15, hk, ck, t1, t3, one_ne0]
        by_cases c3 : hr z N (a + 1) = 64
        · simp only [c3, ↓reduceIte, Option.bind_some, po_s, po_n, t1, t3, t5, one_ne0, ii_s, show ¬ (64 : Int32) = 35 by decide, show ¬ (64 : Int32) = 61 by decide]
          have := x_house (L := L) (xs := xs) (z := z) (n := n) (p := p) (l := ii (l + 1)) he k1 hN (show a + 2 < 5000 by omega) h3 X0 (by omega)
          have ea : a + 1 + 1 = a + 2 := rfl
          rw [ea]
          revert this
          cases F_X17_house n (cS L xs y e (ii N) (ii (a + 2)) 0 p (ii (l + 1))) e (ii (pn (hr z N a))) <;> exact id
        · rw [if_neg c3, if_neg c3]
          simp only [t8, t10, t11, t12, isT_ii k1, b01, ↓reduceIte, Option.bind_some, po_s, po_n, x1]
          by_cases c4 : hb r.1 (pn (hr z N a)) = true
          · simp only [c4, one_ne0, Bool.false_eq_true, not_true, not_false_eq_true, Classical.not_not, ↓reduceIte, Option.bind_some, po_s, po_n, t1, t3, t5, ii_s]
            by_cases c5 : hr z N (a + 1) = 35
            · simp only [c5, ↓reduceIte, Option.bind_some, po_s, po_n, t8, t10, t13, t14, btd]
              refine ⟨_, p, rfl, h3.ui rfl, ?_, ?_, fun j hj => ?_, fun j hj => ?_⟩
              · rw [ui_b (by decide), x1]
              · rw [ui_a, x2]
              · rw [ui_o (by decide)]; exact x3 j hj
              · rw [ui_o (by decide)]; exact x4 j hj
            · by_cases c6 : hr z N (a + 1) = 61
              · simp only [c6, ↓reduceIte, Option.bind_some, po_s, po_n, t8, t10, t13, t14, btd, show ¬ (61 : Int32) = 35 by decide]
                refine ⟨_, p, rfl, h3.ui rfl, ?_, ?_, fun j hj => ?_, fun j hj => ?_⟩
                · rw [ui_b (by decide), x1]
                · rw [ui_a, x2]
                · rw [ui_o (by decide)]; exact x3 j hj
                · rw [ui_o (by decide)]; exact x4 j hj
              · have ea : a + 1 + 1 = a + 2 := rfl
                simp only [c5, c6, c3, ↓reduceIte, Option.bind_some, po_s, po_n]
                rw [ea]
                by_cases c7 : hr z N (a + 1) = 42
                · have := x_quar (L := L) (xs := xs) (z := z) (b := true) (p := p) (l := ii (l + 1)) he k1 hN (show a + 2 < 5000 by omega) h3 X0
                  have this : xO L xs z e N (ii (l + 1)) (otS z N (a + 2) (pn (hr z N a)) true r) (F_X17_quarrel (cS L xs y e (ii N) (ii (a + 2)) 0 p (ii (l + 1))) e (ii (pn (hr z N a))) 1) := this
                  rw [if_pos c7, decide_eq_true c7]
                  revert this
                  cases F_X17_quarrel (cS L xs y e (ii N) (ii (a + 2)) 0 p (ii (l + 1))) e (ii (pn (hr z N a))) 1 <;> exact id
                · have := x_quar (L := L) (xs := xs) (z := z) (b := false) (p := p) (l := ii (l + 1)) he k1 hN (show a + 2 < 5000 by omega) h3 X0
                  have this : xO L xs z e N (ii (l + 1)) (otS z N (a + 2) (pn (hr z N a)) false r) (F_X17_quarrel (cS L xs y e (ii N) (ii (a + 2)) 0 p (ii (l + 1))) e (ii (pn (hr z N a))) 0) := this
                  rw [if_neg c7, decide_eq_false c7]
                  revert this
                  cases F_X17_quarrel (cS L xs y e (ii N) (ii (a + 2)) 0 p (ii (l + 1))) e (ii (pn (hr z N a))) 0 <;> exact id
          · have c4' : hb r.1 (pn (hr z N a)) = false := by simpa using c4
            simp only [c4', one_ne0, Bool.false_eq_true, not_true, not_false_eq_true, Classical.not_not, ↓reduceIte, Option.bind_some, po_s, po_n, t1, t3, t4, t5, show ¬ (7 : Int32) = 0 by decide]
            exact fin _ 7 _ _ (by decide) rfl
      · rw [if_neg c2]
        by_cases c0 : hr z N (a + 1) = 0
        · simp only [c0, ↓reduceIte, Option.bind_some, po_s, po_n, t1, t2, t3, t4, t5, show ¬ (1 : Int32) = 0 by decide]
          exact fin _ 1 _ _ (by decide) rfl
        · have ck : k < 0 := hsg.mpr c2
          simp only [c0, ck, hk, t15, ↓reduceIte, Option.bind_some, po_s, po_n, t1, t2, t3, t4, t5, show ¬ (1 : Int32) = 0 by decide]
          exact fin _ 1 _ _ (by decide) rfl
  · rw [if_neg c, if_neg c]
    dsimp only
    simp only [t1, t3, t5, t7, t9, t6 N (a + 1) 1 (ii a) _ hN (by omega), show ¬ (1 : Int32) = 0 by decide, ↓reduceIte, Option.bind_some, po_s, po_n, ii_s]
    exact fin _ 1 _ _ (by decide) rfl
end
