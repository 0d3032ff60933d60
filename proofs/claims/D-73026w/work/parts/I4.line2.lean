/-! THE PLAIN LAW: a quarrel, a line, the component's walk -/
set_option maxRecDepth 100000
section
variable {L : Nat} {xs : Nat → Int32} {z : z_T} {e : Nat}
theorem cs_all {y : z_T} (he : 135 ≤ e ∧ e < 135 + y.2.2.2.2.1) :
    (∀ N A f p l, pm_cl_ (cS L xs y e N A f p l) e = some 13) ∧ (∀ N A f p l, F_X16_place (cS L xs y e N A f p l) e = some A) ∧ (∀ N A f p l, F_X16_isGood (cS L xs y e N A f p l) e = some (if f = 0 then 1 else 0)) ∧ (∀ N A p l w v, F_X16_bad (cS L xs y e N A 0 p l) e w v = some (cS L xs y e N A w v l)) ∧ (∀ N A f p l, F_X16_goesOn (cS L xs y e N A f p l) e = some (cS L xs y e N (A + 1) f p l)) ∧ (∀ N a f p l, N ≤ 260 → a < 10000 → F_X16_here (cS L xs y e (ii N) (ii a) f p l) e = some (hr y N a)) ∧ (∀ N A f p l, pm_fI [(13, 5)] (cS L xs y e N A f p l) e = some l) ∧ (∀ N A f p l, pm_fR [(13, 6)] (cS L xs y e N A f p l) e = some 7) ∧ (∀ N A f p l v, pm_put [(13, 5, 0)] (cS L xs y e N A f p l) e (.int v) = some (cS L xs y e N A f p v)) ∧ (∀ N A f p l, pm_fR [(0, 1)] (cS L xs y e N A f p l) 7 = some 11) ∧ (∀ N A f p l, pm_cl_ (cS L xs y e N A f p l) 11 = some 1) ∧ (∀ N A f p l x, F_X1_isTold (cS L xs y e N A f p l) 11 x = some (if isT (y.1 11 2) x = true then 1 else 0)) ∧ (∀ N A f p l, pm_fI [(1, 3)] (cS L xs y e N A f p l) 11 = some (y.1 11 3)) ∧ (∀ N A f p l v, pm_put [(1, 3, 0)] (cS L xs y e N A f p l) 11 (.int v) = some (cS L xs (ui y 11 3 v) e N A f p l)) ∧ (∀ N A f p l, pm_cl_ (cS L xs y e N A f p l) 3 = some 30) ∧ (∀ N A f p l, F_X16_isEnd (cS L xs y e N A f p l) e = some (if A < N then 0 else 1)) :=
  ⟨fun N A f p l => (c_r he).2.2.1, fun N A f p l => s_place (Or.inl rfl) he, fun N A f p l => s_good (Or.inl rfl) he, fun N A p l w v => s_bad (Or.inl rfl) he, fun N A f p l => s_on (Or.inl rfl) he, fun N a f p l h1 h2 => s_here (Or.inl rfl) he h1 (by omega), fun N A f p l => (c_r he).1, fun N A f p l => (c_r he).2.1, fun N A f p l v => (c_r he).2.2.2 v, fun N A f p l => (by unfold cS; simp only [zr_0, zr_1, zr_2, zr_3, zr_4, zr_5, zr_6]), fun N A f p l => (by unfold cS; simp only [zr_0, zr_1, zr_2, zr_3, zr_4, zr_5, zr_6]), fun N A f p l x => (by unfold cS; rw [x_told11]; rfl), fun N A f p l => (by unfold cS; simp only [zr_0, zr_1, zr_2, zr_3, zr_4, zr_5, zr_6]; rfl), fun N A f p l v => (by unfold cS; simp only [zw_0, zw_1]; rfl), fun N A f p l => (by
    unfold cS pm_cl_
    rw [zs_g (by decide)]
    rfl), fun N A f p l => s_end (Or.inl rfl) he⟩
theorem cs_person {y : z_T} {N a : Nat} {p l : Int32} (he : 135 ≤ e ∧ e < 135 + y.2.2.2.2.1) (hN : N ≤ 260) (ha : a < 10000) : F_X16_person (cS L xs y e (ii N) (ii a) 0 p l) e = some (hr y N a - 97, if ltr (hr y N a) then cS L xs y e (ii N) (ii (a + 1)) 0 p l else cS L xs y e (ii N) (ii (a + 1)) 1 (ii a) l) := by
  have := s_person (L := L) (xs := xs) (z := y) (e := e) (cl := 13) (p := p) (R := [.int l, .ref 7]) (n := N) (a := a) (Or.inl rfl) he hN (by omega)
  show F_X16_person (hp L xs (ue y e (sc 13 (ii N) (ii a) 0 p [.int l, .ref 7]))) e = _
  rw [this]
  unfold cS
  by_cases c : ltr (hr y N a)
  · rw [if_pos c, if_pos c]
  · rw [if_neg c, if_neg c]
theorem x_parts {y : z_T} {p q : Nat} {b : Bool} (hp1 : p < 16) (hq : q < 16) : F_X1_parts (hp L xs y) 11 (ii p) (ii q) (if b = true then 1 else 0) = some (hp L xs (ui (ui y 13 p (one_ (y.1 13 p) q b)) 13 q (one_ ((ui y 13 p (one_ (y.1 13 p) q b)).1 13 q) p b))) := by
  unfold F_X1_parts one_
  cases b
  · simp only [zr_0, zr_1, zr_2, zr_3, zr_4, zr_5, zr_6, za_0, za_1, za_2, za_3, za_4, za_5, hp1, hq, Bool.false_eq_true, ↓reduceIte, Option.bind_some, po_s, po_n, zw_0, zw_1, btd]
  · simp only [zr_0, zr_1, zr_2, zr_3, zr_4, zr_5, zr_6, za_0, za_1, za_2, za_3, za_4, za_5, hp1, hq, one_ne0, ↓reduceIte, Option.bind_some, po_s, po_n, zw_0, zw_1, btd]
theorem x_quar {y : z_T} {N a q : Nat} {r : RL} {b : Bool} {p l : Int32} (he : 135 ≤ e ∧ e < 135 + y.2.2.2.2.1) (hq : q < 16) (hN : N ≤ 260) (ha : a < 5000) (h3 : kp z y) (X : xrl y r) : xO L xs z e N l (otS z N a q b r) (F_X17_quarrel (cS L xs y e (ii N) (ii a) 0 p l) e (ii q) (if b = true then 1 else 0)) := by
  obtain ⟨x1, x2, x3, x4⟩ := X
  obtain ⟨t1, t2, t3, t4, t5, t6, t7, t8, t9, t10, t11, t12, t13, t14, t15, t16⟩ := cs_all (L := L) (xs := xs) (y := y) he
  have hh := hr_kp h3
  unfold otS F_X17_quarrel
  rw [if_pos (t1 _ _ _ _ _), t2, Option.bind_some, if_pos (t1 _ _ _ _ _), cs_person he hN (by omega), Option.bind_some, hh]
  by_cases c : ltr (hr z N a)
  · obtain ⟨k1, k2⟩ := pn_s c
    rw [if_pos c, if_pos c]
    dsimp only
    rw [k2]
    simp only [t1, t2, t3, ↓reduceIte, Option.bind_some, po_s, po_n, one_ne0, ii_eq (show q < 2147483648 by omega) (show pn (hr z N a) < 2147483648 by omega)]
    by_cases c1 : q = pn (hr z N a)
    · simp only [c1, ↓reduceIte, Option.bind_some, po_s, po_n, t1, t3, t4, show ¬ (6 : Int32) = 0 by decide]
      exact ⟨y, _, 6, _, rfl, by decide, rfl, h3⟩
    · simp only [c1, ↓reduceIte, Option.bind_some, po_s, po_n, t1, t3, t8, t10, t11, t12, isT_ii k1, b01, one_ne0, x1]
      by_cases c2 : hb r.1 (pn (hr z N a)) = true
      · simp only [c2, one_ne0, Bool.false_eq_true, not_true, not_false_eq_true, Classical.not_not, ↓reduceIte, Option.bind_some, po_s, po_n, t1, t3, t8, t10, t11]
        have hP := x_parts (L := L) (xs := xs) (y := ue y e (sc 13 (ii N) (ii (a + 1)) 0 p [.int l, .ref 7])) (b := b) hq k1
        have hP : F_X1_parts (cS L xs y e (ii N) (ii (a + 1)) 0 p l) 11 (ii q) (ii (pn (hr z N a))) (if b = true then 1 else 0) = some (cS L xs (ui (ui y 13 q (one_ (y.1 13 q) (pn (hr z N a)) b)) 13 (pn (hr z N a)) (one_ ((ui y 13 q (one_ (y.1 13 q) (pn (hr z N a)) b)).1 13 (pn (hr z N a))) q b)) e (ii N) (ii (a + 1)) 0 p l) := hP
        rw [hP]
        refine ⟨_, p, rfl, (h3.ui rfl).ui rfl, ?_, ?_, fun j hj => ?_, fun j hj => ?_⟩
        · rw [ui_o (by decide), ui_o (by decide), x1]
        · rw [ui_o (by decide), ui_o (by decide), x2]
        · rw [ui_o (by decide), ui_o (by decide)]
          exact x3 j hj
        · rw [ui_i, ui_i]
          unfold prt upd
          dsimp only
          rw [x4 q hq, x4 _ k1]
          by_cases d1 : j = pn (hr z N a)
          · rw [if_pos d1, if_pos d1]
          · rw [if_neg d1, if_neg d1]
            by_cases d2 : j = q
            · rw [if_pos d2, if_pos d2]
            · rw [if_neg d2, if_neg d2, x4 j hj]
      · have c2' : hb r.1 (pn (hr z N a)) = false := by simpa using c2
        simp only [c2', one_ne0, Bool.false_eq_true, not_true, not_false_eq_true, Classical.not_not, ↓reduceIte, Option.bind_some, po_s, po_n, t1, t3, t4, show ¬ (7 : Int32) = 0 by decide]
        exact ⟨y, _, 7, _, rfl, by decide, rfl, h3⟩
  · rw [if_neg c, if_neg c]
    dsimp only
    simp only [t1, t3, show ¬ (1 : Int32) = 0 by decide, ↓reduceIte, Option.bind_some, po_s, po_n]
    exact ⟨y, _, 1, _, rfl, by decide, rfl, h3⟩
end
