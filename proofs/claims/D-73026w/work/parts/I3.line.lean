/-! THE PLAIN LAW: a line of orders, the component's walk -/
set_option maxRecDepth 100000
theorem good0 {f : Int32} (h : f ≠ 0) : (if f = 0 then (1 : Int32) else 0) = 0 := by rw [if_neg h]
section
variable {L : Nat} {xs : Nat → Int32} {z : z_T} {e : Nat}
theorem h24_F {y : z_T} {n : Nat} {N A f x2 x3 p l : Int32} (he : 135 ≤ e ∧ e < 135 + y.2.2.2.2.1) (h : f ≠ 0) : L_X17_house_24 (n + 1) e x2 x3 (cS L xs y e N A f p l) = some (x2, cS L xs y e N A f p l) := by
  obtain ⟨c1, c2, c3, c4⟩ := c_r (L := L) (xs := xs) (y := y) (N := N) (A := A) (f := f) (p := p) (l := l) he
  unfold cS at c3 ⊢
  rw [L_X17_house_24, if_pos c3, s_good (Or.inl rfl) he, Option.bind_some, if_pos (good0 h)]
theorem x_house {y : z_T} {N a q n : Nat} {r : RL} {p l : Int32} (he : 135 ≤ e ∧ e < 135 + y.2.2.2.2.1) (hq : q < 16) (hN : N ≤ 260) (ha : a < 5000) (h3 : kp z y) (X : xrl y r) (hn : 20 ≤ n) : xO L xs z e N l (hsS z N a q r) (F_X17_house n (cS L xs y e (ii N) (ii a) 0 p l) e (ii q)) := by
  have c3 := fun A f p => (c_r (L := L) (xs := xs) (y := y) (N := ii N) (A := A) (f := f) (p := p) (l := l) he).2.2.1
  have hh := hr_kp h3
  obtain ⟨n, rfl⟩ : ∃ m, n = m + 5 := ⟨n - 5, by omega⟩
  have bad : ∀ (v A f p w : Int32) (s : Option (Int32 × pm_H)), s = some (v, cS L xs y e (ii N) A f p l) → f ≠ 0 → -1000 * f - p = w → xO L xs z e N l (.inl w) (s.bind fun q13 =>
    (if pm_cl_ q13.2 e = some 13 then F_X16_isGood q13.2 e else none).bind fun q14 =>
    if q14 = 0 then
      some q13.2
    else
      (pm_fR [(13, 6)] q13.2 e).bind fun v15 =>
      (pm_fR [(0, 1)] q13.2 v15).bind fun v16 =>
      (pm_fI [(1, 3)] q13.2 v16).bind fun v17 =>
      (pm_fR [(13, 6)] q13.2 e).bind fun v18 =>
      (pm_fR [(0, 1)] q13.2 v18).bind fun v19 =>
      (if pm_cl_ q13.2 v19 = some 1 then F_X1_isTold q13.2 v19 (ii q) else none).bind fun q20 =>
      ((
        if q20 = 0 then
          some (pm_shl 1 (ii q))
        else
          some 0
      ) : Option (Int32)).bind fun q21 =>
      (pm_put [(1, 3, 0)] q13.2 v16 (.int (v17 ||| q21))).bind fun h22 =>
      (pm_fR [(13, 6)] h22 e).bind fun v23 =>
      (pm_fR [(0, 1)] h22 v23).bind fun v24 =>
      (pm_fI [(1, 2)] h22 v24).bind fun v25 =>
      (pm_put [(1, 2, 0)] h22 v24 (.int (v25 ||| (pm_shl 1 (ii q))))).bind fun h26 =>
      (pm_fR [(13, 6)] h26 e).bind fun v27 =>
      (pm_fR [(0, 1)] h26 v27).bind fun v28 =>
      (pm_fR [(1, 0)] h26 v28).bind fun v29 =>
      (pm_si 0 h26 v29 (ii q) q13.1).bind fun h30 =>
      some h30) := fun v A f p w s hs hf hw => by
    rw [hs, Option.bind_some]
    dsimp only
    refine ⟨y, A, f, p, ?_, hf, hw, h3⟩
    have c3 := c3 A f p
    unfold cS at c3 ⊢
    rw [if_pos c3, s_good (Or.inl rfl) he, Option.bind_some, if_pos (good0 hf)]
  unfold hsS
  unfold F_X17_house
  have c0 := c3 (ii a) 0 p
  have c1 := c3 (ii a) 1 (ii a)
  rw [show (if pm_cl_ (cS L xs y e (ii N) (ii a) 0 p l) e = some 13 then F_X16_place (cS L xs y e (ii N) (ii a) 0 p l) e else none) = some (ii a) by
    rw [if_pos c0]; unfold cS; exact s_place (Or.inl rfl) he, Option.bind_some,
    show (if pm_cl_ (cS L xs y e (ii N) (ii a) 0 p l) e = some 13 then F_X16_sees (cS L xs y e (ii N) (ii a) 0 p l) e 48 57 else none) = some (if dg (hr y N a) then 1 else 0) by
    rw [if_pos c0]; unfold cS; exact s_sees (Or.inl rfl) he hN (by omega), Option.bind_some, hh]
  by_cases d1 : dg (hr z N a)
  · rw [if_pos d1, if_pos d1, if_neg one_ne, Option.bind_some, h24_Y he hN (by omega) (by omega) (by rw [hh]; exact d1) (by omega), hh]
    by_cases d2 : dg (hr z N (a + 1))
    · rw [if_pos d2, h24_Y he hN (by omega) (by omega) (by rw [hh]; exact d2) (by omega), hh]
      by_cases d3 : dg (hr z N (a + 2))
      · obtain ⟨v, hv⟩ := h24_B (L := L) (xs := xs) (y := y) (N := N) (b := a) (n := n + 1) (x2 := 10 * (10 * 0 + hr z N a - 48) + hr z N (a + 1) - 48) (p := p) (l := l) he hN (by omega) (by rw [hh]; exact d3)
        rw [if_pos d3]
        exact bad v _ 2 _ _ _ hv (by decide) rfl
      · rw [if_neg d3, h24_N he hN (by omega) (by rw [hh]; exact d3)]
        exact x_hend (n := 0) he hq h3 X rfl
    · rw [if_neg d2, h24_N he hN (by omega) (by rw [hh]; exact d2)]
      exact x_hend (n := 0) he hq h3 X rfl
  · rw [if_neg d1, if_neg d1, if_pos rfl, show (if pm_cl_ (cS L xs y e (ii N) (ii a) 0 p l) e = some 13 then F_X16_bad (cS L xs y e (ii N) (ii a) 0 p l) e 1 (ii a) else none) = some (cS L xs y e (ii N) (ii a) 1 (ii a) l) by
      rw [if_pos c0]; unfold cS; exact s_bad (Or.inl rfl) he, Option.bind_some, Option.bind_some, h24_F he (by decide)]
    exact bad 0 _ 1 _ _ _ rfl (by decide) rfl
end
