/-! THE PLAIN LAW: dances, the calls agree -/
set_option maxRecDepth 100000
section
variable {L : Nat} {xs : Nat → Int32} {z : z_T}
theorem m_dance {N n : Nat} {w : Int32} {F : Nat → Int32} (W : I_who z) (H : I_hou z) (J : I_foe z) (T : ∀ i, i < 260 → z.1 113 i = z.1 75 i) (h1 : 1 ≤ N) (hN : N ≤ 100) (ht : ¬ z.1 105 12 < ii N) (hw : ¬ w < 0 ∧ ¬ (2 : Int32) < w) (hF : ∀ j, j < 16 → F j = z.1 9 j) (hn : 200 ≤ n) : match dnR z N 60 0 (0, 0, 0, F) with
    | .inl v => ∃ y, F_X6_dance n (hp L xs z) 105 (ii N) w = some (v, hp L xs (ui y 105 12 0)) ∧ kp z y
    | .inr s => ∃ y, F_X6_dance n (hp L xs z) 105 (ii N) w = some (if w = 0 then s.2.1 else if w = 1 then lck z &&& (s.1 ^^^ (-1)) else s.2.2.1, hp L xs (ui y 105 12 0)) ∧ kp z y := by
  have b : ∃ z1, z1 = ui (ui (ui (ui (ui (ui (ui z 105 13 0) 105 14 (ii N)) 105 18 0) 105 20 0) 105 37 0) 105 38 0) 105 39 0 := ⟨_, rfl⟩
  obtain ⟨z1, ez⟩ := b
  have k1 : kp z z1 := by
    rw [ez]
    exact ((((((kp.rf.ui rfl).ui rfl).ui rfl).ui rfl).ui rfl).ui rfl).ui rfl
  have p : z1.1 105 13 = ii 0 ∧ z1.1 105 14 = ii N ∧ z1.1 105 37 = 0 ∧ z1.1 105 38 = 0 ∧ z1.1 105 39 = 0 := by
    rw [ez]
    exact ⟨rfl, rfl, rfl, rfl, rfl⟩
  obtain ⟨s1, s2, s3⟩ := m_51s (y := z1) 16
  have e51 : L_X6_dance_51 n 105 0 (hp L xs z1) = some (hp L xs (lp (fun k y => ui y 127 k (y.1 109 k)) 16 0 z1)) := m_51 (by omega)
  generalize lp (fun k y => ui y 127 k (y.1 109 k)) 16 0 z1 = zb at s1 s2 s3 e51
  have kb : kp z zb := k1.tr s1
  have D : dst zb N 0 (0, 0, 0, F) := ⟨(s2 13).trans p.1, (s2 14).trans p.2.1, (s2 37).trans p.2.2.1, (s2 38).trans p.2.2.2.1, (s2 39).trans p.2.2.2.2, fun j hj => (s3 j hj).trans (((k1.2 109 j rfl).trans (H j hj).1).trans (hF j hj).symm)⟩
  have hx := m_rdD (L := L) (xs := xs) (z := z) W H J T hN 60 0 n zb (0, 0, 0, F) (by omega) (by omega) (by omega) kb D (Or.inl rfl)
  have hhead : ∀ {v : Option (Int32 × pm_H)}, (((F_X6_readsDance (hp L xs zb) 105).bind fun q13 => L_X6_dance_80 n 105 q13.1 q13.2).bind fun q17 =>
        (pm_put [(5, 12, 0)] q17.2 105 (.int 0)).bind fun h18 =>
        if q17.1 = 0 then
          (pm_fI [(5, 15)] h18 105).bind fun v23 =>
          some (v23, h18)
        else
        if w = 0 then
          (pm_fI [(5, 38)] h18 105).bind fun v22 =>
          some (v22, h18)
        else
        if w = 1 then
          (pm_fI [(5, 8)] h18 105).bind fun v20 =>
          (pm_fI [(5, 37)] h18 105).bind fun v21 =>
          some (v20 &&& (v21 ^^^ (-1)), h18)
        else
          (pm_fI [(5, 39)] h18 105).bind fun v19 =>
          some (v19, h18)) = v → F_X6_dance n (hp L xs z) 105 (ii N) w = v := fun {v} ev => by
    unfold F_X6_dance
    have eb : F_X6_beginsText (hp L xs z) 105 (ii N) = some (hp L xs (ui (ui (ui (ui z 105 13 0) 105 14 (ii N)) 105 18 0) 105 20 0)) := by
      unfold F_X6_beginsText
      simp only [zw_0, zw_1, Option.bind_some, po_s, po_n]
    have e37 : pm_put [(5, 37, 0)] (hp L xs (ui (ui (ui (ui z 105 13 0) 105 14 (ii N)) 105 18 0) 105 20 0)) 105 (.int 0) = some (hp L xs (ui (ui (ui (ui (ui z 105 13 0) 105 14 (ii N)) 105 18 0) 105 20 0) 105 37 0)) := by simp only [zw_0, zw_1]
    have e38 : pm_put [(5, 38, 0)] (hp L xs (ui (ui (ui (ui (ui z 105 13 0) 105 14 (ii N)) 105 18 0) 105 20 0) 105 37 0)) 105 (.int 0) = some (hp L xs (ui (ui (ui (ui (ui (ui z 105 13 0) 105 14 (ii N)) 105 18 0) 105 20 0) 105 37 0) 105 38 0)) := by simp only [zw_0, zw_1]
    have e39 : pm_put [(5, 39, 0)] (hp L xs (ui (ui (ui (ui (ui (ui z 105 13 0) 105 14 (ii N)) 105 18 0) 105 20 0) 105 37 0) 105 38 0)) 105 (.int 0) = some (hp L xs z1) := by rw [ez]; simp only [zw_0, zw_1]
    rw [m_in, Option.bind_some, if_pos (show ¬ ii N < 1 ∧ ¬ (100 : Int32) < ii N by rw [show (1 : Int32) = ii 1 from rfl, show (100 : Int32) = ii 100 from rfl, ii_lt (by omega) (by omega), ii_lt (by omega) (by omega)]; omega), if_neg one_ne, m_in, Option.bind_some, if_pos hw, if_neg one_ne, show pm_fI [(5, 12)] (hp L xs z) 105 = some (z.1 105 12) by simp only [zr_0, zr_1, zr_2, zr_3, zr_4, zr_5, zr_6], Option.bind_some, if_neg ht, if_pos mcl, eb, Option.bind_some, e37, Option.bind_some, e38, Option.bind_some, e39, Option.bind_some, e51, Option.bind_some, if_pos mcl]
    rw [← ev]
    cases F_X6_readsDance (hp L xs zb) 105 <;> rfl
  have w12 : ∀ y, pm_put [(5, 12, 0)] (hp L xs y) 105 (.int 0) = some (hp L xs (ui y 105 12 0)) := fun y => by simp only [zw_0, zw_1]
  cases eo : dnR z N 60 0 (0, 0, 0, F) with
  | inl v =>
    rw [eo] at hx
    obtain ⟨y, g1, g2, g3⟩ := hx
    refine ⟨y, hhead ?_, g3⟩
    rw [g1, Option.bind_some]
    dsimp only
    rw [w12, Option.bind_some, if_pos rfl, show pm_fI [(5, 15)] (hp L xs (ui y 105 12 0)) 105 = some v by simp only [zr_0, zr_1, zr_2, zr_3, zr_4, zr_5, zr_6]; exact congrArg some g2]
    rfl
  | inr s =>
    rw [eo] at hx
    obtain ⟨y, a', g1, ⟨d1, d2, d3, d4, d5, d6⟩, g3⟩ := hx
    refine ⟨y, hhead ?_, g3⟩
    rw [g1, Option.bind_some]
    dsimp only
    rw [w12, Option.bind_some, if_neg one_ne]
    by_cases w0 : w = 0
    · rw [if_pos w0, if_pos w0, show pm_fI [(5, 38)] (hp L xs (ui y 105 12 0)) 105 = some s.2.1 by simp only [zr_0, zr_1, zr_2, zr_3, zr_4, zr_5, zr_6]; exact congrArg some d4]
      rfl
    · rw [if_neg w0, if_neg w0]
      by_cases w1 : w = 1
      · rw [if_pos w1, if_pos w1, show pm_fI [(5, 8)] (hp L xs (ui y 105 12 0)) 105 = some (lck z) by simp only [zr_0, zr_1, zr_2, zr_3, zr_4, zr_5, zr_6]; exact congrArg some ((g3.2 105 8 rfl).trans W.2.2.1), Option.bind_some, show pm_fI [(5, 37)] (hp L xs (ui y 105 12 0)) 105 = some s.1 by simp only [zr_0, zr_1, zr_2, zr_3, zr_4, zr_5, zr_6]; exact congrArg some d3]
        rfl
      · rw [if_neg w1, if_neg w1, show pm_fI [(5, 39)] (hp L xs (ui y 105 12 0)) 105 = some s.2.2.1 by simp only [zr_0, zr_1, zr_2, zr_3, zr_4, zr_5, zr_6]; exact congrArg some d5]
        rfl
end
