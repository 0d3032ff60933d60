/-! THE PLAIN LAW: dances, the component's call -/
set_option maxRecDepth 100000
section
variable {L : Nat} {xs : Nat → Int32} {z : z_T} {e : Nat}
theorem x_dini' {y : z_T} {N : Int32} (he : 135 ≤ e ∧ e + 1 < 135 + y.2.2.2.2.1) : ∀ (d k n : Nat) (F : Nat → Int32), k + d = 16 → d + 1 ≤ n → (∀ j, j < k → F j = y.1 9 j) → ∃ F', (∀ j, j < 16 → F' j = y.1 9 j) ∧ L_X18_init_21 n e 7 (ii k) (dS L xs y e N 0 0 0 (0, 0, 0, F)) = some (dS L xs y e N 0 0 0 (0, 0, 0, F'))
  | 0, k, n, F, h1, h2, h3 => by
    obtain ⟨m, rfl⟩ : ∃ m, n = m + 1 := ⟨n - 1, by omega⟩
    obtain rfl : k = 16 := by omega
    rw [L_X18_init_21, if_neg (by decide)]
    exact ⟨F, h3, rfl⟩
  | d + 1, k, n, F, h1, h2, h3 => by
    obtain ⟨m, rfl⟩ : ∃ m, n = m + 1 := ⟨n - 1, by omega⟩
    have hk : k < 16 := by omega
    obtain ⟨t1, t2, t3, t4, t5, t6, t7, t8, t9, t10, t11, t12, t13, t14, t15⟩ := ds_all (L := L) (xs := xs) (y := y) he
    obtain ⟨u1, u2, u3, u4, u5, u6, u7, u8⟩ := ds_roll (L := L) (xs := xs) (e := e) (y := y)
    rw [L_X18_init_21, if_pos (lt16 hk), t8, Option.bind_some, u1, Option.bind_some, u6, Option.bind_some, u8 _ _ _ _ _ _ hk, Option.bind_some, t15 _ _ _ _ _ _ _ hk, Option.bind_some, ii_s]
    exact x_dini' he d (k + 1) m (upd F k (y.1 9 k)) (by omega) (by omega) (fun j hj => by
      unfold upd
      by_cases c : j = k
      · rw [if_pos c, c]
      · rw [if_neg c]; exact h3 j (by omega))
theorem x_dini {N : Int32} {n : Nat} (hn : 20 ≤ n) : ∃ F, (∀ j, j < 16 → F j = z.1 9 j) ∧ F_X18_init n (pm_nw (hp L xs z) 14) (135 + z.2.2.2.2.1) 7 N = some (dS L xs (nx (nx z 10) 16) (135 + z.2.2.2.2.1) N 0 0 0 (0, 0, 0, F)) := by
  have he : 135 ≤ 135 + z.2.2.2.2.1 ∧ 135 + z.2.2.2.2.1 < 135 + (nx z 10).2.2.2.2.1 := ⟨by omega, by show _ < 135 + (z.2.2.2.2.1 + 1); omega⟩
  have he2 : 135 ≤ 135 + z.2.2.2.2.1 ∧ 135 + z.2.2.2.2.1 + 1 < 135 + (nx (nx z 10) 16).2.2.2.2.1 := ⟨by omega, by show _ < 135 + (z.2.2.2.2.1 + 1 + 1); omega⟩
  have e1 : pm_put [(14, 9, 2)] (hp L xs (ue (nx z 10) (135 + z.2.2.2.2.1) (.inr (14, pm_df 14)))) (135 + z.2.2.2.2.1) (.ref 7) = some (hp L xs (ue (nx z 10) (135 + z.2.2.2.2.1) (.inr (14, [.int 0, .int 0, .int 0, .int 0, .null, .null, .int 0, .int 0, .int 0, .ref 7])))) := ze_put (cl := 14) (k := 9) (kd := 2) (fs := pm_df 14) he rfl rfl (by show 9 < 10; omega)
  have e2 : pm_put [(13, 4, 2), (14, 4, 2)] (hp L xs (ue (nx z 10) (135 + z.2.2.2.2.1) (.inr (14, [.int 0, .int 0, .int 0, .int 0, .null, .null, .int 0, .int 0, .int 0, .ref 7])))) (135 + z.2.2.2.2.1) (.ref 7) = some (hp L xs (ue (nx z 10) (135 + z.2.2.2.2.1) (.inr (14, [.int 0, .int 0, .int 0, .int 0, .ref 7, .null, .int 0, .int 0, .int 0, .ref 7])))) := ze_put (cl := 14) (k := 4) (kd := 2) (fs := [.int 0, .int 0, .int 0, .int 0, .null, .null, .int 0, .int 0, .int 0, .ref 7]) he rfl rfl (by show 4 < 10; omega)
  have e3 : pm_put [(13, 0, 0), (14, 0, 0)] (hp L xs (ue (nx z 10) (135 + z.2.2.2.2.1) (.inr (14, [.int 0, .int 0, .int 0, .int 0, .ref 7, .null, .int 0, .int 0, .int 0, .ref 7])))) (135 + z.2.2.2.2.1) (.int N) = some (hp L xs (ue (nx z 10) (135 + z.2.2.2.2.1) (.inr (14, [.int N, .int 0, .int 0, .int 0, .ref 7, .null, .int 0, .int 0, .int 0, .ref 7])))) := ze_put (cl := 14) (k := 0) (kd := 0) (fs := [.int 0, .int 0, .int 0, .int 0, .ref 7, .null, .int 0, .int 0, .int 0, .ref 7]) he rfl rfl (by show 0 < 10; omega)
  have e4 : pm_na (hp L xs (ue (nx z 10) (135 + z.2.2.2.2.1) (.inr (14, [.int N, .int 0, .int 0, .int 0, .ref 7, .null, .int 0, .int 0, .int 0, .ref 7])))) 0 16 = some (hp L xs (ue (dY (nx (nx z 10) 16) (135 + z.2.2.2.2.1) (fun _ => 0)) (135 + z.2.2.2.2.1) (.inr (14, [.int N, .int 0, .int 0, .int 0, .ref 7, .null, .int 0, .int 0, .int 0, .ref 7])))) := by
    unfold pm_na dY
    rw [if_pos (by decide)]
    refine congrArg some ?_
    rw [ue_sw (by omega)]
    exact ze_a (z := ue (nx z 10) (135 + z.2.2.2.2.1) (.inr (14, [.int N, .int 0, .int 0, .int 0, .ref 7, .null, .int 0, .int 0, .int 0, .ref 7])))
  have e5 : pm_put [(14, 5, 2)] (hp L xs (ue (dY (nx (nx z 10) 16) (135 + z.2.2.2.2.1) (fun _ => 0)) (135 + z.2.2.2.2.1) (.inr (14, [.int N, .int 0, .int 0, .int 0, .ref 7, .null, .int 0, .int 0, .int 0, .ref 7])))) (135 + z.2.2.2.2.1) (.ref (135 + z.2.2.2.2.1 + 1)) = some (dS L xs (nx (nx z 10) 16) (135 + z.2.2.2.2.1) N 0 0 0 (0, 0, 0, fun _ => 0)) := ze_put (z := dY (nx (nx z 10) 16) (135 + z.2.2.2.2.1) (fun _ => 0)) (cl := 14) (k := 5) (kd := 2) (fs := [.int N, .int 0, .int 0, .int 0, .ref 7, .null, .int 0, .int 0, .int 0, .ref 7]) ⟨by omega, by show _ < 135 + (z.2.2.2.2.1 + 1 + 1); omega⟩ rfl rfl (by show 5 < 10; omega)
  obtain ⟨F, f1, f2⟩ := x_dini' (L := L) (xs := xs) (y := nx (nx z 10) 16) (e := 135 + z.2.2.2.2.1) (N := N) he2 16 0 n (fun _ => 0) rfl (by omega) (fun j hj => absurd hj (by omega))
  have f2 : L_X18_init_21 n (135 + z.2.2.2.2.1) 7 0 (dS L xs (nx (nx z 10) 16) (135 + z.2.2.2.2.1) N 0 0 0 (0, 0, 0, fun _ => 0)) = _ := f2
  refine ⟨F, f1, ?_⟩
  unfold F_X18_init F_X16_init
  rw [ze_nw, show (pm_df 14).length = 10 from rfl, e1, Option.bind_some, e2, Option.bind_some, e3, Option.bind_some, Option.bind_some, e4, Option.bind_some, show (hp L xs (ue (nx z 10) (135 + z.2.2.2.2.1) (.inr (14, [.int N, .int 0, .int 0, .int 0, .ref 7, .null, .int 0, .int 0, .int 0, .ref 7])))).2.1 = 135 + z.2.2.2.2.1 + 1 from rfl, e5, Option.bind_some, f2]
  rfl
/-- what the component's dance leaves -/
def oD (z z1 : z_T) : Prop := z1.2.2.1 = z.2.2.1 ∧ (∀ i, i < 135 + z.2.2.2.2.1 → z1.2.2.2.1 i = z.2.2.2.1 i) ∧ z1.2.2.2.2.1 = z.2.2.2.2.1 + 2 ∧ z1.2.2.2.2.2 = z.2.2.2.2.2 + 26 ∧ z1.1 = (ui z 7 8 0).1
theorem x_dance {N n : Nat} {w : Int32} (h1 : 1 ≤ N) (hN : N ≤ 100) (ht : ¬ z.1 7 8 < ii N) (hw : ¬ w < 0 ∧ w < 3) (hn : 200 ≤ n) : ∃ F, (∀ j, j < 16 → F j = z.1 9 j) ∧ match dnR z N 60 0 (0, 0, 0, F) with
    | .inl v => ∃ z1, F_X0_dance n (hp L xs z) 7 (ii N) w = some (v, hp L xs z1) ∧ oD z z1
    | .inr s => ∃ z1, F_X0_dance n (hp L xs z) 7 (ii N) w = some (if w = 0 then s.2.1 else if w = 1 then (lck z &&& tld z) &&& (s.1 ^^^ (-1)) else s.2.2.1, hp L xs z1) ∧ oD z z1 := by
  obtain ⟨F, f1, f2⟩ := x_dini (L := L) (xs := xs) (z := ui z 7 8 0) (N := ii N) (n := n) (by omega)
  have f2 : F_X18_init n (pm_nw (hp L xs (ui z 7 8 0)) 14) (135 + z.2.2.2.2.1) 7 (ii N) = some (dS L xs (nx (nx (ui z 7 8 0) 10) 16) (135 + z.2.2.2.2.1) (ii N) 0 0 0 (0, 0, 0, F)) := f2
  have he2 : 135 ≤ 135 + z.2.2.2.2.1 ∧ 135 + z.2.2.2.2.1 + 1 < 135 + (nx (nx (ui z 7 8 0) 10) 16).2.2.2.2.1 := ⟨by omega, by show _ < 135 + (z.2.2.2.2.1 + 1 + 1); omega⟩
  refine ⟨F, f1, ?_⟩
  have hd : dnR (nx (nx (ui z 7 8 0) 10) 16) N 60 0 (0, 0, 0, F) = dnR z N 60 0 (0, 0, 0, F) := rfl
  have hx := x_rdD (L := L) (xs := xs) (y := nx (nx (ui z 7 8 0) 10) 16) (e := 135 + z.2.2.2.2.1) (N := N) he2 hN 60 0 n 0 (0, 0, 0, F) (by omega) (by omega) (by omega)
  rw [hd] at hx
  obtain ⟨t1, t2, t3, t4, t5, t6, t7, t8, t9, t10, t11, t12, t13, t14, t15⟩ := ds_all (L := L) (xs := xs) (y := nx (nx (ui z 7 8 0) 10) 16) he2
  obtain ⟨u1, u2, u3, u4, u5, u6, u7, u8⟩ := ds_roll (L := L) (xs := xs) (e := 135 + z.2.2.2.2.1) (y := nx (nx (ui z 7 8 0) 10) 16)
  have u9 : ∀ N A f p s, pm_fI [(1, 2)] (dS L xs (nx (nx (ui z 7 8 0) 10) 16) (135 + z.2.2.2.2.1) N A f p s) 8 = some (tld z) := fun N A f p s => by unfold dS; simp only [zr_0, zr_1, zr_2, zr_3, zr_4, zr_5, zr_6]; rfl
  have ua : ∀ A f p s v, F_X16_answer (dS L xs (nx (nx (ui z 7 8 0) 10) 16) (135 + z.2.2.2.2.1) (ii N) A f p s) (135 + z.2.2.2.2.1) v = some (if f = 0 then v else -1000 * f - p) := fun A f p s v => s_ans (z := dY (nx (nx (ui z 7 8 0) 10) 16) (135 + z.2.2.2.2.1) s.2.2.2) (Or.inr rfl) ⟨he2.1, by show _ < 135 + (z.2.2.2.2.1 + 1 + 1); omega⟩
  have O : ∀ A f p s, ∃ z1, dS L xs (nx (nx (ui z 7 8 0) 10) 16) (135 + z.2.2.2.2.1) (ii N) A f p s = hp L xs z1 ∧ oD z z1 := fun A f p s => by
    refine ⟨_, rfl, rfl, fun i hi => ?_, rfl, rfl, rfl⟩
    show (if i = 135 + z.2.2.2.2.1 then _ else if i = 135 + z.2.2.2.2.1 + 1 then _ else z.2.2.2.1 i) = _
    rw [if_neg (by omega), if_neg (by omega)]
  have hhead : ∀ {v : Option (Int32 × pm_H)}, ((F_X18_read n (dS L xs (nx (nx (ui z 7 8 0) 10) 16) (135 + z.2.2.2.2.1) (ii N) 0 0 0 (0, 0, 0, F)) (135 + z.2.2.2.2.1)).bind fun q6 =>
        if q6.1 < 0 then
          some (q6.1, q6.2)
        else
        if w = 0 then
          some (q6.1, q6.2)
        else
        if w = 1 then
          (pm_fR [(0, 0)] q6.2 7).bind fun v8 =>
          (pm_fI [(1, 3)] q6.2 v8).bind fun v9 =>
          (pm_fR [(0, 0)] q6.2 7).bind fun v10 =>
          (pm_fI [(1, 2)] q6.2 v10).bind fun v11 =>
          (pm_fI [(14, 6)] q6.2 (135 + z.2.2.2.2.1)).bind fun v12 =>
          some ((v9 &&& v11) &&& (v12 ^^^ (-1)), q6.2)
        else
          (pm_fI [(14, 8)] q6.2 (135 + z.2.2.2.2.1)).bind fun v7 =>
          some (v7, q6.2)) = v → F_X0_dance n (hp L xs z) 7 (ii N) w = v := fun {v} ev => by
    unfold F_X0_dance
    rw [e_within, Option.bind_some, if_pos (show ¬ ii N < 1 ∧ ¬ (100 : Int32) < ii N by rw [show (1 : Int32) = ii 1 from rfl, show (100 : Int32) = ii 100 from rfl, ii_lt (by omega) (by omega), ii_lt (by omega) (by omega)]; omega), if_neg one_ne, e_in, Option.bind_some, if_pos hw, if_neg one_ne, show pm_fI [(0, 8)] (hp L xs z) 7 = some (z.1 7 8) by simp only [zr_0, zr_1, zr_2, zr_3, zr_4, zr_5, zr_6], Option.bind_some, if_neg ht, show pm_put [(0, 8, 0)] (hp L xs z) 7 (.int 0) = some (hp L xs (ui z 7 8 0)) by simp only [zw_0, zw_1], Option.bind_some]
    rw [show (hp L xs (ui z 7 8 0)).2.1 = 135 + z.2.2.2.2.1 from rfl, f2, Option.bind_some, if_pos (t1 _ _ _ _ _)]
    exact ev
  cases eo : dnR z N 60 0 (0, 0, 0, F) with
  | inl v =>
    rw [eo] at hx
    obtain ⟨A, f, p, s', g1, g2, g3⟩ := hx
    have g1 : L_X18_read_2 n (135 + z.2.2.2.2.1) 1 (dS L xs (nx (nx (ui z 7 8 0) 10) 16) (135 + z.2.2.2.2.1) (ii N) 0 0 0 (0, 0, 0, F)) = _ := g1
    obtain ⟨z1, o1, o2⟩ := O A f p s'
    refine ⟨z1, hhead ?_, o2⟩
    unfold F_X18_read
    rw [g1, Option.bind_some, t6, Option.bind_some, if_pos (t1 _ _ _ _ _), ua, Option.bind_some, if_neg g2, Option.bind_some]
    dsimp only
    rw [g3, if_pos (dnR_neg 60 0 _ _ (by omega) eo), o1]
  | inr s =>
    rw [eo] at hx
    obtain ⟨A, p, g1⟩ := hx
    have g1 : L_X18_read_2 n (135 + z.2.2.2.2.1) 1 (dS L xs (nx (nx (ui z 7 8 0) 10) 16) (135 + z.2.2.2.2.1) (ii N) 0 0 0 (0, 0, 0, F)) = _ := g1
    obtain ⟨c, c1, c2⟩ := dnR_c 60 0 0 _ _ rfl eo
    obtain ⟨z1, o1, o2⟩ := O A 0 p s
    refine ⟨z1, hhead ?_, o2⟩
    unfold F_X18_read
    rw [g1, Option.bind_some, t6, Option.bind_some, if_pos (t1 _ _ _ _ _), ua, Option.bind_some, if_pos rfl, Option.bind_some]
    dsimp only
    rw [if_neg (show ¬ s.2.1 < 0 by rw [c2]; exact ii_nn (by omega))]
    by_cases w0 : w = 0
    · rw [if_pos w0, if_pos w0, o1]
    · rw [if_neg w0, if_neg w0]
      by_cases w1 : w = 1
      · rw [if_pos w1, if_pos w1, u1, Option.bind_some, u4, Option.bind_some, Option.bind_some, u9, Option.bind_some, t5, Option.bind_some, o1]
        rfl
      · rw [if_neg w1, if_neg w1, t7, Option.bind_some, o1]
end
