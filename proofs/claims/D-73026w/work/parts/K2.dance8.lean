/-! THE PLAIN LAW: dance, the call -/
set_option maxRecDepth 100000
section
variable {L : Nat} {xs : Nat → Int32} {z : z_T}
theorem dn_fin {N n : Nat} {w ans : Int32} {z1 y : z_T} (I : Inv z) (hA : F_X0_dance n (hp L xs z) 7 (ii N) w = some (ans, hp L xs z1)) (O : oD z z1) (hB : F_X6_dance n (hp L xs z1) 105 (ii N) w = some (ans, hp L xs (ui y 105 12 0))) (k : kp z1 y) : Op L xs z (fun h => F_X0_dance n h 7 (ii N) w) (fun h => F_X6_dance n h 105 (ii N) w) := by
  obtain ⟨o1, o2, o3, o4, o5⟩ := O
  have K := kp_ui2 (i := 105) (k := 12) (v := 0) k
  have hz : ∀ i j, kc i j = true → ¬ (i = 7 ∧ j = 8) → ¬ (i = 105 ∧ j = 12) → (ui y 105 12 0).1 i j = z.1 i j := fun i j h1 h2 h3 => by
    have e1 : (ui y 105 12 0).1 i j = y.1 i j := by
      by_cases e : i = 105
      · subst e
        exact ui_b (fun x => h3 ⟨rfl, x⟩)
      · rw [ui_o e]
    rw [e1, k.2 i j h1, o5]
    by_cases e : i = 7
    · subst e
      exact ui_b (fun x => h2 ⟨rfl, x⟩)
    · rw [ui_o e]
  have Iv : Inv ((ui y 105 12 0).1, (ui y 105 12 0).2.1, (ui (ui z 7 8 0) 105 12 0).2.2) := (I.tp (v := 0) ⟨0, Nat.zero_le _, rfl⟩).kp ⟨rfl, fun i j h => by
    refine (K.2 i j h).trans ?_
    unfold ui
    dsimp only
    rw [o5]
    rfl⟩
  refine ⟨ans, z1, ui y 105 12 0, hA, hB, Iv, ?_, ?_⟩
  · unfold lf
    rw [show (ui y 105 12 0).2.2 = z1.2.2 from k.1]
    refine ⟨o1, o2, by rw [o3]; omega, fun i h1 h2 => funext fun j => hz i j ?_ (fun x => by omega) (fun x => by omega), hz 105 21 rfl (by decide) (by decide)⟩
    obtain rfl | rfl | rfl | rfl | rfl : i = 120 ∨ i = 121 ∨ i = 122 ∨ i = 123 ∨ i = 124 := by omega
    all_goals rfl
  · unfold rm
    rw [show (ui y 105 12 0).2.2 = z1.2.2 from k.1, o3, o4]
    exact ⟨by omega, by omega⟩
theorem o_dance {x w : Int32} {n : Nat} (I : Inv z) (hn : 400 ≤ n) : Op L xs z (fun h => F_X0_dance n h 7 x w) (fun h => F_X6_dance n h 105 x w) := by
  have T := I.2.2.2.2.2.1
  have w3 : (w < 3) = ¬ ((2 : Int32) < w) := lt_le 2 3 (by decide) rfl
  by_cases hx : ¬ x < 1 ∧ ¬ (100 : Int32) < x
  · by_cases hw : ¬ w < 0 ∧ ¬ (2 : Int32) < w
    · have hw2 : ¬ w < 0 ∧ w < 3 := ⟨hw.1, w3 ▸ hw.2⟩
      by_cases ht : z.1 7 8 < x
      · refine Op.no I (r := -1) ?_ ?_
        · show F_X0_dance n (hp L xs z) 7 x w = _
          unfold F_X0_dance
          rw [e_within, Option.bind_some, if_pos hx, if_neg one_ne, e_in, Option.bind_some, if_pos hw2, if_neg one_ne]
          simp only [zr_0, zr_1, zr_2, zr_3, zr_4, zr_5, zr_6, Option.bind_some, po_s, po_n]
          rw [if_pos ht]
        · show F_X6_dance n (hp L xs z) 105 x w = _
          unfold F_X6_dance
          rw [m_in, Option.bind_some, if_pos hx, if_neg one_ne, m_in, Option.bind_some, if_pos hw, if_neg one_ne]
          simp only [zr_0, zr_1, zr_2, zr_3, zr_4, zr_5, zr_6, Option.bind_some, po_s, po_n, T.2.1]
          rw [if_pos ht]
      · obtain ⟨N, a1, a2, rfl⟩ := in_of 1 100 (by decide) (by decide) hx
        obtain ⟨F, f1, f2⟩ := x_dance (L := L) (xs := xs) (z := z) (N := N) (n := n) (w := w) a1 a2 ht hw2 (by omega)
        have mk : ∀ {z1 : z_T}, oD z z1 → match dnR z N 60 0 (0, 0, 0, F) with
            | .inl v => ∃ y, F_X6_dance n (hp L xs z1) 105 (ii N) w = some (v, hp L xs (ui y 105 12 0)) ∧ kp z1 y
            | .inr s => ∃ y, F_X6_dance n (hp L xs z1) 105 (ii N) w = some (if w = 0 then s.2.1 else if w = 1 then lck z &&& (s.1 ^^^ (-1)) else s.2.2.1, hp L xs (ui y 105 12 0)) ∧ kp z1 y := fun {z1} O => by
          have e := O.2.2.2.2
          have ez : z1 = ((ui z 7 8 0).1, z1.2) := Prod.ext e rfl
          generalize z1.2 = q at ez
          subst ez
          exact m_dance (L := L) (xs := xs) (z := ((ui z 7 8 0).1, q)) (F := F) I.1 I.2.1 I.2.2.1 T.1 a1 a2 (show ¬ z.1 105 12 < ii N by rw [T.2.1]; exact ht) hw f1 (by omega)
        cases eo : dnR z N 60 0 (0, 0, 0, F) with
        | inl v =>
          rw [eo] at f2
          obtain ⟨z1, g1, g2⟩ := f2
          have M := mk g2
          rw [eo] at M
          obtain ⟨y, m1, m2⟩ := M
          exact dn_fin I g1 g2 m1 m2
        | inr s =>
          rw [eo] at f2
          obtain ⟨z1, g1, g2⟩ := f2
          have M := mk g2
          rw [eo] at M
          obtain ⟨y, m1, m2⟩ := M
          have el : lck z &&& tld z = lck z := hb_ext fun k _ => by
            rw [hb_and]
            cases c : hb (lck z) k with
            | false => rfl
            | true => rw [I.1.2.2.2 k c]; rfl
          rw [el] at g1
          exact dn_fin I g1 g2 m1 m2
    · have hw2 : ¬ (¬ w < 0 ∧ w < 3) := fun q => hw ⟨q.1, w3 ▸ q.2⟩
      refine Op.no I (r := -1) ?_ ?_
      · show F_X0_dance n (hp L xs z) 7 x w = _
        unfold F_X0_dance
        rw [e_within, Option.bind_some, if_pos hx, if_neg one_ne, e_in, Option.bind_some, if_neg hw2, if_pos rfl]
      · show F_X6_dance n (hp L xs z) 105 x w = _
        unfold F_X6_dance
        rw [m_in, Option.bind_some, if_pos hx, if_neg one_ne, m_in, Option.bind_some, if_neg hw, if_pos rfl]
  · refine Op.no I (r := -1) ?_ ?_
    · show F_X0_dance n (hp L xs z) 7 x w = _
      unfold F_X0_dance
      rw [e_within, Option.bind_some, if_neg hx, if_pos rfl]
    · show F_X6_dance n (hp L xs z) 105 x w = _
      unfold F_X6_dance
      rw [m_in, Option.bind_some, if_neg hx, if_pos rfl]
end
