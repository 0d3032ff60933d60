/-! THE PLAIN LAW: orders, the call -/
set_option maxRecDepth 100000
/-- what stays when the roll is new -/
def kr (i k : Nat) : Bool := kc i k && !(i == 8 || i == 9 || i == 10 || i == 109 || i == 110 || (i == 105 && (k == 7 || k == 8 || k == 12)) || (i == 7 && k == 8))
theorem kr_row {p k : Nat} (hp1 : p < 16) : kr (17 + p) k = true ∧ kr (57 + p) k = true := match p, hp1 with
  | 0, _ => ⟨rfl, rfl⟩ | 1, _ => ⟨rfl, rfl⟩ | 2, _ => ⟨rfl, rfl⟩ | 3, _ => ⟨rfl, rfl⟩ | 4, _ => ⟨rfl, rfl⟩ | 5, _ => ⟨rfl, rfl⟩ | 6, _ => ⟨rfl, rfl⟩ | 7, _ => ⟨rfl, rfl⟩
  | 8, _ => ⟨rfl, rfl⟩ | 9, _ => ⟨rfl, rfl⟩ | 10, _ => ⟨rfl, rfl⟩ | 11, _ => ⟨rfl, rfl⟩ | 12, _ => ⟨rfl, rfl⟩ | 13, _ => ⟨rfl, rfl⟩ | 14, _ => ⟨rfl, rfl⟩ | 15, _ => ⟨rfl, rfl⟩
  | j + 16, h => absurd h (by omega)
theorem Inv_roll {z y : z_T} {r : RL} (I : Inv z) (W : wf r) (hs : sub (tld z) r.1) (x2 : y.1 8 2 = r.1) (x3 : y.1 8 3 = r.2.1) (x9 : ∀ j, j < 16 → y.1 9 j = r.2.2.1 j) (x10 : ∀ j, j < 16 → y.1 10 j = r.2.2.2 j) (m : mrl y r) (keep : ∀ i k, kr i k = true → y.1 i k = z.1 i k) (tp : ∃ t, t ≤ 260 ∧ y.1 7 8 = ii t) (tq : y.1 105 12 = y.1 7 8) : Inv y := by
  obtain ⟨h1, h2, h3, h4, h5, h6, h7⟩ := I
  obtain ⟨m1, m2, m3, m4⟩ := m
  obtain ⟨w1, w2, w3, w4⟩ := W
  have hu : ∀ {p}, hb (tld y) p = false → hb (tld z) p = false := fun {p} h => by
    cases e : hb (tld z) p with
    | false => rfl
    | true =>
      have := hs p e
      rw [← x2] at this
      rw [show tld y = y.1 8 2 from rfl, this] at h
      cases h
  have tw : ∀ {b c o a : Nat}, I_twn z b c o a → (∀ k, kr a k = true) → (∀ k, kr c k = true) → kr o 3 = true → kr o 4 = true → (∀ p k, p < 16 → kr (b + p) k = true) → I_twn y b c o a := fun {b c o a} ⟨t1, t2, t3, t4⟩ ka kcc k3 k4 kb => by
    refine ⟨fun p hp1 => ?_, fun p q hp1 hq => ?_, ?_, ?_⟩
    · obtain ⟨e1, v, e2, e3, e4⟩ := t1 p hp1
      rw [keep a p (ka p), keep c p (kcc p)]
      exact ⟨e1, v, e2, e3, fun h => e4 (hu h)⟩
    · rw [keep a _ (ka _), keep (b + p) q (kb p q hp1)]
      exact t2 p q hp1 hq
    · rw [keep a _ (ka _), keep o 3 k3]
      exact t3
    · rw [keep a _ (ka _), keep o 4 k4]
      exact t4
  refine ⟨⟨?_, ?_, ?_, ?_⟩, fun p hp1 => ?_, fun p hp1 => ?_, tw h4 (fun _ => rfl) (fun _ => rfl) rfl rfl (fun p k hp1 => (kr_row hp1).1), tw h5 (fun _ => rfl) (fun _ => rfl) rfl rfl (fun p k hp1 => (kr_row hp1).2), ⟨fun i hi => ?_, tq, tp⟩, ?_⟩
  · show s16 (y.1 8 2)
    rw [x2]; exact w1
  · exact m1.trans x2.symm
  · exact m2.trans x3.symm
  · show ∀ k, hb (y.1 8 3) k = true → hb (y.1 8 2) k = true
    rw [x2, x3]
    exact w2
  · rw [m3 p hp1, x9 p hp1]
    exact ⟨rfl, w3 p hp1⟩
  · rw [m4 p hp1, x10 p hp1]
    refine ⟨rfl, fun q hq => ?_⟩
    obtain ⟨b1, b2, b3, b4⟩ := w4 p hp1 q hq
    refine ⟨b1, b2, ?_, ?_⟩
    · show hb (y.1 8 2) q = true
      rw [x2]; exact b3
    · rw [x10 q b1]; exact b4
  · rw [keep 113 i rfl, keep 75 i rfl]
    exact h6.1 i hi
  · show y.1 105 51 = y.1 7 9
    rw [keep 105 51 rfl, keep 7 9 rfl]
    exact h7
theorem wf_I {z : z_T} (I : Inv z) : wf (rl0 z) := ⟨I.1.1, I.1.2.2.2, fun p hp1 => (I.2.1 p hp1).2, fun p hp1 q hq => (I.2.2.1 p hp1).2 q hq⟩
theorem mrl_I {z : z_T} (I : Inv z) : mrl z (rl0 z) := ⟨I.1.2.1, I.1.2.2.1, fun p hp1 => (I.2.1 p hp1).1, fun p hp1 => (I.2.2.1 p hp1).1⟩
theorem ue_id {y : z_T} {e : Nat} {c : pm_C} (h : y.2.2.2.1 e = c) : ue y e c = y := by
  unfold ue
  refine Prod.ext rfl (Prod.ext rfl (Prod.ext rfl (Prod.ext (funext fun i => ?_) rfl)))
  show (if i = e then c else y.2.2.2.1 i) = y.2.2.2.1 i
  by_cases q : i = e
  · rw [if_pos q, q, h]
  · rw [if_neg q]
section
variable {L : Nat} {xs : Nat → Int32} {z : z_T}
/-- the constable is made -/
theorem x_cini {N : Int32} {n : Nat} (hn : 17 ≤ n) : ∃ y, F_X17_init n (pm_nw (hp L xs z) 13) (135 + z.2.2.2.2.1) 7 N = some (cS L xs y (135 + z.2.2.2.2.1) N 0 0 0 0) ∧ kp (nx z 7) y ∧ xrl y (rl0 z) := by
  have he : 135 ≤ 135 + z.2.2.2.2.1 ∧ 135 + z.2.2.2.2.1 < 135 + (nx z 7).2.2.2.2.1 := ⟨by omega, by show _ < 135 + (z.2.2.2.2.1 + 1); omega⟩
  have e1 : pm_put [(13, 6, 2)] (hp L xs (ue (nx z 7) (135 + z.2.2.2.2.1) (.inr (13, pm_df 13)))) (135 + z.2.2.2.2.1) (.ref 7) = some (hp L xs (ue (nx z 7) (135 + z.2.2.2.2.1) (.inr (13, [.int 0, .int 0, .int 0, .int 0, .null, .int 0, .ref 7])))) := ze_put (cl := 13) (k := 6) (kd := 2) (fs := pm_df 13) he rfl rfl (by show 6 < 7; omega)
  have e2 : pm_put [(13, 4, 2), (14, 4, 2)] (hp L xs (ue (nx z 7) (135 + z.2.2.2.2.1) (.inr (13, [.int 0, .int 0, .int 0, .int 0, .null, .int 0, .ref 7])))) (135 + z.2.2.2.2.1) (.ref 7) = some (hp L xs (ue (nx z 7) (135 + z.2.2.2.2.1) (.inr (13, [.int 0, .int 0, .int 0, .int 0, .ref 7, .int 0, .ref 7])))) := ze_put (cl := 13) (k := 4) (kd := 2) (fs := [.int 0, .int 0, .int 0, .int 0, .null, .int 0, .ref 7]) he rfl rfl (by show 4 < 7; omega)
  have e3 : pm_put [(13, 0, 0), (14, 0, 0)] (hp L xs (ue (nx z 7) (135 + z.2.2.2.2.1) (.inr (13, [.int 0, .int 0, .int 0, .int 0, .ref 7, .int 0, .ref 7])))) (135 + z.2.2.2.2.1) (.int N) = some (hp L xs (ue (nx z 7) (135 + z.2.2.2.2.1) (sc 13 N 0 0 0 [.int 0, .ref 7]))) := ze_put (cl := 13) (k := 0) (kd := 0) (fs := [.int 0, .int 0, .int 0, .int 0, .ref 7, .int 0, .ref 7]) he rfl rfl (by show 0 < 7; omega)
  obtain ⟨y, t1, t2, t3, t4, t5⟩ := x_takes (L := L) (xs := xs) (z := ue (nx z 7) (135 + z.2.2.2.2.1) (sc 13 N 0 0 0 [.int 0, .ref 7])) (n := n) hn
  have ey : ue y (135 + z.2.2.2.2.1) (sc 13 N 0 0 0 [.int 0, .ref 7]) = y := ue_id (by
    rw [t2.1]
    exact if_pos rfl)
  have hk : kp (nx z 7) (z.1, y.2.1, (nx z 7).2.2) := ⟨rfl, fun _ _ _ => rfl⟩
  have b : ∃ y0 : z_T, y0 = (y.1, y.2.1, (nx z 7).2.2) := ⟨_, rfl⟩
  obtain ⟨y0, ey0⟩ := b
  have eq : ue y0 (135 + z.2.2.2.2.1) (sc 13 N 0 0 0 [.int 0, .ref 7]) = y := by
    rw [ey0, ← ey]
    unfold ue
    rw [t2.1]
    refine Prod.ext rfl (Prod.ext rfl (Prod.ext rfl (Prod.ext (funext fun i => ?_) rfl)))
    show (if i = 135 + z.2.2.2.2.1 then _ else (nx z 7).2.2.2.1 i) = (if i = 135 + z.2.2.2.2.1 then _ else (if i = 135 + z.2.2.2.2.1 then _ else (nx z 7).2.2.2.1 i))
    split <;> rfl
  refine ⟨y0, ?_, ⟨by rw [ey0], fun i k h => by rw [ey0]; exact t2.2 i k h⟩, ?_⟩
  · unfold cS
    rw [eq]
    unfold F_X17_init F_X16_init
    rw [ze_nw]
    rw [show (pm_df 13).length = 7 from rfl, e1, Option.bind_some, e2, Option.bind_some, e3, Option.bind_some, Option.bind_some]
    simp only [zr_0, zr_1, zr_2, zr_3, zr_4, zr_5, zr_6, Option.bind_some, po_s, po_n, ↓reduceIte, t1]
  · rw [ey0]
    exact ⟨t4, t5, fun p hp1 => (t3 p hp1).1, fun p hp1 => (t3 p hp1).2⟩
end
