/-! THE PLAIN LAW: orders, joined -/
set_option maxRecDepth 100000
theorem kr_kq {i k : Nat} (h : kr i k = true) : kq i k = true ∧ kc i k = true ∧ i ≠ 8 ∧ i ≠ 9 ∧ i ≠ 10 ∧ ¬ (i = 7 ∧ k = 8) := by
  have h0 := h
  unfold kr at h
  rw [Bool.and_eq_true] at h
  obtain ⟨h1, h2⟩ := h
  refine ⟨?_, h1, ?_, ?_, ?_, ?_⟩
  · unfold kq
    split
    · cases h2
    · cases h2
    · cases h1
    · cases h1
    · simp only [kc, Bool.or_eq_true, beq_iff_eq] at h1
      simp at h2 ⊢
      omega
    · rfl
  · rintro rfl; cases h2
  · rintro rfl; cases h2
  · rintro rfl; cases h2
  · rintro ⟨rfl, rfl⟩; cases h2
section
variable {L : Nat} {xs : Nat → Int32} {z : z_T}
/-- what the component's call leaves -/
def oZ (z z1 : z_T) : Prop := z1.2.2.1 = z.2.2.1 ∧ (∀ i, i < 135 + z.2.2.2.2.1 → z1.2.2.2.1 i = z.2.2.2.1 i) ∧ z1.2.2.2.2.1 = z.2.2.2.2.1 + 1 ∧ z1.2.2.2.2.2 = z.2.2.2.2.2 + 7 ∧ (∀ i k, kc i k = true → i ≠ 8 → i ≠ 9 → i ≠ 10 → ¬ (i = 7 ∧ k = 8) → z1.1 i k = z.1 i k) ∧ z1.1 7 8 = 0
theorem ord_fin {N n : Nat} {ans : Int32} {z1 y : z_T} {r : RL} (I : Inv z) (hA : F_X0_orders n (hp L xs z) 7 (ii N) = some (ans, hp L xs z1)) (O : oZ z z1) (W : wf r) (hs : sub (tld z) r.1) (x2 : z1.1 8 2 = r.1) (x3 : z1.1 8 3 = r.2.1) (x9 : ∀ j, j < 16 → z1.1 9 j = r.2.2.1 j) (x10 : ∀ j, j < 16 → z1.1 10 j = r.2.2.2 j) (hB : F_X6_orders n (hp L xs z1) 105 (ii N) = some (ans, hp L xs y)) (m : mrl y r) (h12 : y.1 105 12 = 0) (q : kqs z1 y) : Op L xs z (fun h => F_X0_orders n h 7 (ii N)) (fun h => F_X6_orders n h 105 (ii N)) := by
  obtain ⟨o1, o2, o3, o4, o5, o6⟩ := O
  have keep : ∀ i k, kr i k = true → y.1 i k = z.1 i k := fun i k hk => by
    obtain ⟨a1, a2, a3, a4, a5, a6⟩ := kr_kq hk
    rw [q.2 i k a1, o5 i k a2 a3 a4 a5 a6]
  have h78 : y.1 7 8 = 0 := (q.2 7 8 rfl).trans o6
  refine ⟨ans, z1, y, hA, hB, Inv_roll I W hs ((q.2 8 2 rfl).trans x2) ((q.2 8 3 rfl).trans x3) (fun j hj => (q.2 9 j rfl).trans (x9 j hj)) (fun j hj => (q.2 10 j rfl).trans (x10 j hj)) m keep ⟨0, by omega, h78⟩ (h12.trans h78.symm), ?_, ?_⟩
  · unfold lf
    rw [q.1]
    refine ⟨o1, o2, by rw [o3]; omega, fun i h1 h2 => funext fun k => keep i k ?_, keep 105 21 rfl⟩
    obtain rfl | rfl | rfl | rfl | rfl : i = 120 ∨ i = 121 ∨ i = 122 ∨ i = 123 ∨ i = 124 := by omega
    all_goals rfl
  · unfold rm
    rw [q.1, o3, o4]
    exact ⟨by omega, by omega⟩
theorem o_orders {w : Int32} {n : Nat} (I : Inv z) (hn : 1000 ≤ n) : Op L xs z (fun h => F_X0_orders n h 7 w) (fun h => F_X6_orders n h 105 w) := by
  have T := I.2.2.2.2.2.1
  by_cases hw : ¬ w < 1 ∧ ¬ (160 : Int32) < w
  · by_cases ht : z.1 7 8 < w
    · refine Op.no I (r := -1) ?_ ?_
      · show F_X0_orders n (hp L xs z) 7 w = _
        unfold F_X0_orders
        rw [e_within, Option.bind_some, if_pos hw, if_neg one_ne]
        simp only [zr_0, zr_1, zr_2, zr_3, zr_4, zr_5, zr_6, Option.bind_some, po_s, po_n]
        rw [if_pos ht]
      · show F_X6_orders n (hp L xs z) 105 w = _
        unfold F_X6_orders
        rw [m_in, Option.bind_some, if_pos hw, if_neg one_ne]
        simp only [zr_0, zr_1, zr_2, zr_3, zr_4, zr_5, zr_6, Option.bind_some, po_s, po_n, T.2.1]
        rw [if_pos ht]
    · obtain ⟨N, a1, a2, rfl⟩ := in_of 1 160 (by decide) (by decide) hw
      obtain ⟨y, c1, c2, c3⟩ := x_cini (L := L) (xs := xs) (z := ui z 7 8 0) (N := ii N) (n := n) (by omega)
      have c1 : F_X17_init n (pm_nw (hp L xs (ui z 7 8 0)) 13) (135 + z.2.2.2.2.1) 7 (ii N) = some (cS L xs y (135 + z.2.2.2.2.1) (ii N) 0 0 0 0) := c1
      have he : 135 ≤ 135 + z.2.2.2.2.1 ∧ 135 + z.2.2.2.2.1 < 135 + (nx (ui z 7 8 0) 7).2.2.2.2.1 := ⟨by omega, by show _ < 135 + (z.2.2.2.2.1 + 1); omega⟩
      have hr0 := x_read (L := L) (xs := xs) (z := nx (ui z 7 8 0) 7) (e := 135 + z.2.2.2.2.1) (N := N) (n := n) (p := 0) he (by omega) c2 c3 (by omega)
      have hhead : ∀ {v : Option (Int32 × pm_H)}, ((F_X17_read n (cS L xs y (135 + z.2.2.2.2.1) (ii N) 0 0 0 0) (135 + z.2.2.2.2.1)).bind fun q5 =>
          if q5.1 < 0 then
            some (q5.1, q5.2)
          else
            (pm_fR [(0, 0)] q5.2 7).bind fun v6 =>
            (pm_fR [(0, 1)] q5.2 7).bind fun v7 =>
            (if pm_cl_ q5.2 v6 = some 1 then F_X1_takes n q5.2 v6 v7 else none).bind fun q8 =>
            some (q5.1, q8)) = v → F_X0_orders n (hp L xs z) 7 (ii N) = v := fun {v} ev => by
        have cc := (c_r (L := L) (xs := xs) (y := y) (e := 135 + z.2.2.2.2.1) (N := ii N) (A := 0) (f := 0) (p := 0) (l := 0) (by rw [show y.2.2.2.2.1 = (nx (ui z 7 8 0) 7).2.2.2.2.1 by rw [c2.1]]; exact he)).2.2.1
        unfold F_X0_orders
        rw [e_within, Option.bind_some, if_pos hw, if_neg one_ne, show pm_fI [(0, 8)] (hp L xs z) 7 = some (z.1 7 8) by simp only [zr_0, zr_1, zr_2, zr_3, zr_4, zr_5, zr_6], Option.bind_some, if_neg ht, show pm_put [(0, 8, 0)] (hp L xs z) 7 (.int 0) = some (hp L xs (ui z 7 8 0)) by simp only [zw_0, zw_1], Option.bind_some]
        rw [show (hp L xs (ui z 7 8 0)).2.1 = 135 + z.2.2.2.2.1 from rfl, c1, Option.bind_some, if_pos cc]
        exact ev
      have base : ∀ {y' : z_T} {c : pm_C}, kp (nx (ui z 7 8 0) 7) y' → oZ z (ue y' (135 + z.2.2.2.2.1) c) := fun {y' c} k => by
        refine ⟨?_, fun i hi => ?_, ?_, ?_, fun i j h1 h2 h3 h4 h5 => ?_, ?_⟩
        · show y'.2.2.1 = _
          rw [k.1]
          rfl
        · show (if i = 135 + z.2.2.2.2.1 then c else y'.2.2.2.1 i) = _
          rw [if_neg (by omega), k.1]
          rfl
        · show y'.2.2.2.2.1 = _
          rw [k.1]
          rfl
        · show y'.2.2.2.2.2 = _
          rw [k.1]
          rfl
        · refine (k.2 i j h1).trans ?_
          show (ui z 7 8 0).1 i j = z.1 i j
          by_cases e : i = 7
          · subst e
            exact ui_b (fun x => h5 ⟨rfl, x⟩)
          · rw [ui_o e]
        · exact (k.2 7 8 rfl).trans rfl
      have mrun : ∀ {z1 : z_T}, oZ z z1 → ∀ r, mrl z1 r → match rd0 (nx (ui z 7 8 0) 7) N r with
          | .inl v => ∃ y, F_X6_orders n (hp L xs z1) 105 (ii N) = some (v, hp L xs y) ∧ mrl y r ∧ y.1 105 12 = 0 ∧ kqs z1 y
          | .inr (l, r') => ∃ y, F_X6_orders n (hp L xs z1) 105 (ii N) = some (ii l, hp L xs y) ∧ mrl y r' ∧ y.1 105 12 = 0 ∧ kqs z1 y := fun {z1} O r X => by
        obtain ⟨o1, o2, o3, o4, o5, o6⟩ := O
        have g : ∀ i k, kr i k = true → z1.1 i k = z.1 i k := fun i k hk => by
          obtain ⟨_, b2, b3, b4, b5, b6⟩ := kr_kq hk
          exact o5 i k b2 b3 b4 b5 b6
        have hrd : rd0 z1 N r = rd0 (nx (ui z 7 8 0) 7) N r := rd0_by (hr_by (funext fun i => by
          unfold by_
          rw [g 75 i rfl]
          rfl)) N r
        rw [← hrd]
        refine m_orders (fun i hi => ?_) a2 a1 ?_ X (by omega)
        · rw [g 113 i rfl, g 75 i rfl]
          exact T.1 i hi
        · rw [o5 105 12 rfl (by decide) (by decide) (by decide) (by decide), T.2.1]
          exact ht
      have mI : ∀ {z1 : z_T}, oZ z z1 → mrl z1 (rl0 z) := fun {z1} O => by
        obtain ⟨o1, o2, o3, o4, o5, o6⟩ := O
        obtain ⟨x1, x2, x3, x4⟩ := mrl_I I
        refine ⟨?_, ?_, fun p hp1 => ?_, fun p hp1 => ?_⟩
        · exact (o5 105 7 rfl (by decide) (by decide) (by decide) (by decide)).trans x1
        · exact (o5 105 8 rfl (by decide) (by decide) (by decide) (by decide)).trans x2
        · exact (o5 109 p rfl (by decide) (by decide) (by decide) (fun h => absurd h.1 (by decide))).trans (x3 p hp1)
        · exact (o5 110 p rfl (by decide) (by decide) (by decide) (fun h => absurd h.1 (by decide))).trans (x4 p hp1)
      have er : rl0 (ui z 7 8 0) = rl0 z := rfl
      rw [er] at hr0
      cases eo : rd0 (nx (ui z 7 8 0) 7) N (rl0 z) with
      | inl v =>
        rw [eo] at hr0
        obtain ⟨y', h', u1, u2, A, f, q, l, u3⟩ := hr0
        have O := base (c := sc 13 (ii N) A f q [.int l, .ref 7]) u2
        have M := mrun O (rl0 z) (mI O)
        rw [eo] at M
        obtain ⟨y2, v1, v2, v3, v4⟩ := M
        refine ord_fin (z1 := ue y' (135 + z.2.2.2.2.1) (sc 13 (ii N) A f q [.int l, .ref 7])) I (hhead ?_) O (wf_I I) sub.rf ?_ ?_ (fun j hj => ?_) (fun j hj => ?_) v1 v2 v3 v4
        · rw [u1, Option.bind_some]
          dsimp only
          rw [if_pos (rd0_neg eo), u3]
          rfl
        · exact (u2.2 8 2 rfl).trans rfl
        · exact (u2.2 8 3 rfl).trans rfl
        · exact (u2.2 9 j rfl).trans rfl
        · exact (u2.2 10 j rfl).trans rfl
      | inr o =>
        obtain ⟨l, r'⟩ := o
        rw [eo] at hr0
        obtain ⟨y', h', u1, u2, u4, A, f, q, l2, u3⟩ := hr0
        obtain ⟨w1, w2, w3⟩ := wf_0 (wf_I I) eo
        have O := base (c := sc 13 (ii N) A f q [.int l2, .ref 7]) u2
        obtain ⟨y3, b1, b2, b3, b4, b5, b6⟩ := x_takesB (L := L) (xs := xs) (z := ue y' (135 + z.2.2.2.2.1) (sc 13 (ii N) A f q [.int l2, .ref 7])) (n := n) (by omega)
        have O3 : oZ z y3 := by
          obtain ⟨o1, o2, o3, o4, o5, o6⟩ := O
          unfold oZ
          rw [b2]
          exact ⟨o1, o2, o3, o4, fun i k h1 h2 h3 h4 h5 => (b3 i k h2 h3 h4).trans (o5 i k h1 h2 h3 h4 h5), (b3 7 8 (by decide) (by decide) (by decide)).trans o6⟩
        have M := mrun O3 (rl0 z) (mI O3)
        rw [eo] at M
        obtain ⟨y2, v1, v2, v3, v4⟩ := M
        refine ord_fin (z1 := y3) I (hhead ?_) O3 w1 w2 (b5.trans u4.1) (b6.trans u4.2.1) (fun j hj => (b4 j hj).1.trans (u4.2.2.1 j hj)) (fun j hj => (b4 j hj).2.trans (u4.2.2.2 j hj)) v1 v2 v3 v4
        rw [u1, Option.bind_some]
        dsimp only
        rw [if_neg (ii_nn (show l < 2147483648 by omega)), u3]
        unfold cS
        simp only [zr_0, zr_1, zr_2, zr_3, zr_4, zr_5, zr_6, Option.bind_some, po_s, po_n, ↓reduceIte, b1]
  · refine Op.no I (r := -1) ?_ ?_
    · show F_X0_orders n (hp L xs z) 7 w = _
      unfold F_X0_orders
      rw [e_within, Option.bind_some, if_neg hw, if_pos rfl]
    · show F_X6_orders n (hp L xs z) 105 w = _
      unfold F_X6_orders
      rw [m_in, Option.bind_some, if_neg hw, if_pos rfl]
end
