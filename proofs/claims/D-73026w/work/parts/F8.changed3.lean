/-! THE PLAIN LAW: changed, the call -/
set_option maxRecDepth 100000
theorem lf.tr {a b c : z_T} (h1 : lf a b) (h2 : lf b c) : lf a c := by
  obtain ⟨a1, a2, a3, a4, a5⟩ := h1
  obtain ⟨b1, b2, b3, b4, b5⟩ := h2
  exact ⟨b1.trans a1, fun i hi => (b2 i (by omega)).trans (a2 i hi), by omega, fun i h1 h2 => (b4 i h1 h2).trans (a4 i h1 h2), b5.trans a5⟩
theorem upd_cg {f g : Nat → Int32} {k j : Nat} {v : Int32} (h : f j = g j) : upd f k v j = upd g k v j := by
  unfold upd
  split
  · rfl
  · exact h
theorem kp_ui2 {a b : z_T} {i k : Nat} {v : Int32} (h : kp a b) : kp (ui a i k v) (ui b i k v) := ⟨h.1, fun j q hq => by
  by_cases e : j = i
  · subst e
    rw [ui_i, ui_i]
    exact upd_cg (h.2 j q hq)
  · rw [ui_o e, ui_o e]
    exact h.2 j q hq⟩
theorem byte {v : Int32} : ∃ u, u < 256 ∧ v &&& 255 = ii u := by
  refine ⟨sn (v &&& 255), ?_, (ii_sn _).symm⟩
  show (v &&& 255).toBitVec.toNat < 256
  rw [Int32.toBitVec_and, BitVec.toNat_and]
  exact Nat.lt_of_le_of_lt Nat.and_le_right (by decide)
theorem sm_ok : ∀ m, m < 9 → ∀ u, u < 256 → (ii u < pm_shl 1 (ii m) ↔ pm_shr (ii u) (ii m) = 0) := by decide +kernel
theorem Cn_cong {r s : Nat → Int32} {m : Nat} : ∀ (k : Nat) (S : Int32), (∀ i, i < k → r i = s i) → Cn r m k S = Cn s m k S
  | 0, _, _ => rfl
  | k + 1, S, h => sm_cong fun j _ => by
    rw [h k (by omega), Cn_cong k _ fun i hi => h i (by omega)]
theorem isM_u {r : Int32 → Bool} {m a b : Nat} (h1 : isM r m a) (h2 : isM r m b) : a = b := by
  obtain ⟨⟨T, t1, t2, t3⟩, t4⟩ := h1
  obtain ⟨⟨U, u1, u2, u3⟩, u4⟩ := h2
  have a1 := u4 T t1 t2
  have a2 := t4 U u1 u2
  omega
section
variable {L : Nat} {xs : Nat → Int32} {z : z_T}
theorem Op_tq {A B : pm_H → Option (Int32 × pm_H)} {r : Int32} {y y2 : z_T} (I : Inv z) (h1 : A (hp L xs z) = some (r, hp L xs y)) (k1 : kp (ui z 7 8 0) y) (h2 : B (hp L xs y) = some (r, hp L xs y2)) (k2 : kp (ui y 105 12 0) y2) : Op L xs z A B := by
  have K : kp (ui (ui z 7 8 0) 105 12 0) y2 := (kp_ui2 k1).tr k2
  have hr0 := kp_rm K
  have hr : rm z y2 := hr0
  exact ⟨r, y, y2, h1, h2, (I.tp ⟨0, Nat.zero_le _, rfl⟩).kp K, lf_tp.tr K.lf, hr⟩
theorem x_c35 {m : Nat} (hm : m ≤ 8) : ∀ (d i n : Nat) (y : z_T), i + d = m → d + 1 ≤ n → kp z y → (∀ k, k < i → y.1 84 k = by_ z k) →
    ∃ y', kp z y' ∧ (L_X0_changed_35 n 7 (ii m) (ii i) (hp L xs y) = some (.inr (hp L xs y')) ∧ (∀ k, k < m → y'.1 84 k = by_ z k) ∧ (∀ k, i ≤ k → k < m → pm_shr (by_ z k) (ii m) = 0) ∨ L_X0_changed_35 n 7 (ii m) (ii i) (hp L xs y) = some (.inl (-3, hp L xs y')) ∧ ∃ k, i ≤ k ∧ k < m ∧ pm_shr (by_ z k) (ii m) ≠ 0)
  | 0, i, n, y, h1, h2, h3, h4 => by
    obtain ⟨q, rfl⟩ : ∃ q, n = q + 1 := ⟨n - 1, by omega⟩
    obtain rfl : i = m := by omega
    rw [L_X0_changed_35, if_neg (by rw [ii_lt (by omega) (by omega)]; omega)]
    exact ⟨y, h3, Or.inl ⟨rfl, h4, fun k a b => absurd a (by omega)⟩⟩
  | d + 1, i, n, y, h1, h2, h3, h4 => by
    obtain ⟨q, rfl⟩ : ∃ q, n = q + 1 := ⟨n - 1, by omega⟩
    have hf : F_X0_fed (hp L xs y) 7 (ii i) = some (by_ z i) := by
      rw [x_fed (by omega)]
      show some (y.1 75 i &&& 255) = _
      rw [h3.2 75 i rfl]
      rfl
    obtain ⟨u, u1, u2⟩ := byte (v := z.1 75 i)
    have hs := sm_ok m (by omega) u u1
    have u2 : by_ z i = ii u := u2
    rw [← u2] at hs
    rw [L_X0_changed_35, if_pos (by rw [ii_lt (by omega) (by omega)]; omega)]
    simp only [zr_0, zr_1, zr_2, zr_3, zr_4, zr_5, zr_6, Option.bind_some, po_s, po_n, hf, za_0, za_1, za_2, za_3, za_4, za_5, show i < 8 by omega, ↓reduceIte, ii_s]
    by_cases c : by_ z i < pm_shl 1 (ii m)
    · rw [if_pos c]
      obtain ⟨y', k1, r1⟩ := x_c35 hm d (i + 1) q (ui y 84 i (by_ z i)) (by omega) (by omega) (h3.ui rfl) (fun k hk => by
        by_cases e : k = i
        · subst e; exact ui_a
        · rw [ui_b e]; exact h4 k (by omega))
      refine ⟨y', k1, r1.imp (fun h => ⟨h.1, h.2.1, fun k a b => ?_⟩) (fun h => ⟨h.1, ?_⟩)⟩
      · by_cases e : k = i
        · subst e; exact hs.mp c
        · exact h.2.2 k (by omega) b
      · obtain ⟨k, a, b⟩ := h.2
        exact ⟨k, by omega, b⟩
    · rw [if_neg c]
      exact ⟨y, h3, Or.inr ⟨rfl, i, Nat.le_refl _, by omega, fun e => c (hs.mpr e)⟩⟩
theorem m_c36 {m : Nat} (hT : ∀ i, i < 260 → z.1 113 i = z.1 75 i) (hm : m ≤ 8) : ∀ (d i n : Nat), i + d = m → d + 1 ≤ n →
    ((∀ k, i ≤ k → k < m → pm_shr (by_ z k) (ii m) = 0) → L_X6_changed_36 n 105 (ii m) (ii i) (hp L xs z) = some (.inr ())) ∧ ((∃ k, i ≤ k ∧ k < m ∧ pm_shr (by_ z k) (ii m) ≠ 0) → L_X6_changed_36 n 105 (ii m) (ii i) (hp L xs z) = some (.inl (-3, hp L xs z)))
  | 0, i, n, h1, h2 => by
    obtain ⟨q, rfl⟩ : ∃ q, n = q + 1 := ⟨n - 1, by omega⟩
    obtain rfl : i = m := by omega
    rw [L_X6_changed_36, if_neg (by rw [ii_lt (by omega) (by omega)]; omega)]
    exact ⟨fun _ => rfl, fun ⟨k, a, b, _⟩ => absurd a (by omega)⟩
  | d + 1, i, n, h1, h2 => by
    obtain ⟨q, rfl⟩ : ∃ q, n = q + 1 := ⟨n - 1, by omega⟩
    have ih := m_c36 (m := m) hT hm d (i + 1) q (by omega) (by omega)
    rw [L_X6_changed_36, if_pos (by rw [ii_lt (by omega) (by omega)]; omega)]
    simp only [zr_0, zr_1, zr_2, zr_3, zr_4, zr_5, zr_6, Option.bind_some, po_s, po_n, m_octY hT kp.rf (show i < 260 by omega), ↓reduceIte, ii_s]
    by_cases c : pm_shr (by_ z i) (ii m) = 0
    · rw [if_pos c]
      refine ⟨fun h => ih.1 fun k a b => h k (by omega) b, fun ⟨k, a, b, e⟩ => ih.2 ⟨k, ?_, b, e⟩⟩
      have : k ≠ i := fun x => by subst x; exact e c
      omega
    · rw [if_neg c]
      exact ⟨fun h => absurd (h i (Nat.le_refl _) (by omega)) c, fun _ => rfl⟩
theorem o_changed {x w : Int32} {n : Nat} (I : Inv z) (hn : 2000 ≤ n) : Op L xs z (fun h => F_X0_changed n h 7 x w) (fun h => F_X6_changed n h 105 x w) := by
  have T := I.2.2.2.2.2.1
  by_cases hx : ¬ x < 2 ∧ ¬ (8 : Int32) < x
  · by_cases hw : ¬ w < 0 ∧ ¬ (1 : Int32) < w
    · by_cases ht : z.1 7 8 < x
      · refine Op.no I (r := -1) ?_ ?_
        · show F_X0_changed n (hp L xs z) 7 x w = _
          unfold F_X0_changed
          rw [e_within, Option.bind_some, if_pos hx, if_neg (by decide), e_in, Option.bind_some, if_pos (show ¬ w < 0 ∧ w < 2 from ⟨hw.1, n01 ▸ hw.2⟩), if_neg (by decide)]
          simp only [zr_0, zr_1, zr_2, zr_3, zr_4, zr_5, zr_6, Option.bind_some, po_s, po_n]
          rw [if_pos ht]
        · show F_X6_changed n (hp L xs z) 105 x w = _
          unfold F_X6_changed
          rw [m_in, Option.bind_some, if_pos hx, if_neg (by decide), m_in, Option.bind_some, if_pos hw, if_neg (by decide)]
          simp only [zr_0, zr_1, zr_2, zr_3, zr_4, zr_5, zr_6, Option.bind_some, po_s, po_n, T.2.1]
          rw [if_pos ht]
      · obtain ⟨m, a1, a2, rfl⟩ := in_of 2 8 (by decide) (by decide) hx
        have h2m := p2 a2
        obtain ⟨y1, k1, e1⟩ := x_c35 (L := L) (xs := xs) (z := ui z 7 8 0) a2 m 0 n (ui z 7 8 0) (by omega) (by omega) kp.rf (fun k hk => absurd hk (by omega))
        have hxh : ∀ {v : Option (Int32 × pm_H)}, ((L_X0_changed_35 n 7 (ii m) 0 (hp L xs (ui z 7 8 0))).bind fun q9 => po_s q9 (fun r => some r) fun e10 =>
            if w = 1 then
              (pm_fR [(0, 14)] e10 7).bind fun v29 =>
              (if pm_cl_ e10 7 = some 0 then F_X0_pairings n e10 7 v29 (ii m) else none).bind fun q30 =>
              some (q30.1, q30.2)
            else
              (L_X0_changed_88 n 7 (ii m) 0 e10).bind fun q13 =>
              (L_X0_changed_110 n 7 (ii m) 0 q13).bind fun q26 =>
              (pm_fR [(0, 18)] q26 7).bind fun v27 =>
              (pm_ai 0 q26 v27 ((pm_shl 1 (ii m)) - 1)).bind fun v28 =>
              some (v28, q26)) = v → F_X0_changed n (hp L xs z) 7 (ii m) w = v := fun {v} e => by
          unfold F_X0_changed
          rw [e_within, Option.bind_some, if_pos hx, if_neg (by decide), e_in, Option.bind_some, if_pos (show ¬ w < 0 ∧ w < 2 from ⟨hw.1, n01 ▸ hw.2⟩), if_neg (by decide)]
          rw [show pm_fI [(0, 8)] (hp L xs z) 7 = some (z.1 7 8) by simp only [zr_0, zr_1, zr_2, zr_3, zr_4, zr_5, zr_6], Option.bind_some, if_neg ht, show pm_put [(0, 8, 0)] (hp L xs z) 7 (.int 0) = some (hp L xs (ui z 7 8 0)) by simp only [zw_0, zw_1], Option.bind_some]
          exact e
        have hmh : ∀ {y : z_T} {v : Option (Int32 × pm_H)}, kp (ui z 7 8 0) y → ((L_X6_changed_36 n 105 (ii m) 0 (hp L xs (ui y 105 12 0))).bind fun q6 => po_s q6 (fun r => some r) fun e7 =>
            (L_X6_changed_62 n 105 (ii m) 0 (hp L xs (ui y 105 12 0))).bind fun q11 =>
            if w = 0 then
              (if pm_cl_ q11 105 = some 5 then F_X6_mostHoused n q11 105 (ii m) else none).bind fun q13 =>
              some (q13.1, q13.2)
            else
              (if pm_cl_ q11 105 = some 5 then F_X6_allHoused n q11 105 (ii m) else none).bind fun q12 =>
              some (q12.1, q12.2)) = v → F_X6_changed n (hp L xs y) 105 (ii m) w = v := fun {y v} k e => by
          have et : y.1 105 12 = z.1 7 8 := (k.2 105 12 rfl).trans T.2.1
          unfold F_X6_changed
          rw [m_in, Option.bind_some, if_pos hx, if_neg (by decide), m_in, Option.bind_some, if_pos hw, if_neg (by decide)]
          rw [show pm_fI [(5, 12)] (hp L xs y) 105 = some (z.1 7 8) by simp only [zr_0, zr_1, zr_2, zr_3, zr_4, zr_5, zr_6, et], Option.bind_some, if_neg ht, show pm_put [(5, 12, 0)] (hp L xs y) 105 (.int 0) = some (hp L xs (ui y 105 12 0)) by simp only [zw_0, zw_1], Option.bind_some]
          exact e
        have hTy : ∀ {y : z_T}, kp (ui z 7 8 0) y → (∀ i, i < 260 → (ui y 105 12 0).1 113 i = (ui y 105 12 0).1 75 i) ∧ by_ (ui y 105 12 0) = by_ z := fun {y} k => by
          refine ⟨fun i hi => ?_, funext fun i => ?_⟩
          · rw [ui_o (by decide), ui_o (by decide), k.2 113 i rfl, k.2 75 i rfl]
            exact T.1 i hi
          · unfold by_
            rw [ui_o (by decide), k.2 75 i rfl]
            rfl
        rcases e1 with ⟨e1, e2, e3⟩ | ⟨e1, e2⟩
        · have e1 : L_X0_changed_35 n 7 (ii m) 0 (hp L xs (ui z 7 8 0)) = some (.inr (hp L xs y1)) := e1
          have m36 : ∀ {y : z_T}, kp (ui z 7 8 0) y → L_X6_changed_36 n 105 (ii m) 0 (hp L xs (ui y 105 12 0)) = some (.inr ()) := fun {y} k => by
            refine (m_c36 (L := L) (xs := xs) (hTy k).1 a2 m 0 n (by omega) (by omega)).1 fun q b1 b2 => ?_
            rw [(hTy k).2]
            exact e3 q b1 b2
          by_cases h1 : w = 1
          · obtain ⟨y2, k2, v1⟩ := x_prs (L := L) (xs := xs) (z := ui z 7 8 0) (r := y1.1 84) (m := m) (n := n) a2 k1 (fun _ _ => rfl) (by omega)
            obtain ⟨T1, T2⟩ := hTy k2
            obtain ⟨y3, k3, t1, t2⟩ := m_62 (L := L) (xs := xs) (z := ui y2 105 12 0) (m := m) a2 (2 ^ m) 0 n (ui y2 105 12 0) (by omega) (by omega) kp.rf (fun q b => absurd b (by omega))
            obtain ⟨y4, k4, s1, s2⟩ := m_ah2 (L := L) (xs := xs) (z := ui y2 105 12 0) T1 a2 (2 ^ m - 1) 1 n y3 (by omega) (by omega) (by omega) k3 (fun q b => by
              have e : sn q = 0 := by omega
              have e' : q = 0 := sn_inj (by show sn q = 0; exact e)
              rw [t2 q (by omega), if_pos e, e', pc_0]
              rfl) (fun q b1 b2 => by rw [t2 q b2, if_neg (by omega)])
            have t1 : L_X6_changed_62 n 105 (ii m) 0 (hp L xs (ui y2 105 12 0)) = some (hp L xs y3) := t1
            have s1 : L_X6_allHoused_2 n 105 (ii m) 1 (hp L xs y3) = some (hp L xs y4) := s1
            have hfs : sn (full m) < 256 := by rw [sn_full a2]; omega
            have hfin := s2 (full m) (by rw [sn_full a2]; omega)
            rw [pc_fullm a2, T2] at hfin
            have ef : pm_shl 1 (ii m) - 1 = full m := by
              have : ∀ m, m < 9 → pm_shl 1 (ii m) - 1 = ii (2 ^ m - 1) := by decide
              exact this m (by omega)
            refine Op_tq I (r := ii (Cn (by_ z) m m (full m))) (y := y2) (y2 := y4) (hxh ?_) k2 (hmh k2 ?_) k4
            · rw [e1]
              show (if w = 1 then _ else _) = _
              rw [if_pos h1]
              simp only [zr_0, zr_1, zr_2, zr_3, zr_4, zr_5, zr_6, Option.bind_some, po_s, po_n, ↓reduceIte, v1]
              rw [Cn_cong m (full m) (s := by_ z) fun i hi => e2 i hi]
            · rw [m36 k2]
              show (L_X6_changed_62 n 105 (ii m) 0 (hp L xs (ui y2 105 12 0))).bind _ = _
              rw [t1, Option.bind_some, if_neg (by rw [h1]; decide)]
              unfold F_X6_allHoused
              rw [s1]
              simp only [zr_0, zr_1, zr_2, zr_3, zr_4, zr_5, zr_6, Option.bind_some, po_s, po_n, ↓reduceIte, ef, ai132 hfs, hfin]
          · have h0 : w = 0 := by
              obtain ⟨k, b1, b2, rfl⟩ := in_of 0 1 (by decide) (by decide) hw
              have : k ≠ 1 := fun e => h1 (by rw [e]; rfl)
              obtain rfl : k = 0 := by omega
              rfl
            obtain ⟨y2, k2, v1, v2, v3⟩ := x_c88 (L := L) (xs := xs) (z := ui z 7 8 0) (m := m) a2 (2 ^ m) 0 n y1 (by omega) (by omega) k1 (fun q b => absurd b (by omega))
            obtain ⟨y3, k3, u1, u2⟩ := x_c110 (L := L) (xs := xs) (z := ui z 7 8 0) (r := by_ z) (m := m) a2 m 0 n y2 (by omega) (by omega) k2 (fun k hk => by rw [v2]; exact e2 k hk) (fun q b => v3 q ((full_sub a2).mp b))
            obtain ⟨T1, T2⟩ := hTy k3
            obtain ⟨y4, k4, t1, t2⟩ := m_62 (L := L) (xs := xs) (z := ui y3 105 12 0) (m := m) a2 (2 ^ m) 0 n (ui y3 105 12 0) (by omega) (by omega) kp.rf (fun q b => absurd b (by omega))
            obtain ⟨y5, w', k5, s1, s2⟩ := m_4 (L := L) (xs := xs) (z := ui y3 105 12 0) T1 a2 m 0 n y4 0 (by omega) (by omega) k4 (by omega) ⟨⟨0, fun k hk => (by rw [hb_0] at hk; cases hk), rfl, pc_0⟩, fun q _ b => (by
              rw [show q = 0 from of_decide_eq_true b, pc_0]
              exact Nat.le_refl _)⟩ (fun q b => by
              rw [t2 q ((full_sub a2).mp b)]
              by_cases c : q = 0
              · rw [if_pos (by rw [c]; rfl), if_pos (show Rb (by_ (ui y3 105 12 0)) m 0 q = true from decide_eq_true c)]
              · rw [if_neg (fun e => c (sn_inj (by show sn q = 0; exact e))), if_neg (fun e : Rb (by_ (ui y3 105 12 0)) m 0 q = true => c (of_decide_eq_true e))])
            rw [T2] at s2
            have t1 : L_X6_changed_62 n 105 (ii m) 0 (hp L xs (ui y3 105 12 0)) = some (hp L xs y4) := t1
            have s1 : L_X6_mostHoused_4 n 105 (ii m) 0 0 (hp L xs y4) = some (ii w', hp L xs y5) := s1
            have v1 : L_X0_changed_88 n 7 (ii m) 0 (hp L xs y1) = some (hp L xs y2) := v1
            have u1 : L_X0_changed_110 n 7 (ii m) 0 (hp L xs y2) = some (hp L xs y3) := u1
            have hfs : sn (full m) < 256 := by rw [sn_full a2]; omega
            have hfin := u2 (full m) sub.rf
            have ew : w' = Mx (by_ z) m m (full m) := isM_u s2 (Mx_R a2 m (full m) (full16 a2))
            have ef : pm_shl 1 (ii m) - 1 = full m := by
              have : ∀ m, m < 9 → pm_shl 1 (ii m) - 1 = ii (2 ^ m - 1) := by decide
              exact this m (by omega)
            refine Op_tq I (r := ii (Mx (by_ z) m m (full m))) (y := y3) (y2 := y5) (hxh ?_) k3 (hmh k3 ?_) k5
            · rw [e1]
              show (if w = 1 then _ else _) = _
              rw [if_neg h1, v1, Option.bind_some, u1, Option.bind_some]
              simp only [zr_0, zr_1, zr_2, zr_3, zr_4, zr_5, zr_6, Option.bind_some, po_s, po_n, ef, ai104 hfs, hfin]
            · rw [m36 k3]
              show (L_X6_changed_62 n 105 (ii m) 0 (hp L xs (ui y3 105 12 0))).bind _ = _
              rw [t1, Option.bind_some, if_pos h0]
              unfold F_X6_mostHoused
              rw [s1]
              simp only [zr_0, zr_1, zr_2, zr_3, zr_4, zr_5, zr_6, Option.bind_some, po_s, po_n, ↓reduceIte, ew]
        · have e1 : L_X0_changed_35 n 7 (ii m) 0 (hp L xs (ui z 7 8 0)) = some (.inl (-3, hp L xs y1)) := e1
          have m36 : L_X6_changed_36 n 105 (ii m) 0 (hp L xs (ui y1 105 12 0)) = some (.inl (-3, hp L xs (ui y1 105 12 0))) := by
            refine (m_c36 (L := L) (xs := xs) (hTy k1).1 a2 m 0 n (by omega) (by omega)).2 ?_
            obtain ⟨k, b1, b2, b3⟩ := e2
            exact ⟨k, b1, b2, by rw [(hTy k1).2]; exact b3⟩
          refine Op_tq I (r := -3) (y := y1) (y2 := ui y1 105 12 0) (hxh ?_) k1 (hmh k1 ?_) kp.rf
          · rw [e1]
            rfl
          · rw [m36]
            rfl
    · refine Op.no I (r := -1) ?_ ?_
      · show F_X0_changed n (hp L xs z) 7 x w = _
        unfold F_X0_changed
        rw [e_within, Option.bind_some, if_pos hx, if_neg (by decide), e_in, Option.bind_some, if_neg (show ¬ (¬ w < 0 ∧ w < 2) from fun q => hw ⟨q.1, n01 ▸ q.2⟩), if_pos rfl]
      · show F_X6_changed n (hp L xs z) 105 x w = _
        unfold F_X6_changed
        rw [m_in, Option.bind_some, if_pos hx, if_neg (by decide), m_in, Option.bind_some, if_neg hw, if_pos rfl]
  · refine Op.no I (r := -1) ?_ ?_
    · show F_X0_changed n (hp L xs z) 7 x w = _
      unfold F_X0_changed
      rw [e_within, Option.bind_some, if_neg hx, if_pos rfl]
    · show F_X6_changed n (hp L xs z) 105 x w = _
      unfold F_X6_changed
      rw [m_in, Option.bind_some, if_neg hx, if_pos rfl]
end
