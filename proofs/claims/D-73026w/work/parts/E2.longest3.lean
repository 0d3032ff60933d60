/-! THE PLAIN LAW: longest, joined -/
set_option maxRecDepth 100000
theorem dif0 : ∀ a, a < 17 → ∀ b, b < 17 → (((0 : Int32) < ii a - ii b) = (b < a)) ∧ ((ii a - ii b = 0) = (a = b)) := by
  have h : ∀ a, a < 17 → ∀ b, b < 17 → (((0 : Int32) < ii a - ii b) ↔ (b < a)) ∧ ((ii a - ii b = 0) ↔ (a = b)) := by decide
  exact fun a ha b hb => ⟨propext (h a ha b hb).1, propext (h a ha b hb).2⟩
section
variable {L : Nat} {xs : Nat → Int32} {z : z_T}
theorem x_lg2 (W : I_who z) : ∀ (d s n : Nat) (y : z_T) (b : Int32), s + d = sn (tld z) + 1 → 0 < s → d + 100 ≤ n → kp z y → s16 b → sn b < s → (∀ T, s16 T → T ≠ 0 → sn T < s → y.1 82 (sn T) = Hs z T) →
    ∃ y', kp z y' ∧ L_X0_longest_14 n 7 b (ii s) (hp L xs y) = some (lp (fL z) d s b, hp L xs y') ∧ ∀ T, s16 T → T ≠ 0 → sn T < s + d → y'.1 82 (sn T) = Hs z T
  | 0, s, n, y, b, h1, h0, h2, h3, h4, h5, h6 => by
    obtain ⟨m, rfl⟩ : ∃ m, n = m + 1 := ⟨n - 1, by omega⟩
    have hl := sn_lt W.1
    have c : tld z < ii s := by
      rw [← ii_sn (tld z), ii_lt (by omega) (by omega)]
      omega
    rw [L_X0_longest_14]
    simp only [zr_0, zr_1, zr_2, zr_3, zr_4, zr_5, zr_6, Option.bind_some, po_s, po_n, show tld y = tld z from h3.2 8 2 rfl, c, ↓reduceIte]
    exact ⟨y, h3, rfl, h6⟩
  | d + 1, s, n, y, b, h1, h0, h2, h3, h4, h5, h6 => by
    obtain ⟨m, rfl⟩ : ∃ m, n = m + 1 := ⟨n - 1, by omega⟩
    have hl := sn_lt W.1
    have et : tld y = tld z := h3.2 8 2 rfl
    have hs : s < 65536 := by omega
    have hS : s16 (ii s) := ii_s16 hs
    have hsn := sn_ii hs
    have c : ¬ tld z < ii s := by
      rw [← ii_sn (tld z), ii_lt (by omega) (by omega)]
      omega
    have hpp := pc_pos h0 hs
    have hps := pc_le (ii s)
    have hpb := pc_le b
    have e8 : ((if ii (pc (ii s)) = 1 then if ii s &&& (tld z ^^^ (-1)) = 0 then some (ii s) else some 0 else some 0) : Option Int32) = some (if pc (ii s) = 1 ∧ ii s &&& (tld z ^^^ (-1)) = 0 then ii s else 0) := by
      have e1 : (ii (pc (ii s)) = 1) = (pc (ii s) = 1) := ii_eq (b := 1) (by omega) (by omega)
      simp only [e1]
      by_cases c1 : pc (ii s) = 1
      · by_cases c2 : ii s &&& (tld z ^^^ (-1)) = 0
        · rw [if_pos c1, if_pos c2, if_pos (And.intro c1 c2)]
        · rw [if_pos c1, if_neg c2, if_neg (fun q => c2 q.2)]
      · rw [if_neg c1, if_neg (fun q => c1 q.1)]
    obtain ⟨y1, k1, w1, w2, w3⟩ := x_lg1 (L := L) (xs := xs) (z := z) hS (t := y.1 82) 16 0 m (ui y 82 (sn (ii s)) (if pc (ii s) = 1 ∧ ii s &&& (tld z ^^^ (-1)) = 0 then ii s else 0)) rfl (by omega) (h3.ui rfl) (fun j hj => ui_b hj)
    rw [ui_a, x_lgv hS (fun T a1 a2 a3 => h6 T a1 a2 (by omega))] at w3
    have w1 : L_X0_longest_61 m 7 (ii s) 0 (hp L xs (ui y 82 (sn (ii s)) (if pc (ii s) = 1 ∧ ii s &&& (tld z ^^^ (-1)) = 0 then ii s else 0))) = some (hp L xs y1) := w1
    have tab : ∀ T, s16 T → T ≠ 0 → sn T < s + 1 → y1.1 82 (sn T) = Hs z T := fun T a1 a2 a3 => by
      by_cases e : sn T = sn (ii s)
      · rw [e, w3, sn_inj e]
      · rw [w2 _ e]
        exact h6 T a1 a2 (by omega)
    have hH16 := s16_Hs (z := z) hS
    have eb : F_J6_bitCount b = some (ii (pc b)) := e_bits h4
    have es : F_J6_bitCount (ii s) = some (ii (pc (ii s))) := e_bits hS
    have r16 : s16 (fL z s b) ∧ sn (fL z s b) < s + 1 := by
      unfold fL
      split
      · exact ⟨h4, by omega⟩
      · split
        · exact ⟨hS, by omega⟩
        · split
          · exact ⟨hS, by omega⟩
          · exact ⟨h4, by omega⟩
    have step : L_X0_longest_14 (m + 1) 7 b (ii s) (hp L xs y) = L_X0_longest_14 m 7 (fL z s b) (ii (s + 1)) (hp L xs y1) := by
      rw [L_X0_longest_14]
      simp only [zr_0, zr_1, zr_2, zr_3, zr_4, zr_5, zr_6, Option.bind_some, po_s, po_n, et, c, ↓reduceIte, es, e8, si82 hS, w1, ai82 hS, w3, eb]
      unfold fL
      by_cases c1 : Hs z (ii s) = 0
      · simp only [c1, ↓reduceIte, Option.bind_some, po_s, po_n, ii_s, show ¬ (0 : Int32) < -1 by decide, show ¬ (-1 : Int32) = 0 by decide]
      · have hd := dif0 (pc (ii s)) (by omega) (pc b) (by omega)
        simp only [c1, ↓reduceIte, Option.bind_some, po_s, po_n, ii_s, hd.1, hd.2]
        by_cases c2 : pc b < pc (ii s)
        · simp only [c2, ↓reduceIte]
        · by_cases c3 : pc (ii s) = pc b
          · have hb0 : b ≠ 0 := fun e => by rw [e, pc_0] at c3; omega
            have hb16 := s16_Hs (z := z) h4
            have hb1 := h6 b h4 hb0 h5
            have hbt : y1.1 82 (sn b) = Hs z b := tab b h4 hb0 (by omega)
            rw [if_neg c2, if_pos c3, if_neg c2]
            simp only [zr_0, zr_1, zr_2, zr_3, zr_4, zr_5, zr_6, Option.bind_some, po_s, po_n, ai82 hS, w3, ai82 h4, hbt, e_low hH16, e_low hb16]
            have l1 : ∀ q : Int32, lw q < 2147483648 := fun q => by
              unfold lw
              rcases lwN_ge q 16 0 with h | ⟨_, h, _⟩ <;> omega
            simp only [ii_lt (l1 (Hs z (ii s))) (l1 (Hs z b))]
            by_cases c4 : lw (Hs z (ii s)) < lw (Hs z b)
            · rw [if_pos c4, if_pos (And.intro c3 c4)]
            · rw [if_neg c4, if_neg (fun q => c4 q.2)]
          · rw [if_neg c2, if_neg c3, if_neg c2, if_neg (fun q => c3 q.1)]
    rw [step]
    obtain ⟨y', q1, q2, q3⟩ := x_lg2 W d (s + 1) m y1 (fL z s b) (by omega) (by omega) (by omega) k1 r16.1 r16.2 tab
    exact ⟨y', q1, q2, fun T a1 a2 a3 => q3 T a1 a2 (by omega)⟩
theorem m_lg2 (W : I_who z) (J : I_foe z) : ∀ (d s n : Nat) (y : z_T) (b : Nat) (e : Int32), s + d = 65536 → 0 < s → d + 100 ≤ n → kp z y → b ≤ 16 → (∀ T, s16 T → T ≠ 0 → sn T < s → y.1 131 (sn T) = Hs z T) →
    ∃ y', kp z y' ∧ L_X6_longest_18 n 105 (ii b) e (ii s) (hp L xs y) = some (ii (lp (gL z) d s (b, e)).1, (lp (gL z) d s (b, e)).2, hp L xs y')
  | 0, s, n, y, b, e, h1, h0, h2, h3, h4, h6 => by
    obtain ⟨m, rfl⟩ : ∃ m, n = m + 1 := ⟨n - 1, by omega⟩
    obtain rfl : s = 65536 := by omega
    rw [L_X6_longest_18, if_neg (by decide)]
    exact ⟨y, h3, rfl⟩
  | d + 1, s, n, y, b, e, h1, h0, h2, h3, h4, h6 => by
    obtain ⟨m, rfl⟩ : ∃ m, n = m + 1 := ⟨n - 1, by omega⟩
    have hs : s < 65536 := by omega
    have hS : s16 (ii s) := ii_s16 hs
    have hsn := sn_ii hs
    have hps := pc_le (ii s)
    have ct : ii s < 65536 := by rw [show (65536 : Int32) = ii 65536 from rfl, ii_lt (by omega) (by omega)]; exact hs
    have b16 : (gL z s (b, e)).1 ≤ 16 := by
      unfold gL
      split
      · exact h4
      · split
        · exact h4
        · exact hps
    have step : ∃ y1, kp z y1 ∧ (∀ T, s16 T → T ≠ 0 → sn T < s + 1 → y1.1 131 (sn T) = Hs z T) ∧ L_X6_longest_18 (m + 1) 105 (ii b) e (ii s) (hp L xs y) = L_X6_longest_18 m 105 (ii (gL z s (b, e)).1) (gL z s (b, e)).2 (ii (s + 1)) (hp L xs y1) := by
      rw [L_X6_longest_18, if_pos ct]
      simp only [zr_0, zr_1, zr_2, zr_3, zr_4, zr_5, zr_6, Option.bind_some, po_s, po_n, si131 hS, show ∀ v, (ui y 131 (sn (ii s)) v).1 105 7 = tld z from fun v => (h3.2 105 7 rfl).trans W.2.1]
      by_cases cs : ii s &&& (tld z ^^^ (-1)) = 0
      · obtain ⟨y1, k1, w1, w2, w3⟩ := m_lg1 (L := L) (xs := xs) (z := z) W J hS (t := y.1 131) 16 0 m (ui y 131 (sn (ii s)) 0) rfl (by omega) (h3.ui rfl) (fun j hj => ui_b hj)
        rw [ui_a, m_lgv hS (and_not0.mp cs) (fun T a1 a2 a3 => h6 T a1 a2 (by omega))] at w3
        have w1 : L_X6_longest_51 m 105 (ii s) 0 (hp L xs (ui y 131 (sn (ii s)) 0)) = some (hp L xs y1) := w1
        refine ⟨y1, k1, fun T a1 a2 a3 => ?_, ?_⟩
        · by_cases e : sn T = sn (ii s)
          · rw [e, w3, sn_inj e]
          · rw [w2 _ e]
            exact h6 T a1 a2 (by omega)
        · rw [if_pos cs, w1]
          have mb : F_X6_bits m (ii s) = some (ii (pc (ii s))) := m_bits (by omega)
          simp only [zr_0, zr_1, zr_2, zr_3, zr_4, zr_5, zr_6, Option.bind_some, po_s, po_n, ai131 hS, w3, mb, ii_s, ii_lt (show pc (ii s) < 2147483648 by omega) (show b < 2147483648 by omega), ii_lt (show b < 2147483648 by omega) (show pc (ii s) < 2147483648 by omega)]
          unfold gL
          by_cases c1 : Hs z (ii s) = 0
          · rw [if_pos c1, if_pos c1]
          · rw [if_neg c1, if_neg c1]
            by_cases c2 : pc (ii s) < b
            · rw [if_pos c2, if_pos c2]
            · rw [if_neg c2, if_neg c2]
              by_cases c3 : b < pc (ii s)
              · rw [if_pos c3, if_pos c3]
              · rw [if_neg c3, if_neg c3]
      · rw [if_neg cs]
        have hz : Hs z (ii s) = 0 := by
          unfold Hs
          rw [if_neg cs]
        refine ⟨ui y 131 (sn (ii s)) 0, h3.ui rfl, fun T a1 a2 a3 => ?_, ?_⟩
        · by_cases e : sn T = sn (ii s)
          · rw [e, ui_a, sn_inj e, hz]
          · rw [ui_b e]
            exact h6 T a1 a2 (by omega)
        · unfold gL
          rw [if_pos hz, ii_s]
    obtain ⟨y1, k1, tab, st⟩ := step
    rw [st]
    obtain ⟨y', q1, q2⟩ := m_lg2 W J d (s + 1) m y1 (gL z s (b, e)).1 (gL z s (b, e)).2 (by omega) (by omega) (by omega) k1 b16 tab
    exact ⟨y', q1, q2⟩
theorem o_longest {w : Int32} {n : Nat} (I : Inv z) (hn : 66000 ≤ n) : Op L xs z (fun h => F_X0_longest n h 7 w) (fun h => F_X6_longest n h 105 w) := by
  have W := I.1
  have J := I.2.2.1
  have hl := sn_lt W.1
  by_cases hw : ¬ w < 0 ∧ ¬ (1 : Int32) < w
  · obtain ⟨y, k1, x1, x2⟩ := x_lg2 (L := L) (xs := xs) W (sn (tld z)) 1 n z 0 (by omega) (by omega) (by omega) kp.rf s16_0 (by show 0 < 1; omega) (fun T a1 a2 a3 => absurd (sn_inj (by show sn T = 0; omega) : T = 0) a2)
    obtain ⟨y2, k2, m1⟩ := m_lg2 (L := L) (xs := xs) W J 65535 1 n y 0 0 (by omega) (by omega) (by omega) k1 (by omega) (fun T a1 a2 a3 => absurd (sn_inj (by show sn T = 0; omega) : T = 0) a2)
    have R := rL_all (z := z) (sn (tld z)) hl
    rw [gL_T W.1] at m1
    have x1 : L_X0_longest_14 n 7 0 1 (hp L xs z) = _ := x1
    have m1 : L_X6_longest_18 n 105 0 0 1 (hp L xs y) = _ := m1
    generalize lp (fL z) (sn (tld z)) 1 0 = B at R x1
    generalize lp (gL z) (sn (tld z)) 1 (0, 0) = M at R m1
    obtain ⟨r1, r2, r3, r4, r5⟩ := R
    have hpB := pc_le B
    have eb : F_J6_bitCount B = some (ii (pc B)) := e_bits r2
    have hz : (ii (pc B) = 0) = (B = 0) := by
      rw [show (0 : Int32) = ii 0 from rfl, ii_eq (by omega) (by omega)]
      exact propext (pc_z r2)
    refine ⟨if w = 0 then ii (pc B) else if B = 0 then -2 else ii (lw (Hs z B)), y, y2, ?_, ?_, (I.kp k2), k2.lf, kp_rm k2⟩
    · show F_X0_longest n (hp L xs z) 7 w = _
      unfold F_X0_longest
      rw [e_in]
      simp only [Option.bind_some, po_s, po_n, n01, hw, not_false_eq_true, and_self, ↓reduceIte, one_ne0, x1]
      by_cases h0 : w = 0
      · rw [if_pos h0, if_pos h0, eb]
        rfl
      · rw [if_neg h0, if_neg h0]
        by_cases hB : B = 0
        · rw [if_pos hB, if_pos hB]
        · rw [if_neg hB, if_neg hB]
          simp only [zr_0, zr_1, zr_2, zr_3, zr_4, zr_5, zr_6, Option.bind_some, po_s, po_n, ai82 r2, x2 B r2 hB (by omega), e_low (s16_Hs r2)]
    · show F_X6_longest n (hp L xs y) 105 w = _
      unfold F_X6_longest
      rw [m_in]
      simp only [Option.bind_some, po_s, po_n, hw, not_false_eq_true, and_self, ↓reduceIte, one_ne0, m1, r1, hz]
      by_cases h0 : w = 0
      · rw [if_pos h0, if_pos h0]
      · rw [if_neg h0, if_neg h0]
        rcases r5 with ⟨e, _⟩ | ⟨e, _, e2, e3⟩
        · rw [if_pos e, if_pos e]
        · rw [if_neg e, if_neg e, m_low r3 e2 (by omega), e3]
          rfl
  · refine Op.kp I (r := -1) (z1 := z) (z2 := z) ?_ ?_ kp.rf
    · show F_X0_longest n (hp L xs z) 7 w = _
      unfold F_X0_longest
      rw [e_in]
      simp only [Option.bind_some, po_s, po_n, n01, hw, b01, one_ne0, Bool.false_eq_true, not_true, not_false_eq_true, Classical.not_not, ↓reduceIte]
    · show F_X6_longest n (hp L xs z) 105 w = _
      unfold F_X6_longest
      rw [m_in]
      simp only [Option.bind_some, po_s, po_n, hw, b01, one_ne0, Bool.false_eq_true, not_true, not_false_eq_true, Classical.not_not, ↓reduceIte]
end
