/-! THE PLAIN LAW: across, the call -/
set_option maxRecDepth 100000
section
variable {L : Nat} {xs : Nat → Int32} {z : z_T}
theorem m_70 {B : Int32} (h8 : pc B ≤ 8) : ∀ (d q n : Nat) (y : z_T), q + d = 16 → d + 1 ≤ n → kp z y → (∀ p, p < q → hb B p = true → y.1 133 (pcN B p) = ii p) →
    ∃ y', kp z y' ∧ L_X6_across_70 n 105 B (ii (pcN B q)) (ii q) (hp L xs y) = some (ii (pc B), hp L xs y') ∧ ∀ p, p < 16 → hb B p = true → y'.1 133 (pcN B p) = ii p
  | 0, q, n, y, h1, h2, h3, h4 => by
    obtain ⟨m, rfl⟩ : ∃ m, n = m + 1 := ⟨n - 1, by omega⟩
    obtain rfl : q = 16 := by omega
    rw [L_X6_across_70, if_neg (by decide)]
    exact ⟨y, h3, rfl, h4⟩
  | d + 1, q, n, y, h1, h2, h3, h4 => by
    obtain ⟨m, rfl⟩ : ∃ m, n = m + 1 := ⟨n - 1, by omega⟩
    have hq : q < 16 := by omega
    rw [L_X6_across_70, if_pos (lt16 hq)]
    simp only [zr_0, zr_1, zr_2, zr_3, zr_4, zr_5, zr_6, Option.bind_some, po_s, po_n, m_has (show q < 32 by omega), b01, ii_s]
    by_cases c1 : hb B q = true
    · have hw : pcN B q < 8 := by
        have := pcN_lt (q := 16) c1 (by omega)
        unfold pc at h8
        omega
      simp only [c1, one_ne0, Bool.false_eq_true, not_true, not_false_eq_true, Classical.not_not, ↓reduceIte, Option.bind_some, po_s, po_n, zr_0, zr_1, zr_2, zr_3, zr_4, zr_5, zr_6, za_0, za_1, za_2, za_3, za_4, za_5, hw]
      have := m_70 (B := B) h8 d (q + 1) m (ui y 133 (pcN B q) (ii q)) (by omega) (by omega) (h3.ui rfl) (fun p hp1 hB => by
        by_cases e : p = q
        · subst e; exact ui_a
        · have := pcN_lt (q := q) hB (by omega)
          rw [ui_b (by omega)]
          exact h4 p (by omega) hB)
      rw [pcN_s c1] at this
      exact this
    · have c1' : hb B q = false := by simpa using c1
      simp only [c1', one_ne0, Bool.false_eq_true, not_true, not_false_eq_true, Classical.not_not, ↓reduceIte, Option.bind_some, po_s, po_n]
      have := m_70 (B := B) h8 d (q + 1) m y (by omega) (by omega) h3 (fun p hp1 hB => by
        have : p ≠ q := fun e => by rw [e, c1'] at hB; cases hB
        exact h4 p (by omega) hB)
      rw [pcN_n c1'] at this
      exact this
theorem m_110 {m : Nat} (hm : m ≤ 8) : ∀ (d s n : Nat) (y : z_T), s + d = 2 ^ m → d + 1 ≤ n → kp z y → (∀ T, sn T < s → y.1 132 (sn T) = if sn T = 0 then 1 else 0) →
    ∃ y', kp z y' ∧ L_X6_across_110 n 105 (ii m) (ii s) (hp L xs y) = some (hp L xs y') ∧ y'.1 133 = y.1 133 ∧ ∀ T, sn T < 2 ^ m → y'.1 132 (sn T) = if sn T = 0 then 1 else 0
  | 0, s, n, y, h1, h2, h3, h4 => by
    obtain ⟨q, rfl⟩ : ∃ q, n = q + 1 := ⟨n - 1, by omega⟩
    have h2m := p2 hm
    obtain rfl : s = 2 ^ m := by omega
    rw [L_X6_across_110, if_neg (by rw [btd, bt_eq (by omega), ii_lt (by omega) (by omega)]; omega)]
    exact ⟨y, h3, rfl, rfl, h4⟩
  | d + 1, s, n, y, h1, h2, h3, h4 => by
    obtain ⟨q, rfl⟩ : ∃ q, n = q + 1 := ⟨n - 1, by omega⟩
    have h2m := p2 hm
    have hsn : sn (ii s) = s := sn_ii (by omega)
    have e0 : (ii s = 0) = (s = 0) := ii_eq (b := 0) (by omega) (by omega)
    have next : L_X6_across_110 (q + 1) 105 (ii m) (ii s) (hp L xs y) = L_X6_across_110 q 105 (ii m) (ii (s + 1)) (hp L xs (ui y 132 (sn (ii s)) (if s = 0 then 1 else 0))) := by
      rw [L_X6_across_110, if_pos (by rw [btd, bt_eq (by omega), ii_lt (by omega) (by omega)]; omega)]
      simp only [zr_0, zr_1, zr_2, zr_3, zr_4, zr_5, zr_6, Option.bind_some, po_s, po_n, si132 (show sn (ii s) < 256 by omega), e0, ii_s]
      by_cases c : s = 0
      · rw [if_pos c, if_pos c]
      · rw [if_neg c, if_neg c]
    rw [next]
    obtain ⟨y', r1, r2, r3, r4⟩ := m_110 hm d (s + 1) q (ui y 132 (sn (ii s)) (if s = 0 then 1 else 0)) (by omega) (by omega) (h3.ui rfl) (fun T t => by
      by_cases e : sn T = sn (ii s)
      · rw [e, ui_a, hsn]
      · rw [ui_b e]
        exact h4 T (by omega))
    exact ⟨y', r1, r2, r3.trans (ui_o (by decide)), r4⟩
theorem mask_pc {A : Int32} {p : Nat} : ∀ r, r ≤ 16 → pcN (A &&& ii (2 ^ p - 1)) r = pcN A (if r ≤ p then r else p)
  | 0, _ => by rw [if_pos (Nat.zero_le _)]; rfl
  | r + 1, hr => by
    have ih := mask_pc (A := A) (p := p) r (by omega)
    show pcN (A &&& ii (2 ^ p - 1)) r + (hb (A &&& ii (2 ^ p - 1)) r).toNat = _
    rw [ih, hb_and, hb_ii (by omega), Nat.testBit_two_pow_sub_one]
    by_cases c : r < p
    · rw [if_pos (by omega), if_pos (by omega), decide_eq_true c, Bool.and_true]
      rfl
    · rw [decide_eq_false c, Bool.and_false, if_neg (show ¬ r + 1 ≤ p by omega)]
      by_cases e : r ≤ p
      · rw [if_pos e, show r = p by omega]
        rfl
      · rw [if_neg e]
        rfl
theorem m_144 {A B : Int32} {r : Nat → Int32} (W : I_who z) (J : I_foe z) (hB : sub B (tld z)) (h8 : pc B ≤ 8) (hAB : A &&& B = 0) (hr : ∀ q, q < 16 → hb A q = true → r (pcN A q) = rowf B (z.1 10 q)) : ∀ (d p n : Nat) (y : z_T), p + d = 16 → d + 420 ≤ n → kp z y → (∀ p, p < 16 → hb B p = true → y.1 133 (pcN B p) = ii p) → (∀ T, sub T (full (pc B)) → y.1 132 (sn T) = ii (if pc T ≤ pcN A p then Cn r (pc B) (pc T) T else 0)) →
    ∃ y', kp z y' ∧ L_X6_across_144 n 105 A (ii (pc B)) (ii p) (hp L xs y) = some (hp L xs y') ∧ ∀ T, sub T (full (pc B)) → y'.1 132 (sn T) = ii (if pc T ≤ pc A then Cn r (pc B) (pc T) T else 0)
  | 0, p, n, y, h1, h2, h3, h4, h5 => by
    obtain ⟨m, rfl⟩ : ∃ m, n = m + 1 := ⟨n - 1, by omega⟩
    obtain rfl : p = 16 := by omega
    rw [L_X6_across_144, if_neg (by decide)]
    exact ⟨y, h3, rfl, h5⟩
  | d + 1, p, n, y, h1, h2, h3, h4, h5 => by
    obtain ⟨m, rfl⟩ : ∃ m, n = m + 1 := ⟨n - 1, by omega⟩
    have hp1 : p < 16 := by omega
    rw [L_X6_across_144, if_pos (lt16 hp1)]
    simp only [zr_0, zr_1, zr_2, zr_3, zr_4, zr_5, zr_6, Option.bind_some, po_s, po_n, m_has (show p < 32 by omega), b01, ii_s]
    by_cases c1 : hb A p = true
    · have em : pm_shl 1 (ii p) - 1 = ii (2 ^ p - 1) := by
        have : ∀ p, p < 16 → pm_shl 1 (ii p) - 1 = ii (2 ^ p - 1) := by decide
        exact this p hp1
      have e16 : F_X6_bits m (A &&& ii (2 ^ p - 1)) = some (ii (pcN A p)) := by
        rw [m_bits (by omega)]
        unfold pc
        rw [mask_pc 16 (Nat.le_refl _), if_neg (by omega)]
      have hi : pcN A p < 16 := by have := pcN_le A p; omega
      obtain ⟨y1, k1, w1, w2, w3⟩ := m_pairs (L := L) (xs := xs) (r := r) (m := pc B) (i := pcN A p) (n := m) W J hp1 h8 hi (by omega) h3 (fun j hj => by
        obtain ⟨q, q1, q2, q3⟩ := pcN_at (A := B) (j := j) 16 hj
        refine ⟨q, q1, by rw [← q3]; exact h4 q q1 q2, ?_⟩
        rw [hr p hp1 c1, ← q3, hb_rowf q1 q2, hb_fr hp1, hB q q2]
        have : q ≠ p := fun e => by
          have := congrArg (fun s => hb s q) hAB
          rw [hb_and, q2, e, c1, hb_0] at this
          cases this
        simp [this]) h5
      simp only [c1, one_ne0, Bool.false_eq_true, not_true, not_false_eq_true, Classical.not_not, ↓reduceIte, Option.bind_some, po_s, po_n, zr_0, zr_1, zr_2, zr_3, zr_4, zr_5, zr_6, em, e16, w1]
      have := m_144 W J hB h8 hAB hr d (p + 1) m y1 (by omega) (by omega) k1 (fun q a b => by rw [w2]; exact h4 q a b) (fun T hT => by rw [w3 T hT, pcN_s c1])
      exact this
    · have c1' : hb A p = false := by simpa using c1
      simp only [c1', one_ne0, Bool.false_eq_true, not_true, not_false_eq_true, Classical.not_not, ↓reduceIte, Option.bind_some, po_s, po_n]
      exact m_144 W J hB h8 hAB hr d (p + 1) m y (by omega) (by omega) h3 h4 (fun T hT => by rw [h5 T hT, pcN_n c1'])
/-- what is asked of the two sets -/
def okA (z : z_T) (a b : Int32) : Prop := sub a (tld z) ∧ sub b (tld z) ∧ a ≠ 0 ∧ a &&& b = 0 ∧ pc a = pc b ∧ pc a ≤ 8
theorem x_acN {a b : Int32} {n : Nat} (W : I_who z) (h : ¬ okA z a b) : F_X0_across n (hp L xs z) 7 a b = some (-1, hp L xs z) := by
  obtain ⟨v, hv⟩ : ∃ v, F_J6_bitCount a = some v := ⟨_, rfl⟩
  unfold F_X0_across
  rw [hv, Option.bind_some]
  by_cases c1 : 0 < a
  · rw [if_pos c1]
    simp only [zr_0, zr_1, zr_2, zr_3, zr_4, zr_5, zr_6, Option.bind_some, po_s, po_n, x_are, ↓reduceIte]
    by_cases c2 : ¬ a < 0 ∧ a &&& (tld z ^^^ (-1)) = 0
    · rw [if_pos c2, if_neg (by decide)]
      have hs := and_not0.mp c2.2
      have a16 := sub16 hs W.1
      have hv2 : v = ii (pc a) := by
        rw [e_bits a16] at hv
        exact (Option.some.inj hv).symm
      have a0 : a ≠ 0 := fun e => by rw [e] at c1; exact absurd c1 (by decide)
      by_cases c3 : ¬ b < 0 ∧ b &&& (tld z ^^^ (-1)) = 0
      · rw [if_pos c3, if_neg (by decide)]
        have hs2 := and_not0.mp c3.2
        have b16 := sub16 hs2 W.1
        have l1 := pc_le a
        have l2 := pc_le b
        by_cases c4 : a &&& b = 0
        · rw [if_pos c4, e_bits b16, Option.bind_some, hv2]
          by_cases c5 : ii (pc b) = ii (pc a)
          · rw [if_pos c5, if_pos]
            rw [ii_eq (by omega) (by omega)] at c5
            rw [show (8 : Int32) = ii 8 from rfl, ii_lt (by decide) (by omega)]
            exact Classical.byContradiction fun hn => h ⟨hs, hs2, a0, c4, c5.symm, by omega⟩
          · rw [if_neg c5]
        · rw [if_neg c4]
      · rw [if_neg c3, if_pos rfl]
    · rw [if_neg c2, if_pos rfl]
  · rw [if_neg c1]
theorem rng {a : Int32} (h16 : s16 a) (h0 : a ≠ 0) : ¬ a < 1 ∧ ¬ (65535 : Int32) < a := by
  have := sn_lt h16
  have h1 : sn a ≠ 0 := fun e => h0 (sn_inj e)
  rw [← ii_sn a, show (1 : Int32) = ii 1 from rfl, show (65535 : Int32) = ii 65535 from rfl, ii_lt (by omega) (by omega), ii_lt (by omega) (by omega)]
  omega
theorem m_acN {a b : Int32} {n : Nat} (W : I_who z) (hn : 60 ≤ n) (h : ¬ okA z a b) : F_X6_across n (hp L xs z) 105 a b = some (-1, hp L xs z) := by
  unfold F_X6_across
  rw [m_in, Option.bind_some]
  by_cases c1 : ¬ a < 1 ∧ ¬ (65535 : Int32) < a
  · rw [if_pos c1, if_neg (by decide), m_in, Option.bind_some]
    by_cases c2 : ¬ b < 1 ∧ ¬ (65535 : Int32) < b
    · rw [if_pos c2, if_neg (by decide)]
      simp only [zr_0, zr_1, zr_2, zr_3, zr_4, zr_5, zr_6, Option.bind_some, po_s, po_n, W.2.1, m_bits (show 17 ≤ n by omega)]
      by_cases c3 : (a ||| b) &&& (tld z ^^^ (-1)) = 0
      · rw [if_pos c3]
        have hs := and_not0.mp c3
        by_cases c4 : a &&& b = 0
        · rw [if_pos c4]
          have l1 := pc_le a
          have l2 := pc_le b
          by_cases c5 : ii (pc a) = ii (pc b)
          · rw [if_pos c5, if_pos]
            rw [ii_eq (by omega) (by omega)] at c5
            rw [show (8 : Int32) = ii 8 from rfl, ii_lt (by decide) (by omega)]
            exact Classical.byContradiction fun hn => h ⟨sub_l.tr hs, sub_r.tr hs, fun e => by rw [e] at c1; exact absurd c1 (by decide), c4, c5, by omega⟩
          · rw [if_neg c5]
        · rw [if_neg c4]
      · rw [if_neg c3]
    · rw [if_neg c2, if_pos rfl]
  · rw [if_neg c1, if_pos rfl]
theorem o_across {a b : Int32} {n : Nat} (I : Inv z) (hn : 1000 ≤ n) : Op L xs z (fun h => F_X0_across n h 7 a b) (fun h => F_X6_across n h 105 a b) := by
  have W := I.1
  have J := I.2.2.1
  by_cases h : okA z a b
  · obtain ⟨h1, h2, h3, h4, h5, h6⟩ := h
    have a16 := sub16 h1 W.1
    have b16 := sub16 h2 W.1
    have l1 := pc_le a
    have b0 : b ≠ 0 := fun e => h3 ((pc_z a16).mp (by rw [h5, e, pc_0]))
    have r1 := rng a16 h3
    have r2 := rng b16 b0
    have hB8 : pc b ≤ 8 := by omega
    have h2m := p2 hB8
    obtain ⟨y1, k1, w1, w2⟩ := x_53 (L := L) (xs := xs) (z := z) (A := a) (B := b) h6 16 0 n z rfl (by omega) kp.rf (fun q hq => absurd hq (by omega))
    obtain ⟨y2, k2, v1⟩ := x_prs (L := L) (xs := xs) (z := z) (r := y1.1 84) (m := pc a) (n := n) h6 k1 (fun _ _ => rfl) (by omega)
    obtain ⟨y3, k3, u1, u2⟩ := m_70 (L := L) (xs := xs) (z := z) (B := b) hB8 16 0 n y2 rfl (by omega) k2 (fun q hq => absurd hq (by omega))
    obtain ⟨y4, k4, t1, t2, t3⟩ := m_110 (L := L) (xs := xs) (z := z) (m := pc b) hB8 (2 ^ pc b) 0 n y3 (by omega) (by omega) k3 (fun T t => absurd t (by omega))
    obtain ⟨y5, k5, s1, s2⟩ := m_144 (L := L) (xs := xs) (A := a) (B := b) (r := y1.1 84) W J h2 hB8 h4 w2 16 0 n y4 rfl (by omega) k4 (fun q q1 q2 => by rw [t2]; exact u2 q q1 q2) (fun T hT => by
      rw [t3 T ((full_sub hB8).mp hT)]
      have hT16 := sub16 hT (full16 hB8)
      show _ = ii (if pc T ≤ 0 then _ else 0)
      by_cases c : sn T = 0
      · have e : T = 0 := sn_inj (by show sn T = 0; exact c)
        rw [if_pos c, if_pos (by rw [e, pc_0]; exact Nat.le_refl _), e, pc_0]
        rfl
      · rw [if_neg c, if_neg (fun q => c (by rw [(pc_z hT16).mp (by omega)]; rfl))]
        rfl)
    have ef : pm_shl 1 (ii (pc b)) - 1 = full (pc b) := by
      have : ∀ m, m < 9 → pm_shl 1 (ii m) - 1 = ii (2 ^ m - 1) := by decide
      exact this (pc b) (by omega)
    have hfs : sn (full (pc b)) < 256 := by rw [sn_full hB8]; omega
    have hfin := s2 (full (pc b)) sub.rf
    rw [pc_fullm hB8, if_pos (by omega)] at hfin
    have w1 : L_X0_across_53 n 7 a b 0 0 (hp L xs z) = some (hp L xs y1) := w1
    have u1 : L_X6_across_70 n 105 b 0 0 (hp L xs y2) = some (ii (pc b), hp L xs y3) := u1
    have t1 : L_X6_across_110 n 105 (ii (pc b)) 0 (hp L xs y3) = some (hp L xs y4) := t1
    have s1 : L_X6_across_144 n 105 a (ii (pc b)) 0 (hp L xs y4) = some (hp L xs y5) := s1
    have e8 : ¬ (8 : Int32) < ii (pc a) := by
      rw [show (8 : Int32) = ii 8 from rfl, ii_lt (by decide) (by omega)]
      omega
    have a1 : (0 : Int32) < a := by
      rw [← ii_sn a, show (0 : Int32) = ii 0 from rfl, ii_lt (by decide) (by have := sn_lt a16; omega)]
      have : sn a ≠ 0 := fun e => h3 (sn_inj e)
      omega
    have an : ¬ a < 0 := by
      rw [← ii_sn a]
      exact ii_nn (by have := sn_lt a16; omega)
    have bn : ¬ b < 0 := by
      rw [← ii_sn b]
      exact ii_nn (by have := sn_lt b16; omega)
    refine ⟨ii (Cn (y1.1 84) (pc a) (pc a) (full (pc a))), y2, y5, ?_, ?_, I.kp k5, k5.lf, kp_rm k5⟩
    · show F_X0_across n (hp L xs z) 7 a b = _
      unfold F_X0_across
      rw [e_bits a16, Option.bind_some, if_pos a1]
      simp only [zr_0, zr_1, zr_2, zr_3, zr_4, zr_5, zr_6, Option.bind_some, po_s, po_n, x_are, ↓reduceIte]
      rw [if_pos (And.intro an (and_not0.mpr h1)), if_neg (by decide), if_pos (And.intro bn (and_not0.mpr h2)), if_neg (by decide), if_pos h4, e_bits b16, Option.bind_some, if_pos (by rw [h5]), if_neg e8, w1, Option.bind_some]
      simp only [zr_0, zr_1, zr_2, zr_3, zr_4, zr_5, zr_6, Option.bind_some, po_s, po_n, ↓reduceIte, v1]
    · show F_X6_across n (hp L xs y2) 105 a b = _
      unfold F_X6_across
      rw [m_in, Option.bind_some, if_pos r1, if_neg (by decide), m_in, Option.bind_some, if_pos r2, if_neg (by decide)]
      simp only [zr_0, zr_1, zr_2, zr_3, zr_4, zr_5, zr_6, Option.bind_some, po_s, po_n, show y2.1 105 7 = tld z from (k2.2 105 7 rfl).trans W.2.1, m_bits (show 17 ≤ n by omega)]
      rw [if_pos (and_not0.mpr (sub_or h1 h2)), if_pos h4, if_pos (by rw [h5]), if_neg e8, u1, Option.bind_some, t1, Option.bind_some, s1, Option.bind_some]
      simp only [zr_0, zr_1, zr_2, zr_3, zr_4, zr_5, zr_6, Option.bind_some, po_s, po_n, ef, ai132 hfs, hfin, h5]
  · exact ⟨-1, z, z, x_acN W h, m_acN W (by omega) h, I, kp.rf.lf, kp_rm kp.rf⟩
end
