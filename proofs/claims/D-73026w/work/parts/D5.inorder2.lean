/-! THE PLAIN LAW: inOrder, joined -/
set_option maxRecDepth 100000
section
variable {L : Nat} {xs : Nat → Int32} {z : z_T}
theorem lo_ex {A S : Int32} (hA16 : s16 A) (hS : sub S A) (hne : S ≠ A) (hg : gw z A S ≠ 0) : ∃ j, isN (cx z A S) 0 j := by
  have a := pc_mono hS
  have b : pc S ≠ pc A := fun e => hne (pc_eq (sub16 hS hA16) hA16 hS e)
  unfold gw at hg
  rw [show pc A - pc S = (pc A - pc S - 1) + 1 by omega] at hg
  obtain ⟨p, hp1, h2⟩ := sm_pos hg
  have c : okp A (fr z) S p = true := Classical.byContradiction fun hn => h2 (if_neg hn)
  have h2 : (if okp A (fr z) S p = true then P A (fr z) (pc A - pc S - 1) (S ||| bt p) A else 0) ≠ 0 := h2
  rw [if_pos c] at h2
  refine isN_ex 16 0 ⟨p, Nat.zero_le _, by omega, hp1, ?_⟩
  unfold cx
  rw [c, Bool.true_and]
  refine decide_eq_true ?_
  unfold gw
  have h3 := P_pc _ h2
  rw [show pc A - pc (S ||| bt p) = pc A - pc S - 1 by omega]
  exact h2
theorem cx_hb {A S : Int32} {j : Nat} (h : cx z A S j = true) : hb A j = true ∧ hb S j = false ∧ fr z j &&& (S ^^^ (-1)) ≠ 0 ∧ gw z A (S ||| bt j) ≠ 0 := by
  unfold cx okp at h
  rw [Bool.and_eq_true, Bool.and_eq_true, Bool.and_eq_true] at h
  exact ⟨h.1.1, by simpa using h.1.2.1, of_decide_eq_true h.1.2.2, of_decide_eq_true h.2⟩
theorem io_all {A : Int32} {y : z_T} {i : Nat} (W : I_who z) (J : I_foe z) (hA : sub A (tld z)) (k1 : kp z y) (tab : ∀ T, sub T A → y.2.1 80 (sn T) = jl (gw z A T)) (hi : i < pc A) :
    ∀ (d k n : Nat) (x4 x5 w b S : Int32), k + d = i → d + 200 ≤ n → x4 ||| (if ii k = 0 then 0 else pm_shl 1 x5) = S → sub S A → pc S = k → gw z A S ≠ 0 →
      ∃ (S' : Int32) (j : Nat), j < 16 ∧ sub S' A ∧ L_X0_inOrder_70 n 7 (ii i) A x4 x5 (ii k) (hp L xs y) = some (S', ii j) ∧ L_X6_inOrder_71 n 105 (ii i) (tld z &&& (A ^^^ (-1))) (tld z &&& (S ^^^ (-1))) w b (ii k) (hp L xs y) = some (ii j, ii (lw (fr z j &&& (S' ^^^ (-1))))) ∧ fr z j &&& (S' ^^^ (-1)) ≠ 0
  | d, k, n, x4, x5, w, b, S, h1, h2, h3, h4, h5, h6 => by
    obtain ⟨m, rfl⟩ : ∃ m, n = m + 1 := ⟨n - 1, by omega⟩
    have hA16 := sub16 hA W.1
    have hpA := pc_le A
    obtain ⟨j, hj⟩ := lo_ex hA16 h4 (fun e => by rw [e] at h5; omega) h6
    obtain ⟨j1, j2, j3, j4⟩ := hj
    obtain ⟨a1, a2, a3, a4⟩ := cx_hb j3
    have et : tld y = tld z := k1.2 8 2 rfl
    have W2 : I_who y := ⟨by rw [et]; exact W.1, by rw [et]; exact (k1.2 105 7 rfl).trans W.2.1, by rw [show lck y = lck z from k1.2 8 3 rfl]; exact (k1.2 105 8 rfl).trans W.2.2.1, by rw [et, show lck y = lck z from k1.2 8 3 rfl]; exact W.2.2.2⟩
    have J2 : I_foe y := fun p hp1 => by
      rw [et, show y.1 110 = z.1 110 from funext fun k => k1.2 110 k rfl, show y.1 10 = z.1 10 from funext fun k => k1.2 10 k rfl]
      exact J p hp1
    have efr : fr y = fr z := funext fun p => kp_fr k1 p
    have ecx : cx y A S = cx z A S := by
      unfold cx gw
      rw [efr]
    have hx := x_97 (L := L) (xs := xs) hA16 h4 k1 tab j 0 m j (by omega) (by omega) ⟨by omega, j2, j3, j4⟩
    have hx : L_X0_inOrder_97 m 7 A S 0 (hp L xs y) = some (ii j) := hx
    have ht0 : tld z ≠ 0 := fun e => by
      have := hA j a1
      rw [e, hb_0] at this
      cases this
    have hlw := lw_spec W.1 ht0
    have hN : isN (cx y A S) (lw (tld z)) j := isN_d (k := 0) (by rw [ecx]; exact ⟨by omega, j2, j3, j4⟩) (fun q hq => by
      cases e : cx y A S q with
      | false => rfl
      | true =>
        have := hA q (cx_hb e).1
        rw [hlw.2.2 q hq] at this
        cases this) (Nat.zero_le _)
    have hm := m_86 (L := L) (xs := xs) (z := y) W2 J2 (by rw [et]; exact hA) h4 (j - lw (tld z)) (lw (tld z)) m j (by have := hN.1; omega) (by omega) hN
    rw [et] at hm
    have eO : (tld z &&& (S ^^^ (-1))) &&& (bt j ^^^ (-1)) = tld z &&& ((S ||| bt j) ^^^ (-1)) := hb_ext fun q hq => by
      rw [hb_and, hb_and, hb_and, hb_not, hb_not, hb_not, hb_or]
      cases hb (tld z) q <;> cases hb S q <;> cases hb (bt j) q <;> simp [hq]
    have eB : fr z j &&& (tld z &&& ((S ||| bt j) ^^^ (-1))) = fr z j &&& (S ^^^ (-1)) := hb_ext fun q hq => by
      rw [hb_and, hb_dif, hb_and, hb_not, hb_or, hb_bt (by omega)]
      cases e : hb (fr z j) q with
      | false => rfl
      | true =>
        have := fr_t j2 q e
        rw [this.1]
        simp [this.2, hq]
    have hs16 : s16 (fr z j &&& (S ^^^ (-1))) := s16_al (s16_fr W)
    have hl2 := m_low (n := m) hs16 a3 (by omega)
    have hl1 := m_low (n := m) W.1 ht0 (by omega)
    have step1 : L_X0_inOrder_70 (m + 1) 7 (ii i) A x4 x5 (ii k) (hp L xs y) = L_X0_inOrder_70 m 7 (ii i) A S (ii j) (ii (k + 1)) (hp L xs y) := by
      rw [L_X0_inOrder_70, if_neg (by rw [ii_lt (by omega) (by omega)]; omega)]
      have e : ((if ii k = 0 then some 0 else some (pm_shl 1 x5)) : Option Int32) = some (if ii k = 0 then 0 else pm_shl 1 x5) := by
        by_cases c : ii k = 0
        · rw [if_pos c, if_pos c]
        · rw [if_neg c, if_neg c]
      rw [e, Option.bind_some, h3, hx, Option.bind_some, ii_s]
    have step2 : L_X6_inOrder_71 (m + 1) 105 (ii i) (tld z &&& (A ^^^ (-1))) (tld z &&& (S ^^^ (-1))) w b (ii k) (hp L xs y) = L_X6_inOrder_71 m 105 (ii i) (tld z &&& (A ^^^ (-1))) (tld z &&& ((S ||| bt j) ^^^ (-1))) (ii j) (ii (lw (fr z j &&& (S ^^^ (-1))))) (ii (k + 1)) (hp L xs y) := by
      rw [L_X6_inOrder_71, if_neg (by rw [ii_lt (by omega) (by omega)]; omega)]
      simp only [zr_0, zr_1, zr_2, zr_3, zr_4, zr_5, zr_6, Option.bind_some, po_s, po_n, W2.2.1, et, hl1, hm, m_fr W2 J2 j2, efr, btd, eO, eB, hl2, ii_s, ↓reduceIte]
    rw [step1, step2]
    have hpc : pc (S ||| bt j) = k + 1 := by
      have := pc_out (A := S ||| bt j) j2 (by rw [hb_or, hb_bt (by omega)]; simp)
      rw [or_out (by omega) a2] at this
      omega
    match d, h1, h2 with
    | 0, h1, h2 =>
      obtain ⟨q, rfl⟩ : ∃ q, m = q + 1 := ⟨m - 1, by omega⟩
      rw [L_X0_inOrder_70, if_pos (by rw [ii_lt (by omega) (by omega)]; omega), L_X6_inOrder_71, if_pos (by rw [ii_lt (by omega) (by omega)]; omega)]
      exact ⟨S, j, j2, h4, rfl, rfl, a3⟩
    | d + 1, h1, h2 =>
      have hk0 : ¬ ii (k + 1) = 0 := by
        rw [show (0 : Int32) = ii 0 from rfl, ii_eq (by omega) (by omega)]
        omega
      exact io_all W J hA k1 tab hi d (k + 1) m S (ii j) (ii j) (ii (lw (fr z j &&& (S ^^^ (-1))))) (S ||| bt j) (by omega) (by omega) (by rw [if_neg hk0]; rfl) (sub_ob h4 j2 a1) hpc a4
theorem CC_0 {A : Int32} (W : I_who z) (J : I_foe z) (eA : ∀ k, hb A k = (hb (lck z) k && !hb (outS (tld z) (lck z) (z.1 10)) k)) : CC (tld z) A (fr z) 0 := fun a ta _ => by
  have ha := s16_lt W.1 ta
  have S := sym_I W J
  have e0 : tld z &&& ((0 : Int32) ^^^ (-1)) = tld z := hb_ext fun k hk => by
    rw [hb_dif, hb_0]
    simp
  have eN : NA (fr z) (tld z) = frd (tld z) (z.1 10) := funext fun p => fr_and
  rw [e0, eN]
  have G := grp_is (N := frd (tld z) (z.1 10)) (fun a _ => s16_frd W.1) ha
  refine Classical.byContradiction fun hn => ?_
  have all : ∀ b, hb (grp (frd (tld z) (z.1 10)) a) b = true → hb A b = true := fun b h => by
    cases e : hb A b with
    | true => rfl
    | false => exact absurd ⟨b, h, grp_told W.1 ta b h, e⟩ hn
  obtain ⟨l1, l2, l3⟩ := lw_spec G.1 (grp_ne W.1 ha)
  have ge := grp_eq S ta l2
  have ho : hb (outS (tld z) (lck z) (z.1 10)) (lw (grp (frd (tld z) (z.1 10)) a)) = true := by
    refine hb_outS.mpr ⟨l1, grp_told W.1 ta _ l2, by rw [ge], ?_⟩
    rw [ge]
    refine and_not0.mpr fun b hb1 => ?_
    have := all b hb1
    rw [eA, Bool.and_eq_true] at this
    exact this.1
  have := all _ l2
  rw [eA, ho] at this
  simp at this
theorem rd_of {A : pm_H → Option Int32} {h : pm_H} {r : Int32} (e : A h = some r) : rd A h = some (r, h) := by
  unfold rd
  rw [e]
  rfl
theorem io_no {x w : Int32} {n : Nat} (h : ¬ (¬ x < 0 ∧ x < 16) ∨ ¬ (¬ w < 0 ∧ ¬ (1 : Int32) < w)) : F_X0_inOrder n (hp L xs z) 7 x w = some (-1, hp L xs z) := by
  unfold F_X0_inOrder
  rw [e_in, Option.bind_some]
  by_cases c : ¬ x < 0 ∧ x < 16
  · rcases h with h | h
    · exact absurd c h
    · rw [if_pos c, if_neg (by decide), e_in, if_neg (show ¬ (¬ w < 0 ∧ w < 2) from fun q => h ⟨q.1, n01 ▸ q.2⟩)]
      rfl
  · rw [if_neg c, if_pos rfl]
theorem io_nom {x w : Int32} {n : Nat} (h : ¬ (¬ x < 0 ∧ ¬ (15 : Int32) < x) ∨ ¬ (¬ w < 0 ∧ ¬ (1 : Int32) < w)) : F_X6_inOrder n (hp L xs z) 105 x w = some (-1) := by
  unfold F_X6_inOrder
  rw [m_in, Option.bind_some]
  by_cases c : ¬ x < 0 ∧ ¬ (15 : Int32) < x
  · rcases h with h | h
    · exact absurd c h
    · rw [if_pos c, if_neg (by decide), m_in, if_neg h]
      rfl
  · rw [if_neg c, if_pos rfl]
theorem io_t1 {x w : Int32} {n : Nat} (h1 : ¬ x < 0 ∧ x < 16) (h2 : ¬ w < 0 ∧ ¬ (1 : Int32) < w) {o A : Int32} {v : Nat} (hxo : F_X0_outOf n (hp L xs z) 8 = some o) (eQ : (tld z &&& lck z) &&& (o ^^^ (-1)) = A) (eb : F_J6_bitCount A = some (ii v)) (c : ¬ x < ii v) : F_X0_inOrder n (hp L xs z) 7 x w = some (-4, hp L xs z) := by
  unfold F_X0_inOrder
  rw [e_in, Option.bind_some, if_pos h1, if_neg (by decide), e_in, Option.bind_some, if_pos (show ¬ w < 0 ∧ w < 2 from ⟨h2.1, n01 ▸ h2.2⟩), if_neg (by decide)]
  rw [show pm_fR [(0, 0)] (hp L xs z) 7 = some 8 by simp only [zr_0, zr_1, zr_2, zr_3, zr_4, zr_5, zr_6], Option.bind_some, show pm_fI [(1, 2)] (hp L xs z) 8 = some (tld z) by simp only [zr_0, zr_1, zr_2, zr_3, zr_4, zr_5, zr_6], Option.bind_some, Option.bind_some, show pm_fI [(1, 3)] (hp L xs z) 8 = some (lck z) by simp only [zr_0, zr_1, zr_2, zr_3, zr_4, zr_5, zr_6], Option.bind_some, Option.bind_some, hxo, Option.bind_some, eQ, eb, Option.bind_some]
  rw [if_neg c]
theorem io_t2 {x w : Int32} {n : Nat} (h1 : ¬ x < 0 ∧ x < 16) (h2 : ¬ w < 0 ∧ ¬ (1 : Int32) < w) {o A : Int32} {v : Nat} (hxo : F_X0_outOf n (hp L xs z) 8 = some o) (eQ : (tld z &&& lck z) &&& (o ^^^ (-1)) = A) (eb : F_J6_bitCount A = some (ii v)) (c : x < ii v) {y : z_T} {S' q : Int32} {j : Nat} (x1 : F_X0_laysOrders n (hp L xs z) 7 A = some (hp L xs y)) (j3 : L_X0_inOrder_70 n 7 x A 0 0 0 (hp L xs y) = some (S', ii j)) (hfr : F_X1_friends (hp L xs y) 8 (ii j) = some q) {l : Int32} (hl : F_X0_lowest (q &&& (S' ^^^ (-1))) = some l) : F_X0_inOrder n (hp L xs z) 7 x w = some (if w = 0 then ii j else l, hp L xs y) := by
  unfold F_X0_inOrder
  rw [e_in, Option.bind_some, if_pos h1, if_neg (by decide), e_in, Option.bind_some, if_pos (show ¬ w < 0 ∧ w < 2 from ⟨h2.1, n01 ▸ h2.2⟩), if_neg (by decide)]
  rw [show pm_fR [(0, 0)] (hp L xs z) 7 = some 8 by simp only [zr_0, zr_1, zr_2, zr_3, zr_4, zr_5, zr_6], Option.bind_some, show pm_fI [(1, 2)] (hp L xs z) 8 = some (tld z) by simp only [zr_0, zr_1, zr_2, zr_3, zr_4, zr_5, zr_6], Option.bind_some, Option.bind_some, show pm_fI [(1, 3)] (hp L xs z) 8 = some (lck z) by simp only [zr_0, zr_1, zr_2, zr_3, zr_4, zr_5, zr_6], Option.bind_some, Option.bind_some, hxo, Option.bind_some, eQ, eb, Option.bind_some]
  rw [if_pos c, if_pos (show pm_cl_ (hp L xs z) 7 = some 0 by simp only [zr_0, zr_1, zr_2, zr_3, zr_4, zr_5, zr_6]), x1, Option.bind_some, j3, Option.bind_some]
  by_cases h0 : w = 0
  · rw [if_pos h0, if_pos h0]
  · rw [if_neg h0, if_neg h0, show pm_fR [(0, 0)] (hp L xs y) 7 = some 8 by simp only [zr_0, zr_1, zr_2, zr_3, zr_4, zr_5, zr_6], Option.bind_some, if_pos (show pm_cl_ (hp L xs y) 8 = some 1 by simp only [zr_0, zr_1, zr_2, zr_3, zr_4, zr_5, zr_6]), hfr, Option.bind_some, hl, Option.bind_some]
theorem o_inOrder {x w : Int32} {n : Nat} (I : Inv z) (hn : 66000 ≤ n) : Op L xs z (fun h => F_X0_inOrder n h 7 x w) (rd fun h => F_X6_inOrder n h 105 x w) := by
  have W := I.1
  have J := I.2.2.1
  by_cases hw : ¬ w < 0 ∧ ¬ (1 : Int32) < w
  · rcases in16 x with ⟨i, hi, rfl⟩ | hx
    · have h15 : ¬ (15 : Int32) < ii i := by
        rw [show (15 : Int32) = ii 15 from rfl, ii_lt (by decide) (by omega)]
        omega
      have hA : ∀ k, hb ((tld z &&& lck z) &&& (outS (tld z) (lck z) (z.1 10) ^^^ (-1))) k = (hb (lck z) k && !hb (outS (tld z) (lck z) (z.1 10)) k) := fun k => by
        rw [hb_dif, hb_and]
        cases c : hb (lck z) k with
        | false => simp
        | true => rw [W.2.2.2 k c]; rfl
      have hAt : sub ((tld z &&& lck z) &&& (outS (tld z) (lck z) (z.1 10) ^^^ (-1))) (tld z) := fun k hk => by
        rw [hA, Bool.and_eq_true] at hk
        exact W.2.2.2 k hk.1
      have eSt : outS (tld z) (lck z) (z.1 10) ||| (tld z &&& (lck z ^^^ (-1))) = tld z &&& (((tld z &&& lck z) &&& (outS (tld z) (lck z) (z.1 10) ^^^ (-1))) ^^^ (-1)) := hb_ext fun k _ => by
        rw [hb_or, hb_dif, hb_dif, hA]
        cases c : hb (outS (tld z) (lck z) (z.1 10)) k with
        | false => cases hb (tld z) k <;> cases hb (lck z) k <;> rfl
        | true => rw [(hb_outS.mp c).2.1]; cases hb (lck z) k <;> rfl
      have eAm : tld z &&& ((outS (tld z) (lck z) (z.1 10) ||| (tld z &&& (lck z ^^^ (-1)))) ^^^ (-1)) = (tld z &&& lck z) &&& (outS (tld z) (lck z) (z.1 10) ^^^ (-1)) := hb_ext fun k _ => by
        rw [eSt, hb_dif, hb_dif]
        cases c : hb ((tld z &&& lck z) &&& (outS (tld z) (lck z) (z.1 10) ^^^ (-1))) k with
        | false => cases hb (tld z) k <;> rfl
        | true => rw [hAt k c]; rfl
      have hxo := x_outE (L := L) (xs := xs) (n := n) W (by omega)
      have hc0 := CC_0 (A := (tld z &&& lck z) &&& (outS (tld z) (lck z) (z.1 10) ^^^ (-1))) W J hA
      generalize eQ : (tld z &&& lck z) &&& (outS (tld z) (lck z) (z.1 10) ^^^ (-1)) = A at hAt eSt eAm hc0
      have hA16 := sub16 hAt W.1
      have hpl := pc_le A
      have eb := e_bits hA16
      have mb : F_X6_bits n A = some (ii (pc A)) := m_bits (by omega)
      by_cases c : i < pc A
      · obtain ⟨y, k1, x1, x2⟩ := x_lays (L := L) (xs := xs) (z := z) hA16 (n := n) hn
        have h00 : sub 0 A := fun k hk => by rw [hb_0] at hk; cases hk
        have hg0 : gw z A 0 ≠ 0 := (CC_iff (A := A) (N := fr z) W.1 hAt (fun a ha => fr_t ha) h00).mpr hc0
        obtain ⟨S', j, j1, j2, j3, j4, j5⟩ := io_all (L := L) (xs := xs) W J hAt k1 x2 c i 0 n 0 0 (-1) (-1) 0 (by omega) (by omega) (by rw [if_pos (show ii 0 = 0 from rfl)]; exact or0 0) h00 pc_0 hg0
        have e0 : tld z &&& ((0 : Int32) ^^^ (-1)) = tld z := hb_ext fun k hk => by
          rw [hb_dif, hb_0]
          simp
        rw [e0, ← eSt] at j4
        have j3 : L_X0_inOrder_70 n 7 (ii i) A 0 0 0 (hp L xs y) = some (S', ii j) := j3
        have j4 : L_X6_inOrder_71 n 105 (ii i) (outS (tld z) (lck z) (z.1 10) ||| (tld z &&& (lck z ^^^ (-1)))) (tld z) (-1) (-1) 0 (hp L xs y) = some (ii j, ii (lw (fr z j &&& (S' ^^^ (-1))))) := j4
        have I2 := I.kp k1
        have hmu := m_mustE (L := L) (xs := xs) (n := n) I2.1 I2.2.2.1 (by omega)
        rw [show tld y = tld z from k1.2 8 2 rfl, show lck y = lck z from k1.2 8 3 rfl, show y.1 10 = z.1 10 from funext fun k => k1.2 10 k rfl] at hmu
        have hl := e_low (s := fr z j &&& (S' ^^^ (-1))) (s16_al (s16_fr W))
        have hfr := x_fr (L := L) (xs := xs) (z := y) j1
        rw [kp_fr k1] at hfr
        have hlt : ii i < ii (pc A) := by rw [ii_lt (by omega) (by omega)]; exact c
        refine Op.kp I (r := if w = 0 then ii j else ii (lw (fr z j &&& (S' ^^^ (-1))))) (z1 := y) (z2 := y) ?_ ?_ k1
        · exact io_t2 ⟨nn16 hi, lt16 hi⟩ hw hxo eQ eb hlt x1 j3 hfr hl
        · unfold CAnyKeyTownLaw_law_r8845_245011.rd F_X6_inOrder
          rw [m_in, m_in]
          simp only [zr_0, zr_1, zr_2, zr_3, zr_4, zr_5, zr_6, Option.bind_some, po_s, po_n, nn16 hi, h15, hw, not_false_eq_true, and_self, ↓reduceIte, one_ne0, hmu, show y.1 105 7 = tld z from (k1.2 105 7 rfl).trans W.2.1, show y.1 105 8 = lck z from (k1.2 105 8 rfl).trans W.2.2.1, eAm, mb, hlt, j4]
          by_cases h0 : w = 0
          · rw [if_pos h0, if_pos h0]; rfl
          · rw [if_neg h0, if_neg h0]; rfl
      · have hlt : ¬ ii i < ii (pc A) := by rw [ii_lt (by omega) (by omega)]; exact c
        have hmu := m_mustE (L := L) (xs := xs) (n := n) W J (by omega)
        refine Op.kp I (r := -4) (z1 := z) (z2 := z) ?_ ?_ kp.rf
        · exact io_t1 ⟨nn16 hi, lt16 hi⟩ hw hxo eQ eb hlt
        · unfold CAnyKeyTownLaw_law_r8845_245011.rd F_X6_inOrder
          rw [m_in, m_in]
          simp only [zr_0, zr_1, zr_2, zr_3, zr_4, zr_5, zr_6, Option.bind_some, po_s, po_n, nn16 hi, h15, hw, not_false_eq_true, and_self, ↓reduceIte, one_ne0, hmu, W.2.1, W.2.2.1, eAm, mb, hlt]
    · have hx1 : ¬ (¬ x < 0 ∧ x < 16) := fun h => hx.elim (fun a => h.1 a) (fun a => a h.2)
      have hx2 : ¬ (¬ x < 0 ∧ ¬ (15 : Int32) < x) := fun h => by
        rcases hx with h1 | h1
        · exact h.1 h1
        · obtain ⟨k, hk, rfl⟩ := ii_of h.1
          rw [show (16 : Int32) = ii 16 from rfl, ii_lt hk (by decide)] at h1
          have h2 := h.2
          rw [show (15 : Int32) = ii 15 from rfl, ii_lt (by decide) hk] at h2
          omega
      refine Op.kp I (r := -1) (z1 := z) (z2 := z) (io_no (Or.inl hx1)) (rd_of (io_nom (Or.inl hx2))) kp.rf
  · refine Op.kp I (r := -1) (z1 := z) (z2 := z) (io_no (Or.inr hw)) (rd_of (io_nom (Or.inr hw))) kp.rf
end
