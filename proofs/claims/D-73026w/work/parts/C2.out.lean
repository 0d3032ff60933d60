/-! THE PLAIN LAW: stayOut -/
set_option maxRecDepth 100000
def s_out (t l : Int32) (f : Nat → Int32) (p : Nat) (a : Int32) : Int32 := if hb t p = true then (if lw (grp (frd t f) p) = p ∧ grp (frd t f) p &&& (l ^^^ (-1)) = 0 then a ||| bt p else a) else a
def outS (t l : Int32) (f : Nat → Int32) : Int32 := lp (s_out t l f) 16 0 0
theorem s16_lp {f : Nat → Int32 → Int32} (h : ∀ k a, k < 16 → s16 a → s16 (f k a)) : s16 (lp f 16 0 0) := lp_inv (I := fun _ a => s16 a) (N := 16) (fun k a hk ha => h k a hk ha) 16 0 0 rfl s16_0
theorem s16_outS {t l : Int32} {f : Nat → Int32} : s16 (outS t l f) := s16_lp fun k a hk ha => by
  unfold s_out
  split
  · split
    · exact s16_or ha (s16_bt hk)
    · exact ha
  · exact ha
section
variable {L : Nat} {xs : Nat → Int32} {z : z_T}
theorem x_grpE {p n : Nat} (W : I_who z) (h : p < 16) (hn : 40 ≤ n) : F_X0_groupOf n (hp L xs z) 8 (ii p) = some (grp (frd (tld z) (z.1 10)) p) := by
  obtain ⟨R, h1, h2⟩ := x_grp (L := L) (xs := xs) W h hn
  rw [h1, isG_u h2 (grp_is (fun a _ => s16_fr W) h)]
  rfl
theorem fr_and {p : Nat} : fr z p &&& tld z = fr z p := hb_ext fun k _ => by
  unfold fr
  rw [hb_and, hb_and, hb_and]
  cases hb (tld z) k <;> simp
theorem m_grpE {p n : Nat} (W : I_who z) (J : I_foe z) (h : p < 16) (hn : 40 ≤ n) : F_X6_groupOf n (hp L xs z) 105 (ii p) (tld z) = some (grp (frd (tld z) (z.1 10)) p) := by
  obtain ⟨R, h1, h2⟩ := m_grp (L := L) (xs := xs) (A := tld z) W J h hn
  rw [show (fun a => fr z a &&& tld z) = fr z from funext fun a => fr_and] at h2
  rw [h1, isG_u h2 (grp_is (fun a _ => s16_fr W) h)]
  rfl
theorem grp_ne {t : Int32} {f : Nat → Int32} {p : Nat} (h : s16 t) (hp : p < 16) : grp (frd t f) p ≠ 0 := fun e => by
  have := (grp_is (N := frd t f) (fun a _ => s16_frd h) hp).2.1
  rw [e, hb_0] at this
  cases this
theorem x_out (W : I_who z) {n : Nat} (hn : 40 + 16 + 1 ≤ n) : L_X0_outOf_4 n 8 0 0 (hp L xs z) = some (lp (s_out (tld z) (lck z) (z.1 10)) 16 0 0) :=
  lp_r (G := fun n k a => L_X0_outOf_4 n 8 a (ii k) (hp L xs z)) (s_out (tld z) (lck z) (z.1 10)) (N := 16) (c := 40) (fin := some)
    (fun n k a hk hc => by
      have hk32 : k < 32 := by omega
      show L_X0_outOf_4 (n + 1) 8 a (ii k) (hp L xs z) = _
      rw [L_X0_outOf_4, if_pos (by rw [show (16 : Int32) = ii 16 from rfl, ii_lt (by omega) (by decide)]; exact hk)]
      simp only [zr_0, zr_1, zr_2, zr_3, zr_4, zr_5, zr_6, x_told, isT_ii hk, b01, x_grpE W hk (show 40 ≤ n by omega), ii_s, btd, or0, Option.bind_some, po_s, po_n, one_ne0, Bool.false_eq_true, not_true, not_false_eq_true, Classical.not_not, ↓reduceIte]
      have G := grp_is (N := frd (tld z) (z.1 10)) (fun a _ => s16_frd W.1) hk
      unfold s_out
      by_cases c1 : hb (tld z) k = true
      · simp only [c1, one_ne0, Bool.false_eq_true, not_true, not_false_eq_true, Classical.not_not, ↓reduceIte, Option.bind_some, po_s, po_n]
        rw [if_neg (grp_ne W.1 hk), e_low G.1, Option.bind_some]
        have hl := (lw_spec G.1 (grp_ne W.1 hk)).1
        simp only [ii_eq (a := lw (grp (frd (tld z) (z.1 10)) k)) (b := k) (by omega) (by omega)]
        by_cases c2 : lw (grp (frd (tld z) (z.1 10)) k) = k
        · rw [if_pos c2]
          by_cases c3 : grp (frd (tld z) (z.1 10)) k &&& (lck z ^^^ (-1)) = 0
          · rw [if_pos c3, if_pos ⟨c2, c3⟩]
          · rw [if_neg c3, if_neg (fun e => c3 e.2)]
        · rw [if_neg c2, if_neg (fun e => c2 e.1)]
      · simp only [c1, one_ne0, Bool.false_eq_true, not_true, not_false_eq_true, Classical.not_not, ↓reduceIte, Option.bind_some, po_s, po_n])
    (fun n a _ => by
      show L_X0_outOf_4 (n + 1) 8 a (ii 16) (hp L xs z) = _
      rw [L_X0_outOf_4, if_neg (by decide)]) (Nat.zero_add _) (by omega)
theorem x_outE {n : Nat} (W : I_who z) (hn : 60 ≤ n) : F_X0_outOf n (hp L xs z) 8 = some (outS (tld z) (lck z) (z.1 10)) := by
  unfold F_X0_outOf
  rw [x_out W (by omega)]
  rfl
def s_must (t l : Int32) (f : Nat → Int32) (p : Nat) (a : Int32 × Int32) : Int32 × Int32 := if hb t p = true then (if hb a.2 p = true then a else (if grp (frd t f) p &&& (l ^^^ (-1)) = 0 then a.1 ||| bt p else a.1, a.2 ||| grp (frd t f) p)) else a
def fin1 (a : Int32 × Int32) : Option Int32 := some a.1
theorem m_must (W : I_who z) (J : I_foe z) {n : Nat} (hn : 40 + 16 + 1 ≤ n) : L_X6_mustStay_6 n 105 (((0, 0) : Int32 × Int32)).1 (((0, 0) : Int32 × Int32)).2 0 (hp L xs z) = fin1 (lp (s_must (tld z) (lck z) (z.1 10)) 16 0 ((0, 0) : Int32 × Int32)) :=
  lp_r (G := fun n k a => L_X6_mustStay_6 n 105 (a).1 (a).2 (ii k) (hp L xs z)) (s_must (tld z) (lck z) (z.1 10)) (N := 16) (c := 40) (fin := fin1)
    (fun n k a hk hc => by
      have hk32 : k < 32 := by omega
      show L_X6_mustStay_6 (n + 1) 105 (a).1 (a).2 (ii k) (hp L xs z) = _
      rw [L_X6_mustStay_6, if_pos (by rw [show (16 : Int32) = ii 16 from rfl, ii_lt (by omega) (by decide)]; exact hk)]
      simp only [zr_0, zr_1, zr_2, zr_3, zr_4, zr_5, zr_6, m_told W, isT_ii hk, b01, m_has hk32, W.2.1, W.2.2.1, m_grpE W J hk (show 40 ≤ n by omega), ii_s, btd, or0, Option.bind_some, po_s, po_n, one_ne0, Bool.false_eq_true, not_true, not_false_eq_true, Classical.not_not, ↓reduceIte]
      unfold s_must
      by_cases c1 : hb (tld z) k = true
      · simp only [c1, one_ne0, Bool.false_eq_true, not_true, not_false_eq_true, Classical.not_not, ↓reduceIte, Option.bind_some, po_s, po_n]
        by_cases c2 : hb a.2 k = true
        · simp only [c2, one_ne0, Bool.false_eq_true, not_true, not_false_eq_true, Classical.not_not, ↓reduceIte, Option.bind_some, po_s, po_n]
        · simp only [c2, one_ne0, Bool.false_eq_true, not_true, not_false_eq_true, Classical.not_not, ↓reduceIte, Option.bind_some, po_s, po_n]
          by_cases c3 : grp (frd (tld z) (z.1 10)) k &&& (lck z ^^^ (-1)) = 0 <;> simp only [c3, one_ne0, Bool.false_eq_true, not_true, not_false_eq_true, Classical.not_not, ↓reduceIte, eq_self]
      · simp only [c1, one_ne0, Bool.false_eq_true, not_true, not_false_eq_true, Classical.not_not, ↓reduceIte, Option.bind_some, po_s, po_n])
    (fun n a _ => by
      show L_X6_mustStay_6 (n + 1) 105 (a).1 (a).2 (ii 16) (hp L xs z) = _
      rw [L_X6_mustStay_6, if_neg (by decide)]; rfl) (Nat.zero_add _) (by omega)
theorem must_out {t l : Int32} {f : Nat → Int32} (h : sym t f) : (lp (s_must t l f) 16 0 ((0, 0) : Int32 × Int32)).1 = outS t l f := by
  have ba : ((0, 0) : Int32 × Int32).1 = lp (s_out t l f) 0 0 0 ∧ ∀ j, hb ((0, 0) : Int32 × Int32).2 j = true ↔ ∃ q, q < 0 ∧ hb t q = true ∧ hb (grp (frd t f) q) j = true := by
    refine ⟨rfl, fun j => ?_⟩
    rw [show hb ((0, 0) : Int32 × Int32).2 j = hb 0 j from rfl, hb_0]
    exact ⟨fun e => (nomatch e), fun ⟨q, h1, _⟩ => absurd h1 (by omega)⟩
  refine (lp_inv (f := s_must t l f) (N := 16) (I := fun k a => a.1 = lp (s_out t l f) k 0 0 ∧ ∀ j, hb a.2 j = true ↔ ∃ q, q < k ∧ hb t q = true ∧ hb (grp (frd t f) q) j = true) (fun k a hk I => ?_) 16 0 ((0, 0) : Int32 × Int32) rfl ba).1
  · obtain ⟨i1, i2⟩ := I
    have G := grp_is (N := frd t f) (fun a _ => s16_frd h.1) hk
    obtain ⟨l1, l2, l3⟩ := lw_spec G.1 (grp_ne h.1 hk)
    rw [lp_s, Nat.zero_add, ← i1]
    unfold s_must s_out
    by_cases c1 : hb t k = true
    · rw [if_pos c1, if_pos c1]
      have le : lw (grp (frd t f) k) ≤ k := Classical.byContradiction fun hn => by
        have g := G.2.1
        rw [l3 k (by omega)] at g
        cases g
      by_cases c2 : hb a.2 k = true
      · rw [if_pos c2]
        obtain ⟨q, h1, h2, h3⟩ := (i2 k).mp c2
        have hb1 := grp_back h h2 h3
        have hne : lw (grp (frd t f) k) ≠ k := fun e => by
          rw [l3 q (by omega)] at hb1
          cases hb1
        rw [if_neg (fun e => hne e.1)]
        refine ⟨rfl, fun j => (i2 j).trans ⟨fun ⟨q, a1, a2⟩ => ⟨q, by omega, a2⟩, fun ⟨q', a1, a2, a3⟩ => ?_⟩⟩
        by_cases e : q' = k
        · subst e
          exact ⟨q, h1, h2, by rw [← grp_eq h h2 h3]; exact a3⟩
        · exact ⟨q', by omega, a2, a3⟩
      · rw [if_neg c2]
        have hlw : lw (grp (frd t f) k) = k := Classical.byContradiction fun hn => c2 ((i2 k).mpr ⟨lw (grp (frd t f) k), by omega, grp_told h.1 c1 _ l2, grp_back h c1 l2⟩)
        refine ⟨?_, fun j => ?_⟩
        · show (if grp (frd t f) k &&& (l ^^^ (-1)) = 0 then a.1 ||| bt k else a.1) = (if lw (grp (frd t f) k) = k ∧ grp (frd t f) k &&& (l ^^^ (-1)) = 0 then a.1 ||| bt k else a.1)
          by_cases c3 : grp (frd t f) k &&& (l ^^^ (-1)) = 0
          · rw [if_pos c3, if_pos ⟨hlw, c3⟩]
          · rw [if_neg c3, if_neg (fun e => c3 e.2)]
        · show hb (a.2 ||| grp (frd t f) k) j = true ↔ _
          rw [hb_or, Bool.or_eq_true, i2]
          refine ⟨fun e => ?_, fun ⟨q, a1, a2, a3⟩ => ?_⟩
          · rcases e with ⟨q, a1, a2⟩ | e
            · exact ⟨q, by omega, a2⟩
            · exact ⟨k, by omega, c1, e⟩
          · by_cases e : q = k
            · subst e; exact Or.inr a3
            · exact Or.inl ⟨q, by omega, a2, a3⟩
    · rw [if_neg c1, if_neg c1]
      refine ⟨rfl, fun j => (i2 j).trans ⟨fun ⟨q, a1, a2⟩ => ⟨q, by omega, a2⟩, fun ⟨q, a1, a2, a3⟩ => ?_⟩⟩
      by_cases e : q = k
      · subst e; exact absurd a2 c1
      · exact ⟨q, by omega, a2, a3⟩
theorem sym_I (W : I_who z) (J : I_foe z) : sym (tld z) (z.1 10) := ⟨W.1, fun a b ha _ _ _ h => ((J a ha).2 b h).2.2.2⟩
theorem m_mustE {n : Nat} (W : I_who z) (J : I_foe z) (hn : 60 ≤ n) : F_X6_mustStay n (hp L xs z) 105 = some (outS (tld z) (lck z) (z.1 10)) := by
  unfold F_X6_mustStay
  rw [show L_X6_mustStay_6 n 105 0 0 0 (hp L xs z) = _ from m_must W J (by omega)]
  unfold fin1
  rw [must_out (sym_I W J)]
  rfl
theorem o_stayOut {w : Int32} {n : Nat} (I : Inv z) (hn : 60 ≤ n) : Op L xs z (rd fun h => F_X0_stayOut n h 7 w) (rd fun h => F_X6_stayOut n h 105 w) := by
  by_cases hw : ¬ w < 0 ∧ ¬ (1 : Int32) < w
  · by_cases h0 : w = 0
    · subst h0
      refine Op.rd I (r := ii (pc (outS (tld z) (lck z) (z.1 10)))) ?_ ?_
      · unfold F_X0_stayOut
        rw [e_in]
        simp only [zr_0, zr_1, zr_2, zr_3, zr_4, zr_5, zr_6, Option.bind_some, po_s, po_n, n01, hw, b01, one_ne0, Bool.false_eq_true, not_true, not_false_eq_true, Classical.not_not, ↓reduceIte, and_self, eq_self, x_outE I.1 hn, e_bits s16_outS]
      · unfold F_X6_stayOut
        rw [m_in]
        simp only [zr_0, zr_1, zr_2, zr_3, zr_4, zr_5, zr_6, Option.bind_some, po_s, po_n, hw, b01, one_ne0, Bool.false_eq_true, not_true, not_false_eq_true, Classical.not_not, ↓reduceIte, and_self, eq_self, m_mustE I.1 I.2.2.1 hn, m_bits (show 17 ≤ n by omega)]
    · refine Op.rd I (r := outS (tld z) (lck z) (z.1 10)) ?_ ?_
      · unfold F_X0_stayOut
        rw [e_in]
        simp only [zr_0, zr_1, zr_2, zr_3, zr_4, zr_5, zr_6, Option.bind_some, po_s, po_n, n01, hw, h0, b01, one_ne0, Bool.false_eq_true, not_true, not_false_eq_true, Classical.not_not, ↓reduceIte, and_self, eq_self, x_outE I.1 hn]
      · unfold F_X6_stayOut
        rw [m_in]
        simp only [zr_0, zr_1, zr_2, zr_3, zr_4, zr_5, zr_6, Option.bind_some, po_s, po_n, hw, h0, b01, one_ne0, Bool.false_eq_true, not_true, not_false_eq_true, Classical.not_not, ↓reduceIte, and_self, eq_self, m_mustE I.1 I.2.2.1 hn]
  · refine Op.rd I (r := -1) ?_ ?_
    · unfold F_X0_stayOut
      rw [e_in]
      simp only [Option.bind_some, po_s, po_n, n01, hw, b01, one_ne0, Bool.false_eq_true, not_true, not_false_eq_true, Classical.not_not, ↓reduceIte]
    · unfold F_X6_stayOut
      rw [m_in]
      simp only [Option.bind_some, po_s, po_n, hw, b01, one_ne0, Bool.false_eq_true, not_true, not_false_eq_true, Classical.not_not, ↓reduceIte]
end
