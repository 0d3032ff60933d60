/-! THE PLAIN LAW: calls that take the tape -/
set_option maxRecDepth 100000
theorem ii_2 (k : Nat) : 2 * ii k = ii (2 * k) := (Int32.ofNat_mul 2 k).symm
section
variable {L : Nat} {xs : Nat → Int32} {z : z_T}
theorem in_of {x : Int32} (a b : Nat) (ha : a < 2147483648) (hb : b < 2147483648) (h : ¬ x < ii a ∧ ¬ ii b < x) : ∃ k, a ≤ k ∧ k ≤ b ∧ x = ii k := by
  obtain ⟨h1, h2⟩ := h
  have h0 : ¬ x < 0 := by
    rw [i_lt, ii_toInt ha] at h1
    rw [i_lt, show (0 : Int32).toInt = 0 from rfl]
    omega
  obtain ⟨k, hk, rfl⟩ := ii_of h0
  rw [ii_lt hk ha] at h1
  rw [ii_lt hb hk] at h2
  exact ⟨k, by omega, by omega, rfl⟩
def s_herm (z : z_T) (k : Nat) (a : Int32) : Int32 := a &&& (((pm_shl (z.1 75 (2 * k) &&& 255) 8) ||| (z.1 75 (2 * k + 1) &&& 255)) ^^^ (-1))
theorem x_herm {N : Nat} (hN : N ≤ 8) {a0 : Int32} {n : Nat} (hn : 0 + N + 1 ≤ n) : L_X0_hermit_50 n 7 (ii N) a0 0 (hp L xs z) = some (lp (s_herm z) N 0 a0) :=
  lp_r (G := fun n k a => L_X0_hermit_50 n 7 (ii N) a (ii k) (hp L xs z)) (s_herm z) (N := N) (c := 0) (fin := some)
    (fun n k a hk hc => by
      show L_X0_hermit_50 (n + 1) 7 (ii N) a (ii k) (hp L xs z) = _
      rw [L_X0_hermit_50, if_pos (by rw [ii_lt (by omega) (by omega)]; exact hk)]
      simp only [zr_0, zr_1, zr_2, zr_3, zr_4, zr_5, zr_6, ii_2, x_fed (show 2 * k < 260 by omega), x_fed (show 2 * k + 1 < 260 by omega), ii_s, btd, or0, Option.bind_some, po_s, po_n, one_ne0, Bool.false_eq_true, not_true, not_false_eq_true, Classical.not_not, ↓reduceIte]
      rfl)
    (fun n a _ => by
      show L_X0_hermit_50 (n + 1) 7 (ii N) a (ii N) (hp L xs z) = _
      rw [L_X0_hermit_50, if_neg (by rw [ii_lt (by omega) (by omega)]; omega)]) (Nat.zero_add _) (by omega)
theorem m_herm {N : Nat} (I : ∀ i, i < 260 → z.1 113 i = z.1 75 i) (hN : N ≤ 8) {a0 : Int32} {n : Nat} (hn : 0 + N + 1 ≤ n) : L_X6_hermit_44 n 105 (ii N) a0 0 (hp L xs z) = some (lp (s_herm z) N 0 a0) :=
  lp_r (G := fun n k a => L_X6_hermit_44 n 105 (ii N) a (ii k) (hp L xs z)) (s_herm z) (N := N) (c := 0) (fin := some)
    (fun n k a hk hc => by
      show L_X6_hermit_44 (n + 1) 105 (ii N) a (ii k) (hp L xs z) = _
      rw [L_X6_hermit_44, if_pos (by rw [ii_lt (by omega) (by omega)]; exact hk)]
      simp only [zr_0, zr_1, zr_2, zr_3, zr_4, zr_5, zr_6, ii_2, m_oct I (show 2 * k < 260 by omega), m_oct I (show 2 * k + 1 < 260 by omega), ii_s, btd, or0, Option.bind_some, po_s, po_n, one_ne0, Bool.false_eq_true, not_true, not_false_eq_true, Classical.not_not, ↓reduceIte]
      rfl)
    (fun n a _ => by
      show L_X6_hermit_44 (n + 1) 105 (ii N) a (ii N) (hp L xs z) = _
      rw [L_X6_hermit_44, if_neg (by rw [ii_lt (by omega) (by omega)]; omega)]) (Nat.zero_add _) (by omega)
theorem o_hermit {x w : Int32} {n : Nat} (I : Inv z) (hn : 17 ≤ n) : Op L xs z (fun h => F_X0_hermit n h 7 x w) (fun h => F_X6_hermit n h 105 x w) := by
  by_cases ht : isT (tld z) x = true
  · by_cases hw : ¬ w < 1 ∧ ¬ (8 : Int32) < w
    · by_cases hq : z.1 7 8 < 2 * w
      · refine Op.no I (r := -1) ?_ ?_
        · unfold F_X0_hermit
          simp only [zr_0, zr_1, zr_2, zr_3, zr_4, zr_5, zr_6, Option.bind_some, po_s, po_n, x_told, e_within, ht, hw, hq, b01, one_ne0, Bool.false_eq_true, not_true, not_false_eq_true, Classical.not_not, ↓reduceIte, and_self]
        · unfold F_X6_hermit
          simp only [zr_0, zr_1, zr_2, zr_3, zr_4, zr_5, zr_6, Option.bind_some, po_s, po_n, m_told I.1, m_in, ht, hw, I.2.2.2.2.2.1.2.1, hq, b01, one_ne0, Bool.false_eq_true, not_true, not_false_eq_true, Classical.not_not, ↓reduceIte, and_self]
      · obtain ⟨p, hk, rfl, hp⟩ := isT_of ht
        have ht1 : isT (tld (ui z 7 8 0)) (ii p) = true := ht
        obtain ⟨N, _, hN, rfl⟩ := in_of 1 8 (by decide) (by decide) hw
        refine Op.tp I (r := lp (s_herm z) N 0 (fr z p)) ?_ ?_
        · unfold F_X0_hermit
          simp only [zr_0, zr_1, zr_2, zr_3, zr_4, zr_5, zr_6, zw_0, zw_1, Option.bind_some, po_s, po_n, x_told, e_within, ht, hw, hq, b01, one_ne0, Bool.false_eq_true, not_true, not_false_eq_true, Classical.not_not, ↓reduceIte, and_self, x_fr hk, x_herm hN (show 0 + N + 1 ≤ n by omega)]
          rfl
        · unfold F_X6_hermit
          simp only [zr_0, zr_1, zr_2, zr_3, zr_4, zr_5, zr_6, zw_0, zw_1, Option.bind_some, po_s, po_n, m_told (show I_who (ui z 7 8 0) from I.1), m_in, ht1, hw, show (ui z 7 8 0).1 105 12 = z.1 7 8 from I.2.2.2.2.2.1.2.1, hq, b01, one_ne0, Bool.false_eq_true, not_true, not_false_eq_true, Classical.not_not, ↓reduceIte, and_self, m_fr (show I_who (ui (ui z 7 8 0) 105 12 0) from I.1) (show I_foe (ui (ui z 7 8 0) 105 12 0) from I.2.2.1) hk, m_herm (z := ui (ui z 7 8 0) 105 12 0) I.2.2.2.2.2.1.1 hN (show 0 + N + 1 ≤ n by omega)]
          rfl
    · refine Op.no I (r := -1) ?_ ?_
      · unfold F_X0_hermit
        simp only [zr_0, zr_1, zr_2, zr_3, zr_4, zr_5, zr_6, Option.bind_some, po_s, po_n, x_told, e_within, ht, hw, b01, one_ne0, Bool.false_eq_true, not_true, not_false_eq_true, Classical.not_not, ↓reduceIte]
      · unfold F_X6_hermit
        simp only [zr_0, zr_1, zr_2, zr_3, zr_4, zr_5, zr_6, Option.bind_some, po_s, po_n, m_told I.1, m_in, ht, hw, b01, one_ne0, Bool.false_eq_true, not_true, not_false_eq_true, Classical.not_not, ↓reduceIte]
  · refine Op.no I (r := -1) ?_ ?_
    · unfold F_X0_hermit
      simp only [zr_0, zr_1, zr_2, zr_3, zr_4, zr_5, zr_6, Option.bind_some, po_s, po_n, x_told, ht, b01, one_ne0, Bool.false_eq_true, not_true, not_false_eq_true, Classical.not_not, ↓reduceIte]
    · unfold F_X6_hermit
      simp only [zr_0, zr_1, zr_2, zr_3, zr_4, zr_5, zr_6, Option.bind_some, po_s, po_n, m_told I.1, ht, b01, one_ne0, Bool.false_eq_true, not_true, not_false_eq_true, Classical.not_not, ↓reduceIte]
/-- burglar -/
def s_burg (z : z_T) (k : Nat) (a : Int32) : Int32 ⊕ Int32 := if isT (tld z) (z.1 75 k &&& 255) = true then .inr (a &&& ((pm_shl 1 (z.1 75 k &&& 255)) ^^^ (-1))) else .inl (-3)
theorem x_burg {N : Nat} (hN : N ≤ 10) {a0 : Int32} {n : Nat} (hn : 0 + N + 1 ≤ n) : L_X0_burglar_35 n 7 (ii N) a0 0 (hp L xs z) = po_s (le (s_burg z) N 0 a0) (fun b => some (.inl (b, hp L xs z))) (fun a => some (.inr a)) :=
  le_r (G := fun n k a => L_X0_burglar_35 n 7 (ii N) a (ii k) (hp L xs z)) (s_burg z) (N := N) (c := 0) (out := fun b => some (.inl (b, hp L xs z))) (fin := fun a => some (.inr a))
    (fun n k a hk hc => by
      show L_X0_burglar_35 (n + 1) 7 (ii N) a (ii k) (hp L xs z) = _
      rw [L_X0_burglar_35, if_pos (by rw [ii_lt (by omega) (by omega)]; exact hk)]
      simp only [zr_0, zr_1, zr_2, zr_3, zr_4, zr_5, zr_6, x_fed (show k < 260 by omega), x_told, b01, ii_s, btd, or0, Option.bind_some, po_s, po_n, one_ne0, Bool.false_eq_true, not_true, not_false_eq_true, Classical.not_not, ↓reduceIte]
      unfold s_burg
      by_cases c1 : isT (tld z) (z.1 75 k &&& 255) = true <;> simp only [c1, one_ne0, Bool.false_eq_true, not_true, not_false_eq_true, Classical.not_not, ↓reduceIte])
    (fun n a _ => by
      show L_X0_burglar_35 (n + 1) 7 (ii N) a (ii N) (hp L xs z) = _
      rw [L_X0_burglar_35, if_neg (by rw [ii_lt (by omega) (by omega)]; omega)]) (Nat.zero_add _) (by omega)
theorem m_burg {N : Nat} (W : I_who z) (I : ∀ i, i < 260 → z.1 113 i = z.1 75 i) (hN : N ≤ 10) {a0 : Int32} {n : Nat} (hn : 0 + N + 1 ≤ n) : L_X6_burglar_32 n 105 (ii N) a0 0 (hp L xs z) = po_s (le (s_burg z) N 0 a0) (fun b => some (.inl (b, hp L xs z))) (fun a => some (.inr a)) :=
  le_r (G := fun n k a => L_X6_burglar_32 n 105 (ii N) a (ii k) (hp L xs z)) (s_burg z) (N := N) (c := 0) (out := fun b => some (.inl (b, hp L xs z))) (fin := fun a => some (.inr a))
    (fun n k a hk hc => by
      show L_X6_burglar_32 (n + 1) 105 (ii N) a (ii k) (hp L xs z) = _
      rw [L_X6_burglar_32, if_pos (by rw [ii_lt (by omega) (by omega)]; exact hk)]
      simp only [zr_0, zr_1, zr_2, zr_3, zr_4, zr_5, zr_6, m_oct I (show k < 260 by omega), m_told W, b01, ii_s, btd, or0, Option.bind_some, po_s, po_n, one_ne0, Bool.false_eq_true, not_true, not_false_eq_true, Classical.not_not, ↓reduceIte]
      unfold s_burg
      by_cases c1 : isT (tld z) (z.1 75 k &&& 255) = true <;> simp only [c1, one_ne0, Bool.false_eq_true, not_true, not_false_eq_true, Classical.not_not, ↓reduceIte])
    (fun n a _ => by
      show L_X6_burglar_32 (n + 1) 105 (ii N) a (ii N) (hp L xs z) = _
      rw [L_X6_burglar_32, if_neg (by rw [ii_lt (by omega) (by omega)]; omega)]) (Nat.zero_add _) (by omega)
def out (q : Int32 ⊕ Int32) : Int32 := match q with | .inl b => b | .inr a => a
theorem o_burglar {w : Int32} {n : Nat} (I : Inv z) (hn : 17 ≤ n) : Op L xs z (fun h => F_X0_burglar n h 7 w) (fun h => F_X6_burglar n h 105 w) := by
  by_cases hw : ¬ w < 1 ∧ ¬ (10 : Int32) < w
  · by_cases hq : z.1 7 8 < w
    · refine Op.no I (r := -1) ?_ ?_
      · unfold F_X0_burglar
        simp only [zr_0, zr_1, zr_2, zr_3, zr_4, zr_5, zr_6, Option.bind_some, po_s, po_n, e_within, hw, hq, b01, one_ne0, Bool.false_eq_true, not_true, not_false_eq_true, Classical.not_not, ↓reduceIte, and_self]
      · unfold F_X6_burglar
        simp only [zr_0, zr_1, zr_2, zr_3, zr_4, zr_5, zr_6, Option.bind_some, po_s, po_n, m_in, hw, I.2.2.2.2.2.1.2.1, hq, b01, one_ne0, Bool.false_eq_true, not_true, not_false_eq_true, Classical.not_not, ↓reduceIte, and_self]
    · obtain ⟨N, _, hN, rfl⟩ := in_of 1 10 (by decide) (by decide) hw
      refine Op.tp I (r := out (le (s_burg z) N 0 (tld z))) ?_ ?_
      · unfold F_X0_burglar
        simp only [zr_0, zr_1, zr_2, zr_3, zr_4, zr_5, zr_6, zw_0, zw_1, Option.bind_some, po_s, po_n, e_within, hw, hq, b01, one_ne0, Bool.false_eq_true, not_true, not_false_eq_true, Classical.not_not, ↓reduceIte, and_self, x_burg hN (show 0 + N + 1 ≤ n by omega)]
        show (po_s (le (s_burg z) N 0 (tld z)) _ _).bind _ = _
        cases le (s_burg z) N 0 (tld z) <;> rfl
      · unfold F_X6_burglar
        simp only [zr_0, zr_1, zr_2, zr_3, zr_4, zr_5, zr_6, zw_0, zw_1, Option.bind_some, po_s, po_n, m_in, hw, show (ui z 7 8 0).1 105 12 = z.1 7 8 from I.2.2.2.2.2.1.2.1, show (ui (ui z 7 8 0) 105 12 0).1 105 7 = tld z from I.1.2.1, hq, b01, one_ne0, Bool.false_eq_true, not_true, not_false_eq_true, Classical.not_not, ↓reduceIte, and_self, m_burg (z := ui (ui z 7 8 0) 105 12 0) I.1 I.2.2.2.2.2.1.1 hN (show 0 + N + 1 ≤ n by omega)]
        show (po_s (le (s_burg z) N 0 (tld z)) _ _).bind _ = _
        cases le (s_burg z) N 0 (tld z) <;> rfl
  · refine Op.no I (r := -1) ?_ ?_
    · unfold F_X0_burglar
      simp only [zr_0, zr_1, zr_2, zr_3, zr_4, zr_5, zr_6, Option.bind_some, po_s, po_n, e_within, hw, b01, one_ne0, Bool.false_eq_true, not_true, not_false_eq_true, Classical.not_not, ↓reduceIte]
    · unfold F_X6_burglar
      simp only [zr_0, zr_1, zr_2, zr_3, zr_4, zr_5, zr_6, Option.bind_some, po_s, po_n, m_in, hw, b01, one_ne0, Bool.false_eq_true, not_true, not_false_eq_true, Classical.not_not, ↓reduceIte]
/-- check -/
def s_chk (z : z_T) (k : Nat) (_ : Unit) : Int32 ⊕ Unit := if (z.1 75 k &&& 255) = (if hb (tld z) k = true then z.1 9 k else 255) then .inr () else .inl (ii k)
theorem x_chk {N : Nat} (hN : N ≤ 16) {n : Nat} (hn : 0 + N + 1 ≤ n) : L_X0_check_28 n 7 (ii N) 0 (hp L xs z) = po_s (le (s_chk z) N 0 ()) (fun b => some (.inl (b, hp L xs z))) (fun a => some (.inr a)) :=
  le_r (G := fun n k a => L_X0_check_28 n 7 (ii N) (ii k) (hp L xs z)) (s_chk z) (N := N) (c := 0) (out := fun b => some (.inl (b, hp L xs z))) (fin := fun a => some (.inr a))
    (fun n k a hk hc => by
      show L_X0_check_28 (n + 1) 7 (ii N) (ii k) (hp L xs z) = _
      rw [L_X0_check_28, if_pos (by rw [ii_lt (by omega) (by omega)]; exact hk)]
      simp only [zr_0, zr_1, zr_2, zr_3, zr_4, zr_5, zr_6, za_0, za_1, za_2, za_3, za_4, za_5, show k < 16 by omega, x_fed (show k < 260 by omega), x_told, isT_ii (show k < 16 by omega), b01, ii_s, btd, or0, Option.bind_some, po_s, po_n, one_ne0, Bool.false_eq_true, not_true, not_false_eq_true, Classical.not_not, ↓reduceIte]
      unfold s_chk
      by_cases c1 : hb (tld z) k = true
      · by_cases c2 : (z.1 75 k &&& 255) = z.1 9 k <;> simp only [c1, c2, one_ne0, Bool.false_eq_true, not_true, not_false_eq_true, Classical.not_not, ↓reduceIte, Option.bind_some, po_s, po_n]
      · by_cases c2 : (z.1 75 k &&& 255) = 255 <;> simp only [c1, c2, one_ne0, Bool.false_eq_true, not_true, not_false_eq_true, Classical.not_not, ↓reduceIte, Option.bind_some, po_s, po_n])
    (fun n a _ => by
      show L_X0_check_28 (n + 1) 7 (ii N) (ii N) (hp L xs z) = _
      rw [L_X0_check_28, if_neg (by rw [ii_lt (by omega) (by omega)]; omega)]) (Nat.zero_add _) (by omega)
theorem m_chk {N : Nat} (W : I_who z) (J : I_hou z) (I : ∀ i, i < 260 → z.1 113 i = z.1 75 i) (hN : N ≤ 16) {n : Nat} (hn : 0 + N + 1 ≤ n) : L_X6_check_28 n 105 (ii N) 0 (hp L xs z) = po_s (le (s_chk z) N 0 ()) (fun b => some (.inl (b, hp L xs z))) (fun a => some (.inr a)) :=
  le_r (G := fun n k a => L_X6_check_28 n 105 (ii N) (ii k) (hp L xs z)) (s_chk z) (N := N) (c := 0) (out := fun b => some (.inl (b, hp L xs z))) (fin := fun a => some (.inr a))
    (fun n k a hk hc => by
      show L_X6_check_28 (n + 1) 105 (ii N) (ii k) (hp L xs z) = _
      rw [L_X6_check_28, if_pos (by rw [ii_lt (by omega) (by omega)]; exact hk)]
      simp only [zr_0, zr_1, zr_2, zr_3, zr_4, zr_5, zr_6, za_0, za_1, za_2, za_3, za_4, za_5, show k < 16 by omega, m_oct I (show k < 260 by omega), m_told W, isT_ii (show k < 16 by omega), (J k (by omega)).1, b01, ii_s, btd, or0, Option.bind_some, po_s, po_n, one_ne0, Bool.false_eq_true, not_true, not_false_eq_true, Classical.not_not, ↓reduceIte]
      unfold s_chk
      by_cases c1 : hb (tld z) k = true
      · by_cases c2 : (z.1 75 k &&& 255) = z.1 9 k <;> simp only [c1, c2, one_ne0, Bool.false_eq_true, not_true, not_false_eq_true, Classical.not_not, ↓reduceIte, Option.bind_some, po_s, po_n]
      · by_cases c2 : (z.1 75 k &&& 255) = 255 <;> simp only [c1, c2, one_ne0, Bool.false_eq_true, not_true, not_false_eq_true, Classical.not_not, ↓reduceIte, Option.bind_some, po_s, po_n])
    (fun n a _ => by
      show L_X6_check_28 (n + 1) 105 (ii N) (ii N) (hp L xs z) = _
      rw [L_X6_check_28, if_neg (by rw [ii_lt (by omega) (by omega)]; omega)]) (Nat.zero_add _) (by omega)
def out1 (q : Int32 ⊕ Unit) : Int32 := match q with | .inl b => b | .inr _ => -1
theorem o_check {w : Int32} {n : Nat} (I : Inv z) (hn : 17 ≤ n) : Op L xs z (fun h => F_X0_check n h 7 w) (fun h => F_X6_check n h 105 w) := by
  by_cases hw : ¬ w < 0 ∧ ¬ (16 : Int32) < w
  · by_cases hq : z.1 7 8 < w
    · refine Op.no I (r := -2) ?_ ?_
      · unfold F_X0_check
        simp only [zr_0, zr_1, zr_2, zr_3, zr_4, zr_5, zr_6, Option.bind_some, po_s, po_n, e_within, hw, hq, b01, one_ne0, Bool.false_eq_true, not_true, not_false_eq_true, Classical.not_not, ↓reduceIte, and_self]
      · unfold F_X6_check
        simp only [zr_0, zr_1, zr_2, zr_3, zr_4, zr_5, zr_6, Option.bind_some, po_s, po_n, m_in, hw, I.2.2.2.2.2.1.2.1, hq, b01, one_ne0, Bool.false_eq_true, not_true, not_false_eq_true, Classical.not_not, ↓reduceIte, and_self]
    · obtain ⟨N, _, hN, rfl⟩ := in_of 0 16 (by decide) (by decide) hw
      refine Op.tp I (r := out1 (le (s_chk z) N 0 ())) ?_ ?_
      · unfold F_X0_check
        simp only [zr_0, zr_1, zr_2, zr_3, zr_4, zr_5, zr_6, zw_0, zw_1, Option.bind_some, po_s, po_n, e_within, hw, hq, b01, one_ne0, Bool.false_eq_true, not_true, not_false_eq_true, Classical.not_not, ↓reduceIte, and_self]
        rw [x_chk (z := ui z 7 8 0) hN (show 0 + N + 1 ≤ n by omega)]
        show (po_s (le (s_chk z) N 0 ()) _ _).bind _ = _
        cases le (s_chk z) N 0 () <;> rfl
      · unfold F_X6_check
        simp only [zr_0, zr_1, zr_2, zr_3, zr_4, zr_5, zr_6, zw_0, zw_1, Option.bind_some, po_s, po_n, m_in, hw, show (ui z 7 8 0).1 105 12 = z.1 7 8 from I.2.2.2.2.2.1.2.1, hq, b01, one_ne0, Bool.false_eq_true, not_true, not_false_eq_true, Classical.not_not, ↓reduceIte, and_self]
        rw [m_chk (z := ui (ui z 7 8 0) 105 12 0) I.1 I.2.1 I.2.2.2.2.2.1.1 hN (show 0 + N + 1 ≤ n by omega)]
        show (po_s (le (s_chk z) N 0 ()) _ _).bind _ = _
        cases le (s_chk z) N 0 () <;> rfl
  · refine Op.no I (r := -2) ?_ ?_
    · unfold F_X0_check
      simp only [zr_0, zr_1, zr_2, zr_3, zr_4, zr_5, zr_6, Option.bind_some, po_s, po_n, e_within, hw, b01, one_ne0, Bool.false_eq_true, not_true, not_false_eq_true, Classical.not_not, ↓reduceIte]
    · unfold F_X6_check
      simp only [zr_0, zr_1, zr_2, zr_3, zr_4, zr_5, zr_6, Option.bind_some, po_s, po_n, m_in, hw, b01, one_ne0, Bool.false_eq_true, not_true, not_false_eq_true, Classical.not_not, ↓reduceIte]
end
