/-! THE PLAIN LAW: calls that look at people, houses, favours -/
set_option maxRecDepth 100000
theorem btd (k : Nat) : pm_shl 1 (ii k) = bt k := rfl
theorem one_ne0 : ((1 : Int32) = 0) = False := eq_false (by decide)
theorem or0 (a : Int32) : a ||| 0 = a := Int32.or_zero
section
variable {L : Nat} {xs : Nat → Int32} {z : z_T}
def s_debt (z : z_T) (p q : Nat) (a : Int32) : Int32 := if hb (tld z) q = true then (if z.1 (17 + q) p < z.1 (17 + p) q then a ||| bt q else a) else a
theorem x_inDebt {p : Nat} (h1 : p < 16) {n : Nat} (hn : 0 + 16 + 1 ≤ n) : L_X0_inDebt_17 n 7 (ii p) 0 0 (hp L xs z) = some (lp (s_debt z p) 16 0 0) :=
  lp_r (G := fun n k a => L_X0_inDebt_17 n 7 (ii p) a (ii k) (hp L xs z)) (s_debt z p) (N := 16) (c := 0) (fin := some)
    (fun n k a hk hc => by
      have hk32 : k < 32 := by omega
      show L_X0_inDebt_17 (n + 1) 7 (ii p) a (ii k) (hp L xs z) = _
      rw [L_X0_inDebt_17, if_pos (by rw [show (16 : Int32) = ii 16 from rfl, ii_lt (by omega) (by decide)]; exact hk)]
      simp only [zr_0, zr_1, zr_2, zr_3, zr_4, zr_5, zr_6, za_0, za_1, za_2, za_3, za_4, za_5, hk, h1, x_told, isT_ii hk, b01, ii_s, btd, or0, Option.bind_some, po_s, po_n, one_ne0, Bool.false_eq_true, not_true, not_false_eq_true, Classical.not_not, ↓reduceIte]
      unfold s_debt
      by_cases c1 : hb (tld z) k = true
      · by_cases c2 : z.1 (17 + k) p < z.1 (17 + p) k <;> simp [c1, c2]
      · simp [c1])
    (fun n a _ => by
      show L_X0_inDebt_17 (n + 1) 7 (ii p) a (ii 16) (hp L xs z) = _
      rw [L_X0_inDebt_17, if_neg (by decide)]) (Nat.zero_add _) (by omega)
theorem m_inDebt {p : Nat} (I : Inv z) (h1 : p < 16) {n : Nat} (hn : 0 + 16 + 1 ≤ n) : L_X6_inDebt_14 n 105 (ii p) 0 0 (hp L xs z) = some (lp (s_debt z p) 16 0 0) :=
  lp_r (G := fun n k a => L_X6_inDebt_14 n 105 (ii p) a (ii k) (hp L xs z)) (s_debt z p) (N := 16) (c := 0) (fin := some)
    (fun n k a hk hc => by
      have hk32 : k < 32 := by omega
      show L_X6_inDebt_14 (n + 1) 105 (ii p) a (ii k) (hp L xs z) = _
      rw [L_X6_inDebt_14, if_pos (by rw [show (16 : Int32) = ii 16 from rfl, ii_lt (by omega) (by decide)]; exact hk)]
      simp only [zr_0, zr_1, zr_2, zr_3, zr_4, zr_5, zr_6, m_told I.1, m_fav I.2.2.2.1 h1 hk, m_fav I.2.2.2.1 hk h1, isT_ii hk, b01, ii_s, btd, or0, Option.bind_some, po_s, po_n, one_ne0, Bool.false_eq_true, not_true, not_false_eq_true, Classical.not_not, ↓reduceIte]
      unfold s_debt
      by_cases c1 : hb (tld z) k = true
      · by_cases c2 : z.1 (17 + k) p < z.1 (17 + p) k <;> simp [c1, c2]
      · simp [c1])
    (fun n a _ => by
      show L_X6_inDebt_14 (n + 1) 105 (ii p) a (ii 16) (hp L xs z) = _
      rw [L_X6_inDebt_14, if_neg (by decide)]) (Nat.zero_add _) (by omega)
theorem o_inDebt {x : Int32} {n : Nat} (I : Inv z) (hn : 17 ≤ n) : Op L xs z (rd fun h => F_X0_inDebt n h 7 x) (rd fun h => F_X6_inDebt n h 105 x) := by
  by_cases ht : isT (tld z) x = true
  · obtain ⟨p, hk, rfl, hp⟩ := isT_of ht
    refine Op.rd I (r := lp (s_debt z p) 16 0 0) ?_ ?_
    · unfold F_X0_inDebt
      simp only [zr_0, zr_1, zr_2, zr_3, zr_4, zr_5, zr_6, Option.bind_some, po_s, po_n, x_told, ht, b01, x_inDebt hk (by omega : 0 + 16 + 1 ≤ n), one_ne0, Bool.false_eq_true, not_true, not_false_eq_true, Classical.not_not, ↓reduceIte]
    · unfold F_X6_inDebt
      simp only [zr_0, zr_1, zr_2, zr_3, zr_4, zr_5, zr_6, Option.bind_some, po_s, po_n, m_told I.1, ht, b01, m_inDebt I hk (by omega : 0 + 16 + 1 ≤ n), one_ne0, Bool.false_eq_true, not_true, not_false_eq_true, Classical.not_not, ↓reduceIte]
  · refine Op.rd I (r := -1) ?_ ?_
    · unfold F_X0_inDebt
      simp only [zr_0, zr_1, zr_2, zr_3, zr_4, zr_5, zr_6, Option.bind_some, po_s, po_n, x_told, ht, b01, one_ne0, Bool.false_eq_true, not_true, not_false_eq_true, Classical.not_not, ↓reduceIte]
    · unfold F_X6_inDebt
      simp only [zr_0, zr_1, zr_2, zr_3, zr_4, zr_5, zr_6, Option.bind_some, po_s, po_n, m_told I.1, ht, b01, one_ne0, Bool.false_eq_true, not_true, not_false_eq_true, Classical.not_not, ↓reduceIte]
/-- between -/
def s_betw (z : z_T) (u v : Int32) (q : Nat) (a : Int32) : Int32 := if hb (tld z) q = true then (if ¬ z.1 9 q < mn u v ∧ ¬ mx u v < z.1 9 q then a ||| bt q else a) else a
theorem x_betw {u v : Int32} {n : Nat} (hn : 0 + 16 + 1 ≤ n) : L_X0_between_25 n 7 u v 0 0 (hp L xs z) = some (lp (s_betw z u v) 16 0 0) :=
  lp_r (G := fun n k a => L_X0_between_25 n 7 u v a (ii k) (hp L xs z)) (s_betw z u v) (N := 16) (c := 0) (fin := some)
    (fun n k a hk hc => by
      have hk32 : k < 32 := by omega
      show L_X0_between_25 (n + 1) 7 u v a (ii k) (hp L xs z) = _
      rw [L_X0_between_25, if_pos (by rw [show (16 : Int32) = ii 16 from rfl, ii_lt (by omega) (by decide)]; exact hk)]
      simp only [zr_0, zr_1, zr_2, zr_3, zr_4, zr_5, zr_6, za_0, za_1, za_2, za_3, za_4, za_5, hk, x_told, e_min, e_max, e_within, isT_ii hk, b01, ii_s, btd, or0, Option.bind_some, po_s, po_n, one_ne0, Bool.false_eq_true, not_true, not_false_eq_true, Classical.not_not, ↓reduceIte]
      unfold s_betw
      by_cases c1 : hb (tld z) k = true
      · by_cases c2 : ¬ z.1 9 k < mn u v ∧ ¬ mx u v < z.1 9 k
        · rw [if_neg (by simp [c1]), if_neg (by simp only [Classical.not_not]; exact c2), if_pos c1, if_pos c2]
        · rw [if_neg (by simp [c1]), if_pos c2, if_pos c1, if_neg c2]
      · simp [c1])
    (fun n a _ => by
      show L_X0_between_25 (n + 1) 7 u v a (ii 16) (hp L xs z) = _
      rw [L_X0_between_25, if_neg (by decide)]) (Nat.zero_add _) (by omega)
theorem m_betw {u v : Int32} (I : Inv z) {n : Nat} (hn : 0 + 16 + 1 ≤ n) : L_X6_between_27 n 105 u v 0 0 (hp L xs z) = some (lp (s_betw z u v) 16 0 0) :=
  lp_r (G := fun n k a => L_X6_between_27 n 105 u v a (ii k) (hp L xs z)) (s_betw z u v) (N := 16) (c := 0) (fin := some)
    (fun n k a hk hc => by
      have hk32 : k < 32 := by omega
      show L_X6_between_27 (n + 1) 105 u v a (ii k) (hp L xs z) = _
      rw [L_X6_between_27, if_pos (by rw [show (16 : Int32) = ii 16 from rfl, ii_lt (by omega) (by decide)]; exact hk)]
      simp only [zr_0, zr_1, zr_2, zr_3, zr_4, zr_5, zr_6, za_0, za_1, za_2, za_3, za_4, za_5, hk, m_told I.1, (I.2.1 k hk).1, m_min, m_max, m_in, isT_ii hk, b01, ii_s, btd, or0, Option.bind_some, po_s, po_n, one_ne0, Bool.false_eq_true, not_true, not_false_eq_true, Classical.not_not, ↓reduceIte]
      unfold s_betw
      by_cases c1 : hb (tld z) k = true
      · by_cases c2 : ¬ z.1 9 k < mn u v ∧ ¬ mx u v < z.1 9 k
        · rw [if_neg (by simp [c1]), if_neg (by simp only [Classical.not_not]; exact c2), if_pos c1, if_pos c2]
        · rw [if_neg (by simp [c1]), if_pos c2, if_pos c1, if_neg c2]
      · simp [c1])
    (fun n a _ => by
      show L_X6_between_27 (n + 1) 105 u v a (ii 16) (hp L xs z) = _
      rw [L_X6_between_27, if_neg (by decide)]) (Nat.zero_add _) (by omega)
theorem lt_le {v : Int32} (a b : Nat) (ha : a < 2147483647) (hb : b = a + 1) : (v < ii b) = ¬ (ii a < v) := by
  subst hb
  rw [i_lt, i_lt, ii_toInt (by omega), ii_toInt (by omega)]
  exact propext (by omega)
theorem o_between {u v : Int32} {n : Nat} (I : Inv z) (hn : 17 ≤ n) : Op L xs z (rd fun h => F_X0_between n h 7 u v) (rd fun h => F_X6_between n h 105 u v) := by
  have e : ∀ w : Int32, (w < 100) = ¬ ((99 : Int32) < w) := fun w => lt_le 99 100 (by decide) rfl
  by_cases hu : ¬ u < 0 ∧ ¬ (99 : Int32) < u
  · by_cases hv : ¬ v < 0 ∧ ¬ (99 : Int32) < v
    · refine Op.rd I (r := lp (s_betw z u v) 16 0 0) ?_ ?_
      · unfold F_X0_between
        rw [e_in, e_in]
        simp only [e, hu, hv, Option.bind_some, po_s, po_n, b01, x_betw (by omega : 0 + 16 + 1 ≤ n), one_ne0, Bool.false_eq_true, not_true, not_false_eq_true, Classical.not_not, ↓reduceIte, and_self]
      · unfold F_X6_between
        rw [m_in, m_in]
        simp only [hu, hv, Option.bind_some, po_s, po_n, b01, m_betw I (by omega : 0 + 16 + 1 ≤ n), one_ne0, Bool.false_eq_true, not_true, not_false_eq_true, Classical.not_not, ↓reduceIte, and_self]
    · refine Op.rd I (r := -1) ?_ ?_
      · unfold F_X0_between
        rw [e_in, e_in]
        simp only [e, hu, hv, Option.bind_some, po_s, po_n, b01, one_ne0, Bool.false_eq_true, not_true, not_false_eq_true, Classical.not_not, ↓reduceIte, and_self]
      · unfold F_X6_between
        rw [m_in, m_in]
        simp only [hu, hv, Option.bind_some, po_s, po_n, b01, one_ne0, Bool.false_eq_true, not_true, not_false_eq_true, Classical.not_not, ↓reduceIte, and_self]
  · refine Op.rd I (r := -1) ?_ ?_
    · unfold F_X0_between
      rw [e_in]
      simp only [e, hu, Option.bind_some, po_s, po_n, b01, one_ne0, Bool.false_eq_true, not_true, not_false_eq_true, Classical.not_not, ↓reduceIte, and_self]
    · unfold F_X6_between
      rw [m_in]
      simp only [hu, Option.bind_some, po_s, po_n, b01, one_ne0, Bool.false_eq_true, not_true, not_false_eq_true, Classical.not_not, ↓reduceIte, and_self]
end
