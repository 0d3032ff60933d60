/-! THE PLAIN LAW: count -/
set_option maxRecDepth 100000
section
variable {L : Nat} {xs : Nat → Int32} {z : z_T}
def s_foe (z : z_T) (p : Nat) (a : Int32) : Int32 := a + ii (pc (z.1 10 p))
theorem s16_foe {p : Nat} (J : I_foe z) (h : p < 16) : s16 (z.1 10 p) := fun k hk => by
  cases e : hb (z.1 10 p) k with
  | false => rfl
  | true => exact absurd ((J p h).2 k e).1 (by omega)
theorem x_twos (J : I_foe z) {n : Nat} (hn : 0 + 16 + 1 ≤ n) : L_X0_twos_16 n 0 10 (ii 16) 0 (hp L xs z) = some (lp (s_foe z) 16 0 0) :=
  lp_r (G := fun n k a => L_X0_twos_16 n a 10 (ii 16) (ii k) (hp L xs z)) (s_foe z) (N := 16) (c := 0) (fin := some)
    (fun n k a hk hc => by
      show L_X0_twos_16 (n + 1) a 10 (ii 16) (ii k) (hp L xs z) = _
      rw [L_X0_twos_16, if_pos (by rw [ii_lt (by omega) (by omega)]; exact hk)]
      simp only [zr_0, zr_1, zr_2, zr_3, zr_4, zr_5, zr_6, za_0, za_1, za_2, za_3, za_4, za_5, hk, e_bits (s16_foe J hk), ii_s, btd, or0, Option.bind_some, po_s, po_n, one_ne0, Bool.false_eq_true, not_true, not_false_eq_true, Classical.not_not, ↓reduceIte]
      rfl)
    (fun n a _ => by
      show L_X0_twos_16 (n + 1) a 10 (ii 16) (ii 16) (hp L xs z) = _
      rw [L_X0_twos_16, if_neg (by rw [ii_lt (by omega) (by omega)]; omega)]) (Nat.zero_add _) (by omega)
theorem m_twos (J : I_foe z) {n : Nat} (hn : 17 + 16 + 1 ≤ n) : L_X6_twos_4 n 105 0 0 (hp L xs z) = some (lp (s_foe z) 16 0 0) :=
  lp_r (G := fun n k a => L_X6_twos_4 n 105 a (ii k) (hp L xs z)) (s_foe z) (N := 16) (c := 17) (fin := some)
    (fun n k a hk hc => by
      have hk32 : k < 32 := by omega
      show L_X6_twos_4 (n + 1) 105 a (ii k) (hp L xs z) = _
      rw [L_X6_twos_4, if_pos (by rw [show (16 : Int32) = ii 16 from rfl, ii_lt (by omega) (by decide)]; exact hk)]
      simp only [zr_0, zr_1, zr_2, zr_3, zr_4, zr_5, zr_6, za_0, za_1, za_2, za_3, za_4, za_5, hk, (J k hk).1, m_bits (show 17 ≤ n by omega), ii_s, btd, or0, Option.bind_some, po_s, po_n, one_ne0, Bool.false_eq_true, not_true, not_false_eq_true, Classical.not_not, ↓reduceIte]
      rfl)
    (fun n a _ => by
      show L_X6_twos_4 (n + 1) 105 a (ii 16) (hp L xs z) = _
      rw [L_X6_twos_4, if_neg (by decide)]) (Nat.zero_add _) (by omega)
theorem m_fo2 {p : Nat} (I : I_twn z 17 33 15 106) (h1 : p < 16) {n : Nat} (hn : 0 + 16 + 1 ≤ n) : L_X6_favoursToAll_4 n 105 (ii p) 0 0 (hp L xs z) = some (lp (fun q a => a + z.1 (17 + p) q) 16 0 0) :=
  lp_r (G := fun n k a => L_X6_favoursToAll_4 n 105 (ii p) a (ii k) (hp L xs z)) (fun q a => a + z.1 (17 + p) q) (N := 16) (c := 0) (fin := some)
    (fun n k a hk hc => by
      have hk32 : k < 32 := by omega
      show L_X6_favoursToAll_4 (n + 1) 105 (ii p) a (ii k) (hp L xs z) = _
      rw [L_X6_favoursToAll_4, if_pos (by rw [show (16 : Int32) = ii 16 from rfl, ii_lt (by omega) (by decide)]; exact hk)]
      simp only [zr_0, zr_1, zr_2, zr_3, zr_4, zr_5, zr_6, m_fav I h1 hk, ii_s, btd, or0, Option.bind_some, po_s, po_n, one_ne0, Bool.false_eq_true, not_true, not_false_eq_true, Classical.not_not, ↓reduceIte])
    (fun n a _ => by
      show L_X6_favoursToAll_4 (n + 1) 105 (ii p) a (ii 16) (hp L xs z) = _
      rw [L_X6_favoursToAll_4, if_neg (by decide)]) (Nat.zero_add _) (by omega)
theorem m_foI {p n : Nat} (I : I_twn z 17 33 15 106) (h1 : p < 16) (hn : 17 ≤ n) : F_X6_favoursToAll n (hp L xs z) 105 (ii p) = some (s_fo z 17 p) := by
  unfold F_X6_favoursToAll
  simp only [m_fo2 I h1 (by omega : 0 + 16 + 1 ≤ n), Option.bind_some, po_s, po_n]
  rfl
theorem x_favs  {n : Nat} (hn : 17 + 16 + 1 ≤ n) : L_X0_favoursOfAll_4 n 7 0 0 (hp L xs z) = some (lp (fun p a => a + s_fo z 17 p) 16 0 0) :=
  lp_r (G := fun n k a => L_X0_favoursOfAll_4 n 7 a (ii k) (hp L xs z)) (fun p a => a + s_fo z 17 p) (N := 16) (c := 17) (fin := some)
    (fun n k a hk hc => by
      have hk32 : k < 32 := by omega
      show L_X0_favoursOfAll_4 (n + 1) 7 a (ii k) (hp L xs z) = _
      rw [L_X0_favoursOfAll_4, if_pos (by rw [show (16 : Int32) = ii 16 from rfl, ii_lt (by omega) (by decide)]; exact hk)]
      simp only [zr_0, zr_1, zr_2, zr_3, zr_4, zr_5, zr_6, x_fo hk (show 17 ≤ n by omega), ii_s, btd, or0, Option.bind_some, po_s, po_n, one_ne0, Bool.false_eq_true, not_true, not_false_eq_true, Classical.not_not, ↓reduceIte])
    (fun n a _ => by
      show L_X0_favoursOfAll_4 (n + 1) 7 a (ii 16) (hp L xs z) = _
      rw [L_X0_favoursOfAll_4, if_neg (by decide)]) (Nat.zero_add _) (by omega)
theorem m_favs (I : I_twn z 17 33 15 106) {n : Nat} (hn : 17 + 16 + 1 ≤ n) : L_X6_favoursOfAll_4 n 105 0 0 (hp L xs z) = some (lp (fun p a => a + s_fo z 17 p) 16 0 0) :=
  lp_r (G := fun n k a => L_X6_favoursOfAll_4 n 105 a (ii k) (hp L xs z)) (fun p a => a + s_fo z 17 p) (N := 16) (c := 17) (fin := some)
    (fun n k a hk hc => by
      have hk32 : k < 32 := by omega
      show L_X6_favoursOfAll_4 (n + 1) 105 a (ii k) (hp L xs z) = _
      rw [L_X6_favoursOfAll_4, if_pos (by rw [show (16 : Int32) = ii 16 from rfl, ii_lt (by omega) (by decide)]; exact hk)]
      simp only [zr_0, zr_1, zr_2, zr_3, zr_4, zr_5, zr_6, m_foI I hk (show 17 ≤ n by omega), ii_s, btd, or0, Option.bind_some, po_s, po_n, one_ne0, Bool.false_eq_true, not_true, not_false_eq_true, Classical.not_not, ↓reduceIte])
    (fun n a _ => by
      show L_X6_favoursOfAll_4 (n + 1) 105 a (ii 16) (hp L xs z) = _
      rw [L_X6_favoursOfAll_4, if_neg (by decide)]) (Nat.zero_add _) (by omega)
def s_ngt (z : z_T) (c p : Nat) (a : Int32) : Int32 := a + z.1 c p
theorem x_ngts (W : ∀ p, p < 16 → hb (tld z) p = false → z.1 33 p = 0) {n : Nat} (hn : 0 + 16 + 1 ≤ n) : L_X4_nightsOfAll_4 n 15 0 0 (hp L xs z) = some (lp (s_ngt z 33) 16 0 0) :=
  lp_r (G := fun n k a => L_X4_nightsOfAll_4 n 15 a (ii k) (hp L xs z)) (s_ngt z 33) (N := 16) (c := 0) (fin := some)
    (fun n k a hk hc => by
      have hk32 : k < 32 := by omega
      show L_X4_nightsOfAll_4 (n + 1) 15 a (ii k) (hp L xs z) = _
      rw [L_X4_nightsOfAll_4, if_pos (by rw [show (16 : Int32) = ii 16 from rfl, ii_lt (by omega) (by decide)]; exact hk)]
      simp only [zr_0, zr_1, zr_2, zr_3, zr_4, zr_5, zr_6, za_0, za_1, za_2, za_3, za_4, za_5, hk, x_told, isT_ii hk, b01, ii_s, btd, or0, Option.bind_some, po_s, po_n, one_ne0, Bool.false_eq_true, not_true, not_false_eq_true, Classical.not_not, ↓reduceIte]
      unfold s_ngt
      by_cases c1 : hb (tld z) k = true
      · simp [c1]
      · simp [c1, W k hk (by simpa using c1)])
    (fun n a _ => by
      show L_X4_nightsOfAll_4 (n + 1) 15 a (ii 16) (hp L xs z) = _
      rw [L_X4_nightsOfAll_4, if_neg (by decide)]) (Nat.zero_add _) (by omega)
theorem x_ngtsT (W : ∀ p, p < 16 → hb (tld z) p = false → z.1 53 p = 0) {n : Nat} (hn : 0 + 16 + 1 ≤ n) : L_X4_nightsOfAll_4 n 35 0 0 (hp L xs z) = some (lp (s_ngt z 53) 16 0 0) :=
  lp_r (G := fun n k a => L_X4_nightsOfAll_4 n 35 a (ii k) (hp L xs z)) (s_ngt z 53) (N := 16) (c := 0) (fin := some)
    (fun n k a hk hc => by
      have hk32 : k < 32 := by omega
      show L_X4_nightsOfAll_4 (n + 1) 35 a (ii k) (hp L xs z) = _
      rw [L_X4_nightsOfAll_4, if_pos (by rw [show (16 : Int32) = ii 16 from rfl, ii_lt (by omega) (by decide)]; exact hk)]
      simp only [zr_0, zr_1, zr_2, zr_3, zr_4, zr_5, zr_6, za_0, za_1, za_2, za_3, za_4, za_5, hk, x_told, isT_ii hk, b01, ii_s, btd, or0, Option.bind_some, po_s, po_n, one_ne0, Bool.false_eq_true, not_true, not_false_eq_true, Classical.not_not, ↓reduceIte]
      unfold s_ngt
      by_cases c1 : hb (tld z) k = true
      · simp [c1]
      · simp [c1, W k hk (by simpa using c1)])
    (fun n a _ => by
      show L_X4_nightsOfAll_4 (n + 1) 35 a (ii 16) (hp L xs z) = _
      rw [L_X4_nightsOfAll_4, if_neg (by decide)]) (Nat.zero_add _) (by omega)
theorem zadd (a : Int32) : 0 + a = a := Int32.zero_add a
theorem m_ngts (I : ∀ p, p < 16 → z.1 106 p = z.1 33 p) {n : Nat} (hn : 0 + 16 + 1 ≤ n) : L_X6_nightsOfAll_4 n 105 0 0 (hp L xs z) = some (lp (s_ngt z 33) 16 0 0) :=
  lp_r (G := fun n k a => L_X6_nightsOfAll_4 n 105 a (ii k) (hp L xs z)) (s_ngt z 33) (N := 16) (c := 0) (fin := some)
    (fun n k a hk hc => by
      have hk32 : k < 32 := by omega
      show L_X6_nightsOfAll_4 (n + 1) 105 a (ii k) (hp L xs z) = _
      rw [L_X6_nightsOfAll_4, if_pos (by rw [show (16 : Int32) = ii 16 from rfl, ii_lt (by omega) (by decide)]; exact hk)]
      simp only [zr_0, zr_1, zr_2, zr_3, zr_4, zr_5, zr_6, zadd, za_0, za_1, za_2, za_3, za_4, za_5, show k < 274 by omega, I k hk, ii_s, btd, or0, Option.bind_some, po_s, po_n, one_ne0, Bool.false_eq_true, not_true, not_false_eq_true, Classical.not_not, ↓reduceIte]
      rfl)
    (fun n a _ => by
      show L_X6_nightsOfAll_4 (n + 1) 105 a (ii 16) (hp L xs z) = _
      rw [L_X6_nightsOfAll_4, if_neg (by decide)]) (Nat.zero_add _) (by omega)
theorem I_twn.n0 {b c o a : Nat} (I : I_twn z b c o a) : ∀ p, p < 16 → hb (tld z) p = false → z.1 c p = 0 := fun p h h2 => by
  obtain ⟨_, v, _, e, h3⟩ := I.1 p h
  rw [e, h3 h2]
  rfl
/-- an int from 0 to 8 -/
theorem upTo8 {x : Int32} (h : ¬ (x.toInt < 0 ∨ 8 < x.toInt)) : x = 0 ∨ x = 1 ∨ x = 2 ∨ x = 3 ∨ x = 4 ∨ x = 5 ∨ x = 6 ∨ x = 7 ∨ x = 8 := by
  have e : x.toInt = 0 ∨ x.toInt = 1 ∨ x.toInt = 2 ∨ x.toInt = 3 ∨ x.toInt = 4 ∨ x.toInt = 5 ∨ x.toInt = 6 ∨ x.toInt = 7 ∨ x.toInt = 8 := by omega
  rcases e with e | e | e | e | e | e | e | e | e
  · exact Or.inl (Int32.toInt_inj.mp e)
  · exact Or.inr (Or.inl (Int32.toInt_inj.mp e))
  · exact Or.inr (Or.inr (Or.inl (Int32.toInt_inj.mp e)))
  · exact Or.inr (Or.inr (Or.inr (Or.inl (Int32.toInt_inj.mp e))))
  · exact Or.inr (Or.inr (Or.inr (Or.inr (Or.inl (Int32.toInt_inj.mp e)))))
  · exact Or.inr (Or.inr (Or.inr (Or.inr (Or.inr (Or.inl (Int32.toInt_inj.mp e))))))
  · exact Or.inr (Or.inr (Or.inr (Or.inr (Or.inr (Or.inr (Or.inl (Int32.toInt_inj.mp e)))))))
  · exact Or.inr (Or.inr (Or.inr (Or.inr (Or.inr (Or.inr (Or.inr (Or.inl (Int32.toInt_inj.mp e))))))))
  · exact Or.inr (Or.inr (Or.inr (Or.inr (Or.inr (Or.inr (Or.inr (Or.inr (Int32.toInt_inj.mp e))))))))
theorem o_count {w : Int32} {n : Nat} (I : Inv z) (hl : pm_fI [(4, 3)] (hp L xs z) z.2.2.1 = some (z.1 105 21)) (hn : 34 ≤ n) : Op L xs z (rd fun h => F_X0_count n h 7 w) (rd fun h => F_X6_count n h 105 w) := by
  by_cases hw : w.toInt < 0 ∨ 8 < w.toInt
  · refine Op.rd I (r := -1) ?_ ?_
    · unfold F_X0_count
      simp only [hw, one_ne0, Bool.false_eq_true, not_true, not_false_eq_true, Classical.not_not, ↓reduceIte]
    · unfold F_X6_count
      simp only [hw, one_ne0, Bool.false_eq_true, not_true, not_false_eq_true, Classical.not_not, ↓reduceIte]
  · have d : ∀ a b : Nat, a < 9 → b < 9 → a ≠ b → ¬ ii a = ii b := fun a b ha hb' hn => by
      rw [ii_eq (by omega) (by omega)]
      exact hn
    have k272 : (272 : Int32) = ii 272 := rfl
    have k273 : (273 : Int32) = ii 273 := rfl
    have l272 : 272 < 274 := by decide
    have l273 : 273 < 274 := by decide
    have e : ∀ r : Int32, F_X0_count n (hp L xs z) 7 w = some r → F_X6_count n (hp L xs z) 105 w = some r → Op L xs z (rd fun h => F_X0_count n h 7 w) (rd fun h => F_X6_count n h 105 w) := fun r h1 h2 => Op.rd I h1 h2
    rcases upTo8 hw with rfl | rfl | rfl | rfl | rfl | rfl | rfl | rfl | rfl
    · refine e (z.1 15 3) ?_ ?_
      · simp only [F_X0_count, hw, one_ne0, Bool.false_eq_true, not_true, not_false_eq_true, Classical.not_not, ↓reduceIte, zr_0, zr_1, zr_2, zr_3, zr_4, zr_5, zr_6, Option.bind_some, po_s, po_n]
      · simp only [F_X6_count, hw, one_ne0, Bool.false_eq_true, not_true, not_false_eq_true, Classical.not_not, ↓reduceIte, zr_0, zr_1, zr_2, zr_3, zr_4, zr_5, zr_6, Option.bind_some, po_s, po_n, k272, za_0, za_1, za_2, za_3, za_4, za_5, l272, I.2.2.2.1.2.2.1.1]
    · refine e (tld z) ?_ ?_
      · simp only [F_X0_count, hw, one_ne0, Bool.false_eq_true, not_true, not_false_eq_true, Classical.not_not, ↓reduceIte, zr_0, zr_1, zr_2, zr_3, zr_4, zr_5, zr_6, Option.bind_some, po_s, po_n]
      · simp only [F_X6_count, hw, one_ne0, Bool.false_eq_true, not_true, not_false_eq_true, Classical.not_not, ↓reduceIte, zr_0, zr_1, zr_2, zr_3, zr_4, zr_5, zr_6, Option.bind_some, po_s, po_n, I.1.2.1]
    · refine e (lck z) ?_ ?_
      · have : tld z &&& lck z = lck z := hb_ext fun k _ => by
          rw [hb_and]
          cases h : hb (lck z) k with
          | false => simp
          | true => rw [I.1.2.2.2 k h]; rfl
        simp only [F_X0_count, hw, one_ne0, Bool.false_eq_true, not_true, not_false_eq_true, Classical.not_not, ↓reduceIte, zr_0, zr_1, zr_2, zr_3, zr_4, zr_5, zr_6, Option.bind_some, po_s, po_n, (show ¬ (2 : Int32) = 0 by decide), (show ¬ (2 : Int32) = 1 by decide)]
        exact congrArg some this
      · simp only [F_X6_count, hw, one_ne0, Bool.false_eq_true, not_true, not_false_eq_true, Classical.not_not, ↓reduceIte, zr_0, zr_1, zr_2, zr_3, zr_4, zr_5, zr_6, Option.bind_some, po_s, po_n, I.1.2.2.1, (show ¬ (2 : Int32) = 0 by decide), (show ¬ (2 : Int32) = 1 by decide)]
    · refine e (lp (s_foe z) 16 0 0 / 2) ?_ ?_
      · simp only [F_X0_count, F_X0_twos, hw, one_ne0, Bool.false_eq_true, not_true, not_false_eq_true, Classical.not_not, ↓reduceIte, zr_0, zr_1, zr_2, zr_3, zr_4, zr_5, zr_6, Option.bind_some, po_s, po_n, x_twos I.2.2.1 (show 0 + 16 + 1 ≤ n by omega), (show ¬ (3 : Int32) = 0 by decide), (show ¬ (3 : Int32) = 1 by decide), (show ¬ (3 : Int32) = 2 by decide), show (16 : Int32) = ii 16 from rfl]
      · simp only [F_X6_count, F_X6_twos, hw, one_ne0, Bool.false_eq_true, not_true, not_false_eq_true, Classical.not_not, ↓reduceIte, zr_0, zr_1, zr_2, zr_3, zr_4, zr_5, zr_6, Option.bind_some, po_s, po_n, m_twos I.2.2.1 (show 17 + 16 + 1 ≤ n by omega), (show ¬ (3 : Int32) = 0 by decide), (show ¬ (3 : Int32) = 1 by decide), (show ¬ (3 : Int32) = 2 by decide)]
    · refine e (lp (fun p a => a + s_fo z 17 p) 16 0 0) ?_ ?_
      · simp only [F_X0_count, F_X0_favoursOfAll, hw, one_ne0, Bool.false_eq_true, not_true, not_false_eq_true, Classical.not_not, ↓reduceIte, zr_0, zr_1, zr_2, zr_3, zr_4, zr_5, zr_6, Option.bind_some, po_s, po_n, x_favs (show 17 + 16 + 1 ≤ n by omega), (show ¬ (4 : Int32) = 0 by decide), (show ¬ (4 : Int32) = 1 by decide), (show ¬ (4 : Int32) = 2 by decide), (show ¬ (4 : Int32) = 3 by decide)]
      · simp only [F_X6_count, F_X6_favoursOfAll, hw, one_ne0, Bool.false_eq_true, not_true, not_false_eq_true, Classical.not_not, ↓reduceIte, zr_0, zr_1, zr_2, zr_3, zr_4, zr_5, zr_6, Option.bind_some, po_s, po_n, m_favs I.2.2.2.1 (show 17 + 16 + 1 ≤ n by omega), (show ¬ (4 : Int32) = 0 by decide), (show ¬ (4 : Int32) = 1 by decide), (show ¬ (4 : Int32) = 2 by decide), (show ¬ (4 : Int32) = 3 by decide)]
    · refine e (z.1 105 21) ?_ ?_
      · simp only [F_X0_count, hw, one_ne0, Bool.false_eq_true, not_true, not_false_eq_true, Classical.not_not, ↓reduceIte, zr_0, zr_1, zr_2, zr_3, zr_4, zr_5, zr_6, Option.bind_some, po_s, po_n, hl, (show ¬ (5 : Int32) = 0 by decide), (show ¬ (5 : Int32) = 1 by decide), (show ¬ (5 : Int32) = 2 by decide), (show ¬ (5 : Int32) = 3 by decide), (show ¬ (5 : Int32) = 4 by decide)]
      · simp only [F_X6_count, hw, one_ne0, Bool.false_eq_true, not_true, not_false_eq_true, Classical.not_not, ↓reduceIte, zr_0, zr_1, zr_2, zr_3, zr_4, zr_5, zr_6, Option.bind_some, po_s, po_n, (show ¬ (5 : Int32) = 0 by decide), (show ¬ (5 : Int32) = 1 by decide), (show ¬ (5 : Int32) = 2 by decide), (show ¬ (5 : Int32) = 3 by decide), (show ¬ (5 : Int32) = 4 by decide)]
    · refine e (z.1 7 8) ?_ ?_
      · simp only [F_X0_count, hw, one_ne0, Bool.false_eq_true, not_true, not_false_eq_true, Classical.not_not, ↓reduceIte, zr_0, zr_1, zr_2, zr_3, zr_4, zr_5, zr_6, Option.bind_some, po_s, po_n, (show ¬ (6 : Int32) = 0 by decide), (show ¬ (6 : Int32) = 1 by decide), (show ¬ (6 : Int32) = 2 by decide), (show ¬ (6 : Int32) = 3 by decide), (show ¬ (6 : Int32) = 4 by decide), (show ¬ (6 : Int32) = 5 by decide)]
      · simp only [F_X6_count, hw, one_ne0, Bool.false_eq_true, not_true, not_false_eq_true, Classical.not_not, ↓reduceIte, zr_0, zr_1, zr_2, zr_3, zr_4, zr_5, zr_6, Option.bind_some, po_s, po_n, I.2.2.2.2.2.1.2.1, (show ¬ (6 : Int32) = 0 by decide), (show ¬ (6 : Int32) = 1 by decide), (show ¬ (6 : Int32) = 2 by decide), (show ¬ (6 : Int32) = 3 by decide), (show ¬ (6 : Int32) = 4 by decide), (show ¬ (6 : Int32) = 5 by decide)]
    · refine e (z.1 15 4) ?_ ?_
      · simp only [F_X0_count, hw, one_ne0, Bool.false_eq_true, not_true, not_false_eq_true, Classical.not_not, ↓reduceIte, zr_0, zr_1, zr_2, zr_3, zr_4, zr_5, zr_6, Option.bind_some, po_s, po_n, (show ¬ (7 : Int32) = 0 by decide), (show ¬ (7 : Int32) = 1 by decide), (show ¬ (7 : Int32) = 2 by decide), (show ¬ (7 : Int32) = 3 by decide), (show ¬ (7 : Int32) = 4 by decide), (show ¬ (7 : Int32) = 5 by decide), (show ¬ (7 : Int32) = 6 by decide)]
      · simp only [F_X6_count, hw, one_ne0, Bool.false_eq_true, not_true, not_false_eq_true, Classical.not_not, ↓reduceIte, zr_0, zr_1, zr_2, zr_3, zr_4, zr_5, zr_6, Option.bind_some, po_s, po_n, k273, za_0, za_1, za_2, za_3, za_4, za_5, l273, I.2.2.2.1.2.2.2.1, (show ¬ (7 : Int32) = 0 by decide), (show ¬ (7 : Int32) = 1 by decide), (show ¬ (7 : Int32) = 2 by decide), (show ¬ (7 : Int32) = 3 by decide), (show ¬ (7 : Int32) = 4 by decide), (show ¬ (7 : Int32) = 5 by decide), (show ¬ (7 : Int32) = 6 by decide)]
    · refine e (lp (s_ngt z 33) 16 0 0) ?_ ?_
      · simp only [F_X0_count, F_X4_nightsOfAll, hw, one_ne0, Bool.false_eq_true, not_true, not_false_eq_true, Classical.not_not, ↓reduceIte, zr_0, zr_1, zr_2, zr_3, zr_4, zr_5, zr_6, Option.bind_some, po_s, po_n, x_ngts I.2.2.2.1.n0 (show 0 + 16 + 1 ≤ n by omega), (show ¬ (8 : Int32) = 0 by decide), (show ¬ (8 : Int32) = 1 by decide), (show ¬ (8 : Int32) = 2 by decide), (show ¬ (8 : Int32) = 3 by decide), (show ¬ (8 : Int32) = 4 by decide), (show ¬ (8 : Int32) = 5 by decide), (show ¬ (8 : Int32) = 6 by decide), (show ¬ (8 : Int32) = 7 by decide)]
      · simp only [F_X6_count, F_X6_nightsOfAll, hw, one_ne0, Bool.false_eq_true, not_true, not_false_eq_true, Classical.not_not, ↓reduceIte, zr_0, zr_1, zr_2, zr_3, zr_4, zr_5, zr_6, Option.bind_some, po_s, po_n, m_ngts (fun p hp => (I.2.2.2.1.1 p hp).1) (show 0 + 16 + 1 ≤ n by omega), (show ¬ (8 : Int32) = 0 by decide), (show ¬ (8 : Int32) = 1 by decide), (show ¬ (8 : Int32) = 2 by decide), (show ¬ (8 : Int32) = 3 by decide), (show ¬ (8 : Int32) = 4 by decide), (show ¬ (8 : Int32) = 5 by decide), (show ¬ (8 : Int32) = 6 by decide), (show ¬ (8 : Int32) = 7 by decide)]
end
