/-! THE PLAIN LAW: favours -/
set_option maxRecDepth 100000
section
variable {L : Nat} {xs : Nat → Int32} {z : z_T}
/-- favours from one, favours to one -/
def s_fo (z : z_T) (b p : Nat) : Int32 := lp (fun q a => a + z.1 (b + p) q) 16 0 0
def s_ft (z : z_T) (b p : Nat) : Int32 := lp (fun q a => a + z.1 (b + q) p) 16 0 0
theorem x_fo' {p : Nat} (h1 : p < 16) {n : Nat} (hn : 0 + 16 + 1 ≤ n) : L_X4_favoursOf_5 n 15 (ii p) 0 0 0 (hp L xs z) = some (lp (fun q a => a + z.1 (17 + p) q) 16 0 0) :=
  lp_r (G := fun n k a => L_X4_favoursOf_5 n 15 (ii p) 0 a (ii k) (hp L xs z)) (fun q a => a + z.1 (17 + p) q) (N := 16) (c := 0) (fin := some)
    (fun n k a hk hc => by
      have hk32 : k < 32 := by omega
      show L_X4_favoursOf_5 (n + 1) 15 (ii p) 0 a (ii k) (hp L xs z) = _
      rw [L_X4_favoursOf_5, if_pos (by rw [show (16 : Int32) = ii 16 from rfl, ii_lt (by omega) (by decide)]; exact hk)]
      simp only [zr_0, zr_1, zr_2, zr_3, zr_4, zr_5, zr_6, za_0, za_1, za_2, za_3, za_4, za_5, hk, h1, ii_s, btd, or0, Option.bind_some, po_s, po_n, one_ne0, Bool.false_eq_true, not_true, not_false_eq_true, Classical.not_not, ↓reduceIte])
    (fun n a _ => by
      show L_X4_favoursOf_5 (n + 1) 15 (ii p) 0 a (ii 16) (hp L xs z) = _
      rw [L_X4_favoursOf_5, if_neg (by decide)]) (Nat.zero_add _) (by omega)
theorem x_ft' {p : Nat} (h1 : p < 16) {n : Nat} (hn : 0 + 16 + 1 ≤ n) : L_X4_favoursOf_5 n 15 (ii p) 1 0 0 (hp L xs z) = some (lp (fun q a => a + z.1 (17 + q) p) 16 0 0) :=
  lp_r (G := fun n k a => L_X4_favoursOf_5 n 15 (ii p) 1 a (ii k) (hp L xs z)) (fun q a => a + z.1 (17 + q) p) (N := 16) (c := 0) (fin := some)
    (fun n k a hk hc => by
      have hk32 : k < 32 := by omega
      show L_X4_favoursOf_5 (n + 1) 15 (ii p) 1 a (ii k) (hp L xs z) = _
      rw [L_X4_favoursOf_5, if_pos (by rw [show (16 : Int32) = ii 16 from rfl, ii_lt (by omega) (by decide)]; exact hk)]
      simp only [zr_0, zr_1, zr_2, zr_3, zr_4, zr_5, zr_6, za_0, za_1, za_2, za_3, za_4, za_5, hk, h1, ii_s, btd, or0, Option.bind_some, po_s, po_n, one_ne0, Bool.false_eq_true, not_true, not_false_eq_true, Classical.not_not, ↓reduceIte])
    (fun n a _ => by
      show L_X4_favoursOf_5 (n + 1) 15 (ii p) 1 a (ii 16) (hp L xs z) = _
      rw [L_X4_favoursOf_5, if_neg (by decide)]) (Nat.zero_add _) (by omega)
theorem x_foT' {p : Nat} (h1 : p < 16) {n : Nat} (hn : 0 + 16 + 1 ≤ n) : L_X4_favoursOf_5 n 35 (ii p) 0 0 0 (hp L xs z) = some (lp (fun q a => a + z.1 (37 + p) q) 16 0 0) :=
  lp_r (G := fun n k a => L_X4_favoursOf_5 n 35 (ii p) 0 a (ii k) (hp L xs z)) (fun q a => a + z.1 (37 + p) q) (N := 16) (c := 0) (fin := some)
    (fun n k a hk hc => by
      have hk32 : k < 32 := by omega
      show L_X4_favoursOf_5 (n + 1) 35 (ii p) 0 a (ii k) (hp L xs z) = _
      rw [L_X4_favoursOf_5, if_pos (by rw [show (16 : Int32) = ii 16 from rfl, ii_lt (by omega) (by decide)]; exact hk)]
      simp only [zr_0, zr_1, zr_2, zr_3, zr_4, zr_5, zr_6, za_0, za_1, za_2, za_3, za_4, za_5, hk, h1, ii_s, btd, or0, Option.bind_some, po_s, po_n, one_ne0, Bool.false_eq_true, not_true, not_false_eq_true, Classical.not_not, ↓reduceIte])
    (fun n a _ => by
      show L_X4_favoursOf_5 (n + 1) 35 (ii p) 0 a (ii 16) (hp L xs z) = _
      rw [L_X4_favoursOf_5, if_neg (by decide)]) (Nat.zero_add _) (by omega)
theorem m_fo' {p : Nat} (I : Inv z) (h1 : p < 16) {n : Nat} (hn : 0 + 16 + 1 ≤ n) : L_X6_favoursToAll_4 n 105 (ii p) 0 0 (hp L xs z) = some (lp (fun q a => a + z.1 (17 + p) q) 16 0 0) :=
  lp_r (G := fun n k a => L_X6_favoursToAll_4 n 105 (ii p) a (ii k) (hp L xs z)) (fun q a => a + z.1 (17 + p) q) (N := 16) (c := 0) (fin := some)
    (fun n k a hk hc => by
      have hk32 : k < 32 := by omega
      show L_X6_favoursToAll_4 (n + 1) 105 (ii p) a (ii k) (hp L xs z) = _
      rw [L_X6_favoursToAll_4, if_pos (by rw [show (16 : Int32) = ii 16 from rfl, ii_lt (by omega) (by decide)]; exact hk)]
      simp only [zr_0, zr_1, zr_2, zr_3, zr_4, zr_5, zr_6, m_fav I.2.2.2.1 h1 hk, ii_s, btd, or0, Option.bind_some, po_s, po_n, one_ne0, Bool.false_eq_true, not_true, not_false_eq_true, Classical.not_not, ↓reduceIte])
    (fun n a _ => by
      show L_X6_favoursToAll_4 (n + 1) 105 (ii p) a (ii 16) (hp L xs z) = _
      rw [L_X6_favoursToAll_4, if_neg (by decide)]) (Nat.zero_add _) (by omega)
theorem m_ft' {p : Nat} (I : Inv z) (h1 : p < 16) {n : Nat} (hn : 0 + 16 + 1 ≤ n) : L_X6_favoursOfAllTo_4 n 105 (ii p) 0 0 (hp L xs z) = some (lp (fun q a => a + z.1 (17 + q) p) 16 0 0) :=
  lp_r (G := fun n k a => L_X6_favoursOfAllTo_4 n 105 (ii p) a (ii k) (hp L xs z)) (fun q a => a + z.1 (17 + q) p) (N := 16) (c := 0) (fin := some)
    (fun n k a hk hc => by
      have hk32 : k < 32 := by omega
      show L_X6_favoursOfAllTo_4 (n + 1) 105 (ii p) a (ii k) (hp L xs z) = _
      rw [L_X6_favoursOfAllTo_4, if_pos (by rw [show (16 : Int32) = ii 16 from rfl, ii_lt (by omega) (by decide)]; exact hk)]
      simp only [zr_0, zr_1, zr_2, zr_3, zr_4, zr_5, zr_6, m_fav I.2.2.2.1 hk h1, ii_s, btd, or0, Option.bind_some, po_s, po_n, one_ne0, Bool.false_eq_true, not_true, not_false_eq_true, Classical.not_not, ↓reduceIte])
    (fun n a _ => by
      show L_X6_favoursOfAllTo_4 (n + 1) 105 (ii p) a (ii 16) (hp L xs z) = _
      rw [L_X6_favoursOfAllTo_4, if_neg (by decide)]) (Nat.zero_add _) (by omega)
theorem x_fo {p n : Nat} (h1 : p < 16) (hn : 17 ≤ n) : F_X4_favoursOf n (hp L xs z) 15 (ii p) 0 = some (s_fo z 17 p) := by
  unfold F_X4_favoursOf
  simp only [x_fo' h1 (by omega : 0 + 16 + 1 ≤ n), Option.bind_some, po_s, po_n]
  rfl
theorem x_ft {p n : Nat} (h1 : p < 16) (hn : 17 ≤ n) : F_X4_favoursOf n (hp L xs z) 15 (ii p) 1 = some (s_ft z 17 p) := by
  unfold F_X4_favoursOf
  simp only [x_ft' h1 (by omega : 0 + 16 + 1 ≤ n), Option.bind_some, po_s, po_n]
  rfl
theorem x_foT {p n : Nat} (h1 : p < 16) (hn : 17 ≤ n) : F_X4_favoursOf n (hp L xs z) 35 (ii p) 0 = some (s_fo z 37 p) := by
  unfold F_X4_favoursOf
  simp only [x_foT' h1 (by omega : 0 + 16 + 1 ≤ n), Option.bind_some, po_s, po_n]
  rfl
theorem m_fo {p n : Nat} (I : Inv z) (h1 : p < 16) (hn : 17 ≤ n) : F_X6_favoursToAll n (hp L xs z) 105 (ii p) = some (s_fo z 17 p) := by
  unfold F_X6_favoursToAll
  simp only [m_fo' I h1 (by omega : 0 + 16 + 1 ≤ n), Option.bind_some, po_s, po_n]
  rfl
theorem m_ft {p n : Nat} (I : Inv z) (h1 : p < 16) (hn : 17 ≤ n) : F_X6_favoursOfAllTo n (hp L xs z) 105 (ii p) = some (s_ft z 17 p) := by
  unfold F_X6_favoursOfAllTo
  simp only [m_ft' I h1 (by omega : 0 + 16 + 1 ≤ n), Option.bind_some, po_s, po_n]
  rfl
def s_made (z : z_T) (x : Int32) : Int32 := if isT (tld z) x = true then s_fo z 17 x.toNatClampNeg - s_ft z 17 x.toNatClampNeg else -1000000
theorem x_made {x : Int32} {n : Nat} (hn : 17 ≤ n) : F_X0_madeEven n (hp L xs z) 7 x = some (s_made z x) := by
  unfold F_X0_madeEven s_made
  by_cases ht : isT (tld z) x = true
  · obtain ⟨p, hk, rfl, hp⟩ := isT_of ht
    simp only [zr_0, zr_1, zr_2, zr_3, zr_4, zr_5, zr_6, Option.bind_some, po_s, po_n, x_told, ht, b01, x_fo hk hn, x_ft hk hn, one_ne0, Bool.false_eq_true, not_true, not_false_eq_true, Classical.not_not, ↓reduceIte, ii_n (show p < 2147483648 by omega)]
  · simp only [zr_0, zr_1, zr_2, zr_3, zr_4, zr_5, zr_6, Option.bind_some, po_s, po_n, x_told, ht, b01, one_ne0, Bool.false_eq_true, not_true, not_false_eq_true, Classical.not_not, ↓reduceIte]
theorem m_made {x : Int32} {n : Nat} (I : Inv z) (hn : 17 ≤ n) : F_X6_madeEven n (hp L xs z) 105 x = some (s_made z x) := by
  unfold F_X6_madeEven s_made
  by_cases ht : isT (tld z) x = true
  · obtain ⟨p, hk, rfl, hp⟩ := isT_of ht
    simp only [zr_0, zr_1, zr_2, zr_3, zr_4, zr_5, zr_6, Option.bind_some, po_s, po_n, m_told I.1, ht, b01, m_fo I hk hn, m_ft I hk hn, one_ne0, Bool.false_eq_true, not_true, not_false_eq_true, Classical.not_not, ↓reduceIte, ii_n (show p < 2147483648 by omega)]
  · simp only [zr_0, zr_1, zr_2, zr_3, zr_4, zr_5, zr_6, Option.bind_some, po_s, po_n, m_told I.1, ht, b01, one_ne0, Bool.false_eq_true, not_true, not_false_eq_true, Classical.not_not, ↓reduceIte]
theorem o_madeEven {x : Int32} {n : Nat} (I : Inv z) (hn : 17 ≤ n) : Op L xs z (rd fun h => F_X0_madeEven n h 7 x) (rd fun h => F_X6_madeEven n h 105 x) := Op.rd I (x_made hn) (m_made I hn)
def s_most (z : z_T) (q : Nat) (a : Int32) : Int32 := if hb (tld z) q = true then (if a = -2 then ii q else if s_made z a < s_made z (ii q) then ii q else a) else a
theorem x_most  {n : Nat} (hn : 17 + 16 + 1 ≤ n) : L_X0_mostOwed_5 n 7 (-2) 0 (hp L xs z) = some (lp (s_most z) 16 0 (-2)) :=
  lp_r (G := fun n k a => L_X0_mostOwed_5 n 7 a (ii k) (hp L xs z)) (s_most z) (N := 16) (c := 17) (fin := some)
    (fun n k a hk hc => by
      have hk32 : k < 32 := by omega
      show L_X0_mostOwed_5 (n + 1) 7 a (ii k) (hp L xs z) = _
      rw [L_X0_mostOwed_5, if_pos (by rw [show (16 : Int32) = ii 16 from rfl, ii_lt (by omega) (by decide)]; exact hk)]
      simp only [zr_0, zr_1, zr_2, zr_3, zr_4, zr_5, zr_6, x_told, isT_ii hk, b01, x_made (show 17 ≤ n by omega), ii_s, btd, or0, Option.bind_some, po_s, po_n, one_ne0, Bool.false_eq_true, not_true, not_false_eq_true, Classical.not_not, ↓reduceIte]
      unfold s_most
      by_cases c1 : hb (tld z) k = true
      · by_cases c2 : a = -2
        · simp [c1, c2]
        · by_cases c3 : s_made z a < s_made z (ii k) <;> simp [c1, c2, c3]
      · simp [c1])
    (fun n a _ => by
      show L_X0_mostOwed_5 (n + 1) 7 a (ii 16) (hp L xs z) = _
      rw [L_X0_mostOwed_5, if_neg (by decide)]) (Nat.zero_add _) (by omega)
theorem m_most (I : Inv z) {n : Nat} (hn : 17 + 16 + 1 ≤ n) : L_X6_mostOwed_5 n 105 (-2) 0 (hp L xs z) = some (lp (s_most z) 16 0 (-2)) :=
  lp_r (G := fun n k a => L_X6_mostOwed_5 n 105 a (ii k) (hp L xs z)) (s_most z) (N := 16) (c := 17) (fin := some)
    (fun n k a hk hc => by
      have hk32 : k < 32 := by omega
      show L_X6_mostOwed_5 (n + 1) 105 a (ii k) (hp L xs z) = _
      rw [L_X6_mostOwed_5, if_pos (by rw [show (16 : Int32) = ii 16 from rfl, ii_lt (by omega) (by decide)]; exact hk)]
      simp only [zr_0, zr_1, zr_2, zr_3, zr_4, zr_5, zr_6, m_told I.1, isT_ii hk, b01, m_made I (show 17 ≤ n by omega), ii_s, btd, or0, Option.bind_some, po_s, po_n, one_ne0, Bool.false_eq_true, not_true, not_false_eq_true, Classical.not_not, ↓reduceIte]
      unfold s_most
      by_cases c1 : hb (tld z) k = true
      · by_cases c2 : a = -2
        · simp [c1, c2]
        · by_cases c3 : s_made z a < s_made z (ii k) <;> simp [c1, c2, c3]
      · simp [c1])
    (fun n a _ => by
      show L_X6_mostOwed_5 (n + 1) 105 a (ii 16) (hp L xs z) = _
      rw [L_X6_mostOwed_5, if_neg (by decide)]) (Nat.zero_add _) (by omega)
theorem o_mostOwed {n : Nat} (I : Inv z) (hn : 34 ≤ n) : Op L xs z (rd fun h => F_X0_mostOwed n h 7) (rd fun h => F_X6_mostOwed n h 105) := by
  refine Op.rd I (r := lp (s_most z) 16 0 (-2)) ?_ ?_
  · unfold F_X0_mostOwed
    simp only [x_most (by omega : 17 + 16 + 1 ≤ n), Option.bind_some, po_s, po_n]
  · unfold F_X6_mostOwed
    simp only [m_most I (by omega : 17 + 16 + 1 ≤ n), Option.bind_some, po_s, po_n]
theorem o_favours {x y : Int32} {n : Nat} (I : Inv z) : Op L xs z (rd fun h => F_X0_favours h 7 x y) (rd fun h => F_X6_favours h 105 x y) := by
  by_cases ht : isT (tld z) x = true
  · obtain ⟨p, hk, rfl, hp⟩ := isT_of ht
    by_cases hu : isT (tld z) y = true
    · obtain ⟨q, hq, rfl, hq2⟩ := isT_of hu
      refine Op.rd I (r := z.1 (17 + p) q) ?_ ?_
      · unfold F_X0_favours
        simp only [zr_0, zr_1, zr_2, zr_3, zr_4, zr_5, zr_6, Option.bind_some, po_s, po_n, za_0, za_1, za_2, za_3, za_4, za_5, hk, hq, x_told, ht, hu, b01, one_ne0, Bool.false_eq_true, not_true, not_false_eq_true, Classical.not_not, ↓reduceIte]
      · unfold F_X6_favours
        simp only [zr_0, zr_1, zr_2, zr_3, zr_4, zr_5, zr_6, Option.bind_some, po_s, po_n, m_fav I.2.2.2.1 hk hq, m_told I.1, ht, hu, b01, one_ne0, Bool.false_eq_true, not_true, not_false_eq_true, Classical.not_not, ↓reduceIte]
    · refine Op.rd I (r := -1) ?_ ?_
      · unfold F_X0_favours
        simp only [zr_0, zr_1, zr_2, zr_3, zr_4, zr_5, zr_6, Option.bind_some, po_s, po_n, x_told, ht, hu, b01, one_ne0, Bool.false_eq_true, not_true, not_false_eq_true, Classical.not_not, ↓reduceIte]
      · unfold F_X6_favours
        simp only [zr_0, zr_1, zr_2, zr_3, zr_4, zr_5, zr_6, Option.bind_some, po_s, po_n, m_told I.1, ht, hu, b01, one_ne0, Bool.false_eq_true, not_true, not_false_eq_true, Classical.not_not, ↓reduceIte]
  · refine Op.rd I (r := -1) ?_ ?_
    · unfold F_X0_favours
      simp only [zr_0, zr_1, zr_2, zr_3, zr_4, zr_5, zr_6, Option.bind_some, po_s, po_n, x_told, ht, b01, one_ne0, Bool.false_eq_true, not_true, not_false_eq_true, Classical.not_not, ↓reduceIte]
    · unfold F_X6_favours
      simp only [zr_0, zr_1, zr_2, zr_3, zr_4, zr_5, zr_6, Option.bind_some, po_s, po_n, m_told I.1, ht, b01, one_ne0, Bool.false_eq_true, not_true, not_false_eq_true, Classical.not_not, ↓reduceIte]
/-- an int from 0 to 5 -/
theorem upTo5 {x : Int32} (h : ¬ (x.toInt < 0 ∨ 5 < x.toInt)) : x = 0 ∨ x = 1 ∨ x = 2 ∨ x = 3 ∨ x = 4 ∨ x = 5 := by
  have e : x.toInt = 0 ∨ x.toInt = 1 ∨ x.toInt = 2 ∨ x.toInt = 3 ∨ x.toInt = 4 ∨ x.toInt = 5 := by omega
  rcases e with e | e | e | e | e | e
  · exact Or.inl (Int32.toInt_inj.mp e)
  · exact Or.inr (Or.inl (Int32.toInt_inj.mp e))
  · exact Or.inr (Or.inr (Or.inl (Int32.toInt_inj.mp e)))
  · exact Or.inr (Or.inr (Or.inr (Or.inl (Int32.toInt_inj.mp e))))
  · exact Or.inr (Or.inr (Or.inr (Or.inr (Or.inl (Int32.toInt_inj.mp e)))))
  · exact Or.inr (Or.inr (Or.inr (Or.inr (Or.inr (Int32.toInt_inj.mp e)))))
theorem o_personIs {x w : Int32} {n : Nat} (I : Inv z) (hn : 17 ≤ n) : Op L xs z (rd fun h => F_X0_personIs n h 7 x w) (rd fun h => F_X6_personIs n h 105 x w) := by
  by_cases ht : isT (tld z) x = true
  · obtain ⟨p, hk, rfl, hp⟩ := isT_of ht
    have hk2 : p < 32 := by omega
    have hk3 : p < 274 := by omega
    by_cases hw : w.toInt < 0 ∨ 5 < w.toInt
    · refine Op.rd I (r := -1) ?_ ?_
      · unfold F_X0_personIs
        simp only [zr_0, zr_1, zr_2, zr_3, zr_4, zr_5, zr_6, Option.bind_some, po_s, po_n, x_told, ht, hw, b01, one_ne0, Bool.false_eq_true, not_true, not_false_eq_true, Classical.not_not, ↓reduceIte]
      · unfold F_X6_personIs
        simp only [zr_0, zr_1, zr_2, zr_3, zr_4, zr_5, zr_6, Option.bind_some, po_s, po_n, m_told I.1, ht, hw, b01, one_ne0, Bool.false_eq_true, not_true, not_false_eq_true, Classical.not_not, ↓reduceIte]
    · have e0 : (0 : Int32) + ii p = ii p := Int32.zero_add _
      rcases upTo5 hw with rfl | rfl | rfl | rfl | rfl | rfl
      · refine Op.rd I (r := z.1 9 p) ?_ ?_
        · unfold F_X0_personIs
          simp only [zr_0, zr_1, zr_2, zr_3, zr_4, zr_5, zr_6, Option.bind_some, po_s, po_n, za_0, za_1, za_2, za_3, za_4, za_5, hk, x_told, ht, hw, b01, one_ne0, Bool.false_eq_true, not_true, not_false_eq_true, Classical.not_not, ↓reduceIte]
        · unfold F_X6_personIs
          simp only [zr_0, zr_1, zr_2, zr_3, zr_4, zr_5, zr_6, Option.bind_some, po_s, po_n, za_0, za_1, za_2, za_3, za_4, za_5, hk, (I.2.1 p hk).1, m_told I.1, ht, hw, b01, one_ne0, Bool.false_eq_true, not_true, not_false_eq_true, Classical.not_not, ↓reduceIte]
      · refine Op.rd I (r := ii (hb (lck z) p).toNat) ?_ ?_
        · unfold F_X0_personIs
          simp only [zr_0, zr_1, zr_2, zr_3, zr_4, zr_5, zr_6, Option.bind_some, po_s, po_n, hk, x_told, ht, hw, b01, e_has hk2, one_ne0, Bool.false_eq_true, not_true, not_false_eq_true, Classical.not_not, ↓reduceIte, (show ¬ (1 : Int32) = 0 by decide)]
          cases hb (lck z) p <;> rfl
        · unfold F_X6_personIs
          simp only [zr_0, zr_1, zr_2, zr_3, zr_4, zr_5, zr_6, Option.bind_some, po_s, po_n, hk, m_told I.1, ht, hw, b01, one_ne0, Bool.false_eq_true, not_true, not_false_eq_true, Classical.not_not, ↓reduceIte, (show ¬ (1 : Int32) = 0 by decide), I.1.2.2.1, sr_toNat hk2]
      · refine Op.rd I (r := z.1 33 p) ?_ ?_
        · unfold F_X0_personIs
          simp only [zr_0, zr_1, zr_2, zr_3, zr_4, zr_5, zr_6, Option.bind_some, po_s, po_n, za_0, za_1, za_2, za_3, za_4, za_5, hk, x_told, ht, hw, b01, one_ne0, Bool.false_eq_true, not_true, not_false_eq_true, Classical.not_not, ↓reduceIte, (show ¬ (2 : Int32) = 0 by decide), (show ¬ (2 : Int32) = 1 by decide)]
        · unfold F_X6_personIs
          simp only [zr_0, zr_1, zr_2, zr_3, zr_4, zr_5, zr_6, Option.bind_some, po_s, po_n, za_0, za_1, za_2, za_3, za_4, za_5, hk3, e0, (I.2.2.2.1.1 p hk).1, m_told I.1, ht, hw, b01, one_ne0, Bool.false_eq_true, not_true, not_false_eq_true, Classical.not_not, ↓reduceIte, (show ¬ (2 : Int32) = 0 by decide), (show ¬ (2 : Int32) = 1 by decide)]
      · refine Op.rd I (r := z.1 10 p) ?_ ?_
        · unfold F_X0_personIs
          simp only [zr_0, zr_1, zr_2, zr_3, zr_4, zr_5, zr_6, Option.bind_some, po_s, po_n, za_0, za_1, za_2, za_3, za_4, za_5, hk, x_told, ht, hw, b01, one_ne0, Bool.false_eq_true, not_true, not_false_eq_true, Classical.not_not, ↓reduceIte, (show ¬ (3 : Int32) = 0 by decide), (show ¬ (3 : Int32) = 1 by decide), (show ¬ (3 : Int32) = 2 by decide)]
        · unfold F_X6_personIs
          simp only [zr_0, zr_1, zr_2, zr_3, zr_4, zr_5, zr_6, Option.bind_some, po_s, po_n, za_0, za_1, za_2, za_3, za_4, za_5, hk, (I.2.2.1 p hk).1, m_told I.1, ht, hw, b01, one_ne0, Bool.false_eq_true, not_true, not_false_eq_true, Classical.not_not, ↓reduceIte, (show ¬ (3 : Int32) = 0 by decide), (show ¬ (3 : Int32) = 1 by decide), (show ¬ (3 : Int32) = 2 by decide)]
      · refine Op.rd I (r := s_fo z 17 p) ?_ ?_
        · unfold F_X0_personIs
          simp only [zr_0, zr_1, zr_2, zr_3, zr_4, zr_5, zr_6, Option.bind_some, po_s, po_n, x_fo hk hn, x_told, ht, hw, b01, one_ne0, Bool.false_eq_true, not_true, not_false_eq_true, Classical.not_not, ↓reduceIte, (show ¬ (4 : Int32) = 0 by decide), (show ¬ (4 : Int32) = 1 by decide), (show ¬ (4 : Int32) = 2 by decide), (show ¬ (4 : Int32) = 3 by decide)]
        · unfold F_X6_personIs
          simp only [zr_0, zr_1, zr_2, zr_3, zr_4, zr_5, zr_6, Option.bind_some, po_s, po_n, m_fo I hk hn, m_told I.1, ht, hw, b01, one_ne0, Bool.false_eq_true, not_true, not_false_eq_true, Classical.not_not, ↓reduceIte, (show ¬ (4 : Int32) = 0 by decide), (show ¬ (4 : Int32) = 1 by decide), (show ¬ (4 : Int32) = 2 by decide), (show ¬ (4 : Int32) = 3 by decide)]
      · refine Op.rd I (r := s_ft z 17 p) ?_ ?_
        · unfold F_X0_personIs
          simp only [zr_0, zr_1, zr_2, zr_3, zr_4, zr_5, zr_6, Option.bind_some, po_s, po_n, x_ft hk hn, x_told, ht, hw, b01, one_ne0, Bool.false_eq_true, not_true, not_false_eq_true, Classical.not_not, ↓reduceIte, (show ¬ (5 : Int32) = 0 by decide), (show ¬ (5 : Int32) = 1 by decide), (show ¬ (5 : Int32) = 2 by decide), (show ¬ (5 : Int32) = 3 by decide), (show ¬ (5 : Int32) = 4 by decide)]
        · unfold F_X6_personIs
          simp only [zr_0, zr_1, zr_2, zr_3, zr_4, zr_5, zr_6, Option.bind_some, po_s, po_n, m_ft I hk hn, m_told I.1, ht, hw, b01, one_ne0, Bool.false_eq_true, not_true, not_false_eq_true, Classical.not_not, ↓reduceIte, (show ¬ (5 : Int32) = 0 by decide), (show ¬ (5 : Int32) = 1 by decide), (show ¬ (5 : Int32) = 2 by decide), (show ¬ (5 : Int32) = 3 by decide), (show ¬ (5 : Int32) = 4 by decide)]
  · refine Op.rd I (r := -1) ?_ ?_
    · unfold F_X0_personIs
      simp only [zr_0, zr_1, zr_2, zr_3, zr_4, zr_5, zr_6, Option.bind_some, po_s, po_n, x_told, ht, b01, one_ne0, Bool.false_eq_true, not_true, not_false_eq_true, Classical.not_not, ↓reduceIte]
    · unfold F_X6_personIs
      simp only [zr_0, zr_1, zr_2, zr_3, zr_4, zr_5, zr_6, Option.bind_some, po_s, po_n, m_told I.1, ht, b01, one_ne0, Bool.false_eq_true, not_true, not_false_eq_true, Classical.not_not, ↓reduceIte]
end
