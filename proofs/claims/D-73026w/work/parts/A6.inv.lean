/-! THE PLAIN LAW (6): what both towns tell alike -/
set_option maxRecDepth 100000
abbrev tld (z : z_T) : Int32 := z.1 8 2
abbrev lck (z : z_T) : Int32 := z.1 8 3
def I_who (z : z_T) : Prop := s16 (tld z) ∧ z.1 105 7 = tld z ∧ z.1 105 8 = lck z ∧ ∀ k, hb (lck z) k = true → hb (tld z) k = true
def I_hou (z : z_T) : Prop := ∀ p, p < 16 → z.1 109 p = z.1 9 p ∧ ∃ v, v < 100 ∧ z.1 9 p = ii v
def I_foe (z : z_T) : Prop := ∀ p, p < 16 → z.1 110 p = z.1 10 p ∧ ∀ q, hb (z.1 10 p) q = true → q < 16 ∧ q ≠ p ∧ hb (tld z) q = true ∧ hb (z.1 10 q) p = true
/-- a town: rows of favours from b on, nights c, the object o; the model's row a -/
def I_twn (z : z_T) (b c o a : Nat) : Prop := (∀ p, p < 16 → z.1 a p = z.1 c p ∧ ∃ v, v < 10000 ∧ z.1 c p = ii v ∧ (hb (tld z) p = false → v = 0)) ∧
  (∀ p q, p < 16 → q < 16 → z.1 a (16 + 16 * p + q) = z.1 (b + p) q ∧ ∃ v, v < 10000 ∧ z.1 (b + p) q = ii v) ∧
  (z.1 a 272 = z.1 o 3 ∧ ∃ v, v < 10000 ∧ z.1 o 3 = ii v) ∧ (z.1 a 273 = z.1 o 4 ∧ ∃ v, v < 65536 ∧ z.1 o 4 = ii v)
def I_tape (z : z_T) : Prop := (∀ i, i < 260 → z.1 113 i = z.1 75 i) ∧ z.1 105 12 = z.1 7 8 ∧ ∃ t, t ≤ 260 ∧ z.1 7 8 = ii t
def I_isk (z : z_T) : Prop := z.1 105 51 = z.1 7 9
def Inv (z : z_T) : Prop := I_who z ∧ I_hou z ∧ I_foe z ∧ I_twn z 17 33 15 106 ∧ I_twn z 57 73 55 108 ∧ I_tape z ∧ I_isk z
/-- the cells that Inv and the law look at -/
def kc (i k : Nat) : Bool := match i with
  | 7 => true
  | 8 => true
  | 9 => true
  | 10 => true
  | 15 => k == 3 || k == 4
  | 33 => true
  | 55 => k == 3 || k == 4
  | 73 => true
  | 75 => true
  | 105 => k == 7 || k == 8 || k == 12 || k == 21 || k == 51
  | 106 => true
  | 108 => true
  | 109 => true
  | 110 => true
  | 113 => true
  | 120 => true
  | 121 => true
  | 122 => true
  | 123 => true
  | 124 => true
  | i => (decide (17 ≤ i) && decide (i < 33)) || (decide (57 ≤ i) && decide (i < 73))
def kp (z z2 : z_T) : Prop := z2.2.2 = z.2.2 ∧ ∀ i k, kc i k = true → z2.1 i k = z.1 i k
theorem kp.rf {z : z_T} : kp z z := ⟨rfl, fun _ _ _ => rfl⟩
theorem kp.tr {a b c : z_T} (h1 : kp a b) (h2 : kp b c) : kp a c := ⟨h2.1.trans h1.1, fun i k h => (h2.2 i k h).trans (h1.2 i k h)⟩
theorem kp.ui {z z2 : z_T} {i k : Nat} {v : Int32} (h : kp z z2) (hk : kc i k = false) : kp z (ui z2 i k v) := ⟨h.1, fun j q hq => by
  by_cases hj : j = i
  · subst hj
    rw [ui_i, upd]
    by_cases hq2 : q = k
    · subst hq2; rw [hk] at hq; cases hq
    · rw [if_neg hq2]; exact h.2 j q hq
  · rw [ui_o hj]; exact h.2 j q hq⟩
theorem kp.ul {z z2 : z_T} {i k : Nat} {v : Int64} (h : kp z z2) : kp z (ul z2 i k v) := h
theorem kc_row {b p q : Nat} (hb : b = 17 ∨ b = 57) (hp : p < 16) : kc (b + p) q = true := by
  have h1 : ∀ p, p < 16 → ∀ q, kc (17 + p) q = true ∧ kc (57 + p) q = true := fun p hp q => match p, hp with
    | 0, _ => ⟨rfl, rfl⟩ | 1, _ => ⟨rfl, rfl⟩ | 2, _ => ⟨rfl, rfl⟩ | 3, _ => ⟨rfl, rfl⟩ | 4, _ => ⟨rfl, rfl⟩ | 5, _ => ⟨rfl, rfl⟩ | 6, _ => ⟨rfl, rfl⟩ | 7, _ => ⟨rfl, rfl⟩
    | 8, _ => ⟨rfl, rfl⟩ | 9, _ => ⟨rfl, rfl⟩ | 10, _ => ⟨rfl, rfl⟩ | 11, _ => ⟨rfl, rfl⟩ | 12, _ => ⟨rfl, rfl⟩ | 13, _ => ⟨rfl, rfl⟩ | 14, _ => ⟨rfl, rfl⟩ | 15, _ => ⟨rfl, rfl⟩
    | j + 16, h => absurd h (by omega)
  rcases hb with rfl | rfl
  · exact (h1 p hp q).1
  · exact (h1 p hp q).2
theorem I_twn.kp {z z2 : z_T} {b c o a : Nat} (h : I_twn z b c o a) (ht : tld z2 = tld z) (ha : z2.1 a = z.1 a) (hc : z2.1 c = z.1 c) (h3 : z2.1 o 3 = z.1 o 3) (h4 : z2.1 o 4 = z.1 o 4) (hr : ∀ p q, p < 16 → z2.1 (b + p) q = z.1 (b + p) q) : I_twn z2 b c o a := by
  obtain ⟨h1, h2, h5, h6⟩ := h
  refine ⟨fun p hp => ?_, fun p q hp hq => ?_, ?_, ?_⟩
  · rw [ha, hc, ht]; exact h1 p hp
  · rw [ha, hr p q hp]; exact h2 p q hp hq
  · rw [ha, h3]; exact h5
  · rw [ha, h4]; exact h6
theorem Inv.kp {z z2 : z_T} (h : Inv z) (hk : kp z z2) : Inv z2 := by
  obtain ⟨h1, h2, h3, h4, h5, h6, h7⟩ := h
  have r : ∀ i, (∀ k, kc i k = true) → z2.1 i = z.1 i := fun i hi => funext fun k => hk.2 i k (hi k)
  have e8 := r 8 (fun _ => rfl)
  have e9 := r 9 (fun _ => rfl)
  have e10 := r 10 (fun _ => rfl)
  have et : tld z2 = tld z := congrFun e8 2
  refine ⟨?_, ?_, ?_, h4.kp et (r 106 fun _ => rfl) (r 33 fun _ => rfl) (hk.2 15 3 rfl) (hk.2 15 4 rfl) (fun p q hp => hk.2 _ q (kc_row (Or.inl rfl) hp)), h5.kp et (r 108 fun _ => rfl) (r 73 fun _ => rfl) (hk.2 55 3 rfl) (hk.2 55 4 rfl) (fun p q hp => hk.2 _ q (kc_row (Or.inr rfl) hp)), ?_, ?_⟩
  · unfold I_who
    rw [et, show lck z2 = lck z from congrFun e8 3, hk.2 105 7 rfl, hk.2 105 8 rfl]
    exact h1
  · unfold I_hou
    rw [e9, r 109 fun _ => rfl]
    exact h2
  · unfold I_foe
    rw [e10, r 110 fun _ => rfl, et]
    exact h3
  · unfold I_tape
    rw [r 113 fun _ => rfl, r 75 fun _ => rfl, hk.2 105 12 rfl, hk.2 7 8 rfl]
    exact h6
  · unfold I_isk
    rw [hk.2 105 51 rfl, hk.2 7 9 rfl]
    exact h7
/-- the law's cells stay -/
def lf (z z2 : z_T) : Prop := z2.2.2.1 = z.2.2.1 ∧ (∀ i, i < 135 + z.2.2.2.2.1 → z2.2.2.2.1 i = z.2.2.2.1 i) ∧ z.2.2.2.2.1 ≤ z2.2.2.2.2.1 ∧ (∀ i, 120 ≤ i → i ≤ 124 → z2.1 i = z.1 i) ∧ z2.1 105 21 = z.1 105 21
theorem kp.lf {z z2 : z_T} (h : kp z z2) : lf z z2 := by
  obtain ⟨h1, h2⟩ := h
  refine ⟨congrArg (fun q => q.1) h1, fun i _ => congrFun (congrArg (fun q => q.2.1) h1) i, Nat.le_of_eq (congrArg (fun q => q.2.2.1) h1).symm, fun i a b => funext fun k => h2 i k ?_, h2 105 21 rfl⟩
  obtain rfl | rfl | rfl | rfl | rfl : i = 120 ∨ i = 121 ∨ i = 122 ∨ i = 123 ∨ i = 124 := by omega
  all_goals rfl
/-- the room one call takes -/
def rm (z z2 : z_T) : Prop := z2.2.2.2.2.1 ≤ z.2.2.2.2.1 + 10000 ∧ z2.2.2.2.2.2 ≤ z.2.2.2.2.2 + 50000
theorem kp_rm {z z2 : z_T} (h : kp z z2) : rm z z2 := by
  have h1 := h.1
  unfold rm
  rw [h1]
  exact ⟨by omega, by omega⟩
section
variable {L : Nat} {xs : Nat → Int32} {z : z_T}
theorem in16 (x : Int32) : (∃ k, k < 16 ∧ x = ii k) ∨ (x < 0 ∨ ¬ x < 16) := by
  by_cases h : x < 0
  · exact Or.inr (Or.inl h)
  · obtain ⟨k, hk, rfl⟩ := ii_of h
    by_cases h2 : ii k < 16
    · rw [show (16 : Int32) = ii 16 from rfl, ii_lt hk (by decide)] at h2
      exact Or.inl ⟨k, h2, rfl⟩
    · exact Or.inr (Or.inr h2)
theorem lt16 {k : Nat} (h : k < 16) : ii k < 16 := by
  rw [show (16 : Int32) = ii 16 from rfl, ii_lt (by omega) (by decide)]
  exact h
theorem nn16 {k : Nat} (h : k < 16) : ¬ ii k < 0 := ii_nn (by omega)
/-- is one told -/
def isT (s x : Int32) : Bool := decide (¬ x < 0) && (decide (x < 16) && hb s x.toNatClampNeg)
theorem isT_ii {s : Int32} {k : Nat} (h : k < 16) : isT s (ii k) = hb s k := by
  unfold isT
  rw [decide_eq_true (nn16 h), decide_eq_true (lt16 h), ii_n (by omega)]
  rfl
theorem isT_of {s x : Int32} (h : isT s x = true) : ∃ k, k < 16 ∧ x = ii k ∧ hb s k = true := by
  rcases in16 x with ⟨k, hk, rfl⟩ | hx
  · exact ⟨k, hk, rfl, by rw [← isT_ii hk]; exact h⟩
  · unfold isT at h
    rw [Bool.and_eq_true, Bool.and_eq_true] at h
    rcases hx with h1 | h1
    · exact absurd h1 (of_decide_eq_true h.1)
    · exact absurd (of_decide_eq_true h.2.1) h1
theorem x_told {x : Int32} : F_X1_isTold (hp L xs z) 8 x = some (if isT (tld z) x = true then 1 else 0) := by
  unfold F_X1_isTold
  rcases in16 x with ⟨k, hk, rfl⟩ | hx
  · rw [if_neg (nn16 hk), if_pos (lt16 hk), isT_ii hk]
    simp only [zr_0, zr_1, zr_2, zr_3, zr_4, zr_5, zr_6, Option.bind_some, po_s, po_n, has_eq (show k < 32 by omega)]
    by_cases h : hb (tld z) k = true <;> simp [h]
  · have : isT (tld z) x = false := by
      cases h : isT (tld z) x with
      | false => rfl
      | true =>
        obtain ⟨k, hk, rfl, _⟩ := isT_of h
        rcases hx with h1 | h1
        · exact absurd h1 (nn16 hk)
        · exact absurd (lt16 hk) h1
    rw [this]
    rcases hx with h1 | h1
    · simp [h1]
    · by_cases h0 : x < 0 <;> simp [h0, h1]
theorem m_told {x : Int32} (I : I_who z) : F_X6_isTold (hp L xs z) 105 x = some (if isT (tld z) x = true then 1 else 0) := by
  unfold F_X6_isTold
  rw [m_in]
  simp only [zr_0, zr_1, zr_2, zr_3, zr_4, zr_5, zr_6, Option.bind_some, po_s, po_n, I.2.1]
  rcases in16 x with ⟨k, hk, rfl⟩ | hx
  · have h15 : ¬ (15 : Int32) < ii k := by
      rw [show (15 : Int32) = ii 15 from rfl, ii_lt (by decide) (by omega)]
      omega
    rw [isT_ii hk, if_neg (by rw [b01]; simp [nn16 hk, h15]), m_has (by omega)]
    by_cases h : hb (tld z) k = true <;> simp [h]
  · have : isT (tld z) x = false := by
      cases h : isT (tld z) x with
      | false => rfl
      | true =>
        obtain ⟨k, hk, rfl, _⟩ := isT_of h
        rcases hx with h1 | h1
        · exact absurd h1 (nn16 hk)
        · exact absurd (lt16 hk) h1
    rw [this, if_pos]
    · rfl
    · rw [b01]
      rcases hx with h1 | h1
      · simp [h1]
      · by_cases h0 : x < 0
        · simp [h0]
        · obtain ⟨k, hk, rfl⟩ := ii_of h0
          rw [show (16 : Int32) = ii 16 from rfl, ii_lt hk (by decide)] at h1
          rw [show (15 : Int32) = ii 15 from rfl, ii_lt (by decide) hk]
          simp
          omega
/-- friends -/
def fr (z : z_T) (p : Nat) : Int32 := (tld z &&& (z.1 10 p ^^^ (-1))) &&& (bt p ^^^ (-1))
theorem x_fr {p : Nat} (hk : p < 16) : F_X1_friends (hp L xs z) 8 (ii p) = some (fr z p) := by
  unfold F_X1_friends
  simp only [zr_0, zr_1, zr_2, zr_3, zr_4, zr_5, zr_6, Option.bind_some, po_s, po_n, za_0, za_1, za_2, za_3, za_4, za_5, hk]
  rfl
theorem m_fr {p : Nat} (I : I_who z) (J : I_foe z) (hk : p < 16) : F_X6_friendsOf (hp L xs z) 105 (ii p) = some (fr z p) := by
  unfold F_X6_friendsOf
  simp only [zr_0, zr_1, zr_2, zr_3, zr_4, zr_5, zr_6, Option.bind_some, po_s, po_n, za_0, za_1, za_2, za_3, za_4, za_5, hk, I.2.1, (J p hk).1]
  rfl
theorem hb_fr {p k : Nat} (hk : p < 16) : hb (fr z p) k = (hb (tld z) k && (!hb (z.1 10 p) k && decide (k ≠ p))) := by
  unfold fr
  rw [hb_and, hb_and, hb_not, hb_not, hb_bt (by omega)]
  by_cases h : k < 32
  · by_cases h2 : k = p <;> simp [h, h2]
  · rw [hb_ge (s := tld z) (Nat.not_lt.mp h)]
    rfl
theorem s16_fr {p : Nat} (I : I_who z) : s16 (fr z p) := s16_al (s16_al I.1)
theorem x_are {x : Int32} : F_X0_areTold (hp L xs z) 7 x = some (if ¬ x < 0 ∧ x &&& (tld z ^^^ (-1)) = 0 then 1 else 0) := by
  unfold F_X0_areTold
  simp only [zr_0, zr_1, zr_2, zr_3, zr_4, zr_5, zr_6, Option.bind_some, po_s, po_n]
  by_cases h : x < 0
  · simp [h]
  · by_cases h2 : x &&& (tld z ^^^ (-1)) = 0
    · rw [if_neg h, if_pos h2, if_pos ⟨h, h2⟩]
    · rw [if_neg h, if_neg h2, if_neg (fun q => h2 q.2)]
theorem x_fed {i : Nat} (hk : i < 260) : F_X0_fed (hp L xs z) 7 (ii i) = some (z.1 75 i &&& 255) := by
  unfold F_X0_fed
  simp only [zr_0, zr_1, zr_2, zr_3, zr_4, zr_5, zr_6, Option.bind_some, po_s, po_n, za_0, za_1, za_2, za_3, za_4, za_5, hk]
theorem m_oct {i : Nat} (I : ∀ i, i < 260 → z.1 113 i = z.1 75 i) (hk : i < 260) : F_X6_octet (hp L xs z) 105 (ii i) = some (z.1 75 i &&& 255) := by
  unfold F_X6_octet
  simp only [zr_0, zr_1, zr_2, zr_3, zr_4, zr_5, zr_6, Option.bind_some, po_s, po_n, za_0, za_1, za_2, za_3, za_4, za_5, hk, I i hk]
theorem m_fav {p q : Nat} (I : I_twn z 17 33 15 106) (h1 : p < 16) (h2 : q < 16) : F_X6_favoursOf (hp L xs z) 105 (ii p) (ii q) = some (z.1 (17 + p) q) := by
  unfold F_X6_favoursOf
  have e : (16 + 16 * ii p) + ii q = ii (16 + 16 * p + q) := by
    rw [← ii_add, ← ii_add]
    congr 2
    exact (Int32.ofNat_mul 16 p).symm
  have h3 : 16 + 16 * p + q < 274 := by omega
  simp only [zr_0, zr_1, zr_2, zr_3, zr_4, zr_5, zr_6, Option.bind_some, po_s, po_n, e, za_0, za_1, za_2, za_3, za_4, za_5, h3, (I.2.1 p q h1 h2).1]
/-- what has to be shown of a call: the same answer, the same told after it -/
def Op (L : Nat) (xs : Nat → Int32) (z : z_T) (A B : pm_H → Option (Int32 × pm_H)) : Prop := ∃ (r : Int32) (z1 z2 : z_T), A (hp L xs z) = some (r, hp L xs z1) ∧ B (hp L xs z1) = some (r, hp L xs z2) ∧ Inv z2 ∧ lf z z2 ∧ rm z z2
theorem Op.kp {A B : pm_H → Option (Int32 × pm_H)} {r : Int32} {z1 z2 : z_T} (I : Inv z) (h1 : A (hp L xs z) = some (r, hp L xs z1)) (h2 : B (hp L xs z1) = some (r, hp L xs z2)) (hk : kp z z2) : Op L xs z A B := ⟨r, z1, z2, h1, h2, I.kp hk, hk.lf, kp_rm hk⟩
/-- of a call that only looks -/
def rd (A : pm_H → Option Int32) (h : pm_H) : Option (Int32 × pm_H) := (A h).bind fun v => some (v, h)
theorem Op.rd {A B : pm_H → Option Int32} {r : Int32} (I : Inv z) (h1 : A (hp L xs z) = some r) (h2 : B (hp L xs z) = some r) : Op L xs z (rd A) (rd B) :=
  Op.kp I (r := r) (z1 := z) (by unfold CAnyKeyTownLaw_law_r8845_245011.rd; rw [h1]; rfl) (by unfold CAnyKeyTownLaw_law_r8845_245011.rd; rw [h2]; rfl) kp.rf
/-- the tape is taken -/
theorem Inv.tp {v : Int32} (I : Inv z) (hv : ∃ t, t ≤ 260 ∧ v = ii t) : Inv (ui (ui z 7 8 v) 105 12 v) := by
  obtain ⟨h1, h2, h3, h4, h5, h6, h7⟩ := I
  have e : ∀ i, i ≠ 7 → i ≠ 105 → (ui (ui z 7 8 v) 105 12 v).1 i = z.1 i := fun i a b => (ui_o b).trans (ui_o a)
  refine ⟨h1, h2, h3, h4.kp rfl rfl rfl rfl rfl (fun p q _ => congrFun (e _ (by omega) (by omega)) q), h5.kp rfl rfl rfl rfl rfl (fun p q hp => ?_), ⟨h6.1, rfl, hv⟩, h7⟩
  exact congrFun (e _ (by omega) (by omega)) q
theorem lf_tp {v : Int32} : lf z (ui (ui z 7 8 v) 105 12 v) := ⟨rfl, fun _ _ => rfl, Nat.le_refl _, fun i a b => (ui_o (by omega)).trans (ui_o (by omega)), rfl⟩
theorem Op.tp {A B : pm_H → Option (Int32 × pm_H)} {r : Int32} (I : Inv z) (h1 : A (hp L xs z) = some (r, hp L xs (ui z 7 8 0))) (h2 : B (hp L xs (ui z 7 8 0)) = some (r, hp L xs (ui (ui z 7 8 0) 105 12 0))) : Op L xs z A B :=
  ⟨r, _, _, h1, h2, I.tp ⟨0, Nat.zero_le _, rfl⟩, lf_tp, ⟨by show z.2.2.2.2.1 ≤ _; omega, by show z.2.2.2.2.2 ≤ _; omega⟩⟩
theorem Op.no {A B : pm_H → Option (Int32 × pm_H)} {r : Int32} (I : Inv z) (h1 : A (hp L xs z) = some (r, hp L xs z)) (h2 : B (hp L xs z) = some (r, hp L xs z)) : Op L xs z A B := Op.kp I h1 h2 kp.rf
end
