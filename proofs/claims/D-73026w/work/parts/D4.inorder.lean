/-! THE PLAIN LAW: inOrder, the walks -/
set_option maxRecDepth 100000
/-- the first that fits -/
def isN (c : Nat → Bool) (k j : Nat) : Prop := k ≤ j ∧ j < 16 ∧ c j = true ∧ ∀ i, k ≤ i → i < j → c i = false
theorem isN_ex {c : Nat → Bool} : ∀ (d k : Nat), (∃ j, k ≤ j ∧ j < k + d ∧ j < 16 ∧ c j = true) → ∃ j, isN c k j
  | 0, k, ⟨j, h1, h2, _⟩ => absurd h2 (by omega)
  | d + 1, k, ⟨j, h1, h2, h3, h4⟩ => by
    by_cases e : c k = true
    · exact ⟨k, Nat.le_refl _, by
        have : j = k ∨ k < j := by omega
        omega, e, fun i a b => absurd a (by omega)⟩
    · have e : c k = false := by simpa using e
      have hj : j ≠ k := fun x => by rw [x, e] at h4; cases h4
      obtain ⟨i, i1, i2, i3, i4⟩ := isN_ex (c := c) d (k + 1) ⟨j, by omega, by omega, h3, h4⟩
      exact ⟨i, by omega, i2, i3, fun q a b => by
        by_cases x : q = k
        · rw [x]; exact e
        · exact i4 q (by omega) b⟩
theorem isN_s {c : Nat → Bool} {k j : Nat} (h : isN c k j) (hc : c k = false) : isN c (k + 1) j := by
  obtain ⟨h1, h2, h3, h4⟩ := h
  have : j ≠ k := fun e => by rw [e, hc] at h3; cases h3
  exact ⟨by omega, h2, h3, fun i a b => h4 i (by omega) b⟩
theorem isN_d {c : Nat → Bool} {k l j : Nat} (h : isN c k j) (hl : ∀ i, i < l → c i = false) (hkl : k ≤ l) : isN c l j := by
  obtain ⟨h1, h2, h3, h4⟩ := h
  have : l ≤ j := Classical.byContradiction fun hn => by
    rw [hl j (by omega)] at h3
    cases h3
  exact ⟨this, h2, h3, fun i a b => h4 i (by omega) b⟩
theorem jl_0 {v : Nat} (h : v < 9223372036854775808) : jl v = 0 ↔ v = 0 := by
  refine ⟨fun e => ?_, fun e => by rw [e]; rfl⟩
  have := congrArg Int64.toInt e
  unfold jl at this
  rw [Int64.toInt_ofNat_of_lt h, show Int64.toInt 0 = 0 from rfl] at this
  omega
theorem ne_bit {s : Int32} (hs : s16 s) : s ≠ 0 ↔ ∃ b, hb s b = true := ⟨fun h => by
  obtain ⟨j, _, h2⟩ := s16_ne hs h
  exact ⟨j, h2⟩, fun ⟨b, hb1⟩ e => by rw [e, hb_0] at hb1; cases hb1⟩
section
variable {L : Nat} {xs : Nat → Int32} {z : z_T}
theorem fr_t {p : Nat} (hp1 : p < 16) : ∀ b, hb (fr z p) b = true → hb (tld z) b = true ∧ b ≠ p := fun b h => by
  rw [hb_fr hp1, Bool.and_eq_true, Bool.and_eq_true] at h
  exact ⟨h.1, of_decide_eq_true h.2.2⟩
theorem gw_lt {A S : Int32} (hS : sub S A) : gw z A S < 9223372036854775808 := by
  have h1 := pc_diff hS
  have h2 := pc_le A
  exact Nat.lt_of_le_of_lt (P_le _ S A (by omega)) (fct16 (by omega))
def cx (z : z_T) (A S : Int32) (p : Nat) : Bool := okp A (fr z) S p && decide (gw z A (S ||| bt p) ≠ 0)
theorem sub_ob {A S : Int32} (hS : sub S A) {p : Nat} (hp1 : p < 16) (h : hb A p = true) : sub (S ||| bt p) A := sub_or hS fun q hq => by
  rw [hb_bt (by omega)] at hq
  rw [of_decide_eq_true hq]
  exact h
theorem x_97 {A S : Int32} {y : z_T} (hA : s16 A) (hS : sub S A) (h3 : kp z y) (tab : ∀ T, sub T A → y.2.1 80 (sn T) = jl (gw z A T)) : ∀ (d k n j : Nat), k + d = j → d + 1 ≤ n → isN (cx z A S) k j → L_X0_inOrder_97 n 7 A S (ii k) (hp L xs y) = some (ii j)
  | d, k, n, j, h1, h2, h => by
    obtain ⟨m, rfl⟩ : ∃ m, n = m + 1 := ⟨n - 1, by omega⟩
    obtain ⟨i1, i2, i3, i4⟩ := h
    have hk : k < 16 := by omega
    have hS16 : s16 (S ||| bt k) := s16_or (sub16 hS hA) (s16_bt hk)
    have e1 : hb (A &&& (S ^^^ (-1))) k = (hb A k && !hb S k) := hb_dif
    have cE : cx z A S k = ((hb A k && !hb S k) && (decide (fr z k &&& (S ^^^ (-1)) ≠ 0) && decide (gw z A (S ||| bt k) ≠ 0))) := by
      unfold cx okp
      cases hb A k <;> cases hb S k <;> rfl
    have next : cx z A S k = false → (L_X0_inOrder_97 m 7 A S (ii (k + 1)) (hp L xs y) = some (ii j)) := fun hc => by
      have g := isN_s ⟨i1, i2, i3, i4⟩ hc
      have : k ≠ j := fun e => by rw [e, i3] at hc; cases hc
      match d, h1, h2 with
      | 0, h1, h2 => omega
      | d + 1, h1, h2 => exact x_97 hA hS h3 tab d (k + 1) m j (by omega) (by omega) g
    rw [L_X0_inOrder_97]
    simp only [zr_0, zr_1, zr_2, zr_3, zr_4, zr_5, zr_6, Option.bind_some, po_s, po_n, e_has (show k < 32 by omega), b01, e1, x_fr hk, kp_fr h3, ii_s, btd, al80 hS16, lg_cmp_eq]
    by_cases c1 : (hb A k && !hb S k) = true
    · have c1' := c1
      rw [Bool.and_eq_true] at c1'
      have hsub := sub_ob hS hk c1'.1
      by_cases c2 : fr z k &&& (S ^^^ (-1)) = 0
      · simp only [c1, c2, one_ne0, Bool.false_eq_true, not_true, not_false_eq_true, Classical.not_not, ↓reduceIte, Option.bind_some, po_s, po_n]
        exact next (by rw [cE, c2]; simp)
      · by_cases c3 : gw z A (S ||| bt k) = 0
        · simp only [c1, c2, one_ne0, Bool.false_eq_true, not_true, not_false_eq_true, Classical.not_not, ↓reduceIte, Option.bind_some, po_s, po_n, tab _ hsub, jl_0 (gw_lt hsub), c3]
          exact next (by rw [cE, c3]; simp)
        · simp only [c1, c2, one_ne0, Bool.false_eq_true, not_true, not_false_eq_true, Classical.not_not, ↓reduceIte, Option.bind_some, po_s, po_n, tab _ hsub, jl_0 (gw_lt hsub), c3]
          have : cx z A S k = true := by rw [cE, c1, decide_eq_true c2, decide_eq_true c3]; rfl
          have : ¬ k < j := fun hn => by rw [i4 k (Nat.le_refl _) hn] at this; cases this
          obtain rfl : k = j := by omega
          rfl
    · have c1' : (hb A k && !hb S k) = false := by simpa using c1
      simp only [c1', one_ne0, Bool.false_eq_true, not_true, not_false_eq_true, Classical.not_not, ↓reduceIte, Option.bind_some, po_s, po_n]
      exact next (by rw [cE, c1']; rfl)
theorem m_grpA {X : Int32} {p n : Nat} (W : I_who z) (J : I_foe z) (hX : s16 X) (h : p < 16) (hn : 40 ≤ n) : F_X6_groupOf n (hp L xs z) 105 (ii p) X = some (grp (NA (fr z) X) p) := by
  obtain ⟨R, h1, h2⟩ := m_grp (L := L) (xs := xs) (A := X) W J h hn
  rw [h1, isG_u h2 (grp_is (N := NA (fr z) X) (fun a _ => s16_ar hX) h)]
theorem m_25 {X st : Int32} (W : I_who z) (J : I_foe z) (hX : s16 X) : ∀ (d k n : Nat), k + d = 16 → d + 60 ≤ n →
    (L_X6_canGo_25 n 105 st X (ii k) (hp L xs z) = some (.inr ()) ∧ ∀ a, k ≤ a → a < 16 → hb X a = true → grp (NA (fr z) X) a &&& st ≠ 0) ∨ (L_X6_canGo_25 n 105 st X (ii k) (hp L xs z) = some (.inl 0) ∧ ∃ a, a < 16 ∧ hb X a = true ∧ grp (NA (fr z) X) a &&& st = 0)
  | 0, k, n, h1, h2 => by
    obtain ⟨m, rfl⟩ : ∃ m, n = m + 1 := ⟨n - 1, by omega⟩
    obtain rfl : k = 16 := by omega
    rw [L_X6_canGo_25, if_neg (by decide)]
    exact Or.inl ⟨rfl, fun a b c => absurd b (by omega)⟩
  | d + 1, k, n, h1, h2 => by
    obtain ⟨m, rfl⟩ : ∃ m, n = m + 1 := ⟨n - 1, by omega⟩
    have hk : k < 16 := by omega
    rw [L_X6_canGo_25, if_pos (lt16 hk)]
    have ih := m_25 (st := st) W J hX d (k + 1) m (by omega) (by omega)
    simp only [zr_0, zr_1, zr_2, zr_3, zr_4, zr_5, zr_6, Option.bind_some, po_s, po_n, m_has (show k < 32 by omega), b01, m_grpA W J hX hk (show 40 ≤ m by omega), ii_s]
    by_cases c1 : hb X k = true
    · by_cases c2 : grp (NA (fr z) X) k &&& st = 0
      · simp only [c1, c2, one_ne0, Bool.false_eq_true, not_true, not_false_eq_true, Classical.not_not, ↓reduceIte, Option.bind_some, po_s, po_n]
        exact Or.inr ⟨trivial, k, hk, c1, c2⟩
      · simp only [c1, c2, one_ne0, Bool.false_eq_true, not_true, not_false_eq_true, Classical.not_not, ↓reduceIte, Option.bind_some, po_s, po_n]
        refine ih.imp (fun h => ⟨h.1, fun a a1 a2 a3 => ?_⟩) id
        by_cases e : a = k
        · rw [e]; exact c2
        · exact h.2 a (by omega) a2 a3
    · have c1' : hb X k = false := by simpa using c1
      simp only [c1', one_ne0, Bool.false_eq_true, not_true, not_false_eq_true, Classical.not_not, ↓reduceIte, Option.bind_some, po_s, po_n]
      refine ih.imp (fun h => ⟨h.1, fun a a1 a2 a3 => ?_⟩) id
      by_cases e : a = k
      · rw [e, c1'] at a3; cases a3
      · exact h.2 a (by omega) a2 a3
theorem m_cgo {A S : Int32} {k n : Nat} (W : I_who z) (J : I_foe z) (hA : sub A (tld z)) (hS : sub S A) (hk : k < 16) (c1 : (hb A k && !hb S k) = true) (hn : 100 ≤ n) : F_X6_canGo n (hp L xs z) 105 (tld z &&& (S ^^^ (-1))) (ii k) (tld z &&& (A ^^^ (-1))) = some (if cx z A S k = true then 1 else 0) := by
  have eL : (tld z &&& (S ^^^ (-1))) &&& (bt k ^^^ (-1)) = tld z &&& ((S ||| bt k) ^^^ (-1)) := hb_ext fun q hq => by
    rw [hb_and, hb_and, hb_and, hb_not, hb_not, hb_not, hb_or]
    cases hb (tld z) q <;> cases hb S q <;> cases hb (bt k) q <;> simp [hq]
  have c1' := c1
  rw [Bool.and_eq_true] at c1'
  have hsub := sub_ob hS hk c1'.1
  have hX : s16 (tld z &&& ((S ||| bt k) ^^^ (-1))) := s16_al W.1
  have eF : fr z k &&& (tld z &&& ((S ||| bt k) ^^^ (-1))) = fr z k &&& (S ^^^ (-1)) := hb_ext fun q hq => by
    rw [hb_and, hb_dif, hb_and, hb_not, hb_or, hb_bt (by omega)]
    cases e : hb (fr z k) q with
    | false => rfl
    | true =>
      have := fr_t hk q e
      rw [this.1]
      simp [this.2, hq]
  have iff := CC_iff (A := A) (N := fr z) W.1 hA (fun a ha => fr_t ha) hsub
  have hall : (∀ a, 0 ≤ a → a < 16 → hb (tld z &&& ((S ||| bt k) ^^^ (-1))) a = true → grp (NA (fr z) (tld z &&& ((S ||| bt k) ^^^ (-1)))) a &&& (tld z &&& (A ^^^ (-1))) ≠ 0) ↔ CC (tld z) A (fr z) (S ||| bt k) := by
    refine ⟨fun h a ta sa => ?_, fun h a _ ha hx => ?_⟩
    · have ha := s16_lt W.1 ta
      obtain ⟨b, hb1⟩ := (ne_bit (s16_ar (s16_al W.1))).mp (h a (Nat.zero_le _) ha (by rw [hb_dif, ta, sa]; rfl))
      rw [hb_and, hb_dif, Bool.and_eq_true, Bool.and_eq_true] at hb1
      exact ⟨b, hb1.1, hb1.2.1, by simpa using hb1.2.2⟩
    · rw [hb_dif, Bool.and_eq_true] at hx
      obtain ⟨b, b1, b2, b3⟩ := h a hx.1 (by simpa using hx.2)
      exact (ne_bit (s16_ar (s16_al W.1))).mpr ⟨b, by rw [hb_and, hb_dif, b1, b2, b3]; rfl⟩
  have cE : cx z A S k = (decide (fr z k &&& (S ^^^ (-1)) ≠ 0) && decide (gw z A (S ||| bt k) ≠ 0)) := by
    unfold cx okp
    rw [c1'.1]
    cases e : hb S k with
    | false => rfl
    | true => rw [e] at c1'; cases c1'.2
  unfold F_X6_canGo
  simp only [zr_0, zr_1, zr_2, zr_3, zr_4, zr_5, zr_6, Option.bind_some, po_s, po_n, m_fr W J hk, btd, eL, eF, ↓reduceIte]
  by_cases c2 : fr z k &&& (S ^^^ (-1)) = 0
  · rw [if_pos c2, if_neg (by rw [cE, c2]; simp)]
  · rw [if_neg c2]
    rcases m_25 (L := L) (xs := xs) (st := tld z &&& (A ^^^ (-1))) W J hX 16 0 n rfl (by omega) with ⟨h1, h2⟩ | ⟨h1, a, a1, a2, a3⟩
    · have h1 : L_X6_canGo_25 n 105 (tld z &&& (A ^^^ (-1))) (tld z &&& ((S ||| bt k) ^^^ (-1))) 0 (hp L xs z) = some (.inr ()) := h1
      rw [h1, if_pos]
      · rfl
      · have : gw z A (S ||| bt k) ≠ 0 := iff.mpr (hall.mp h2)
        rw [cE, decide_eq_true c2, decide_eq_true this]
        rfl
    · have h1 : L_X6_canGo_25 n 105 (tld z &&& (A ^^^ (-1))) (tld z &&& ((S ||| bt k) ^^^ (-1))) 0 (hp L xs z) = some (.inl 0) := h1
      rw [h1, if_neg]
      · rfl
      · intro e
        rw [cE, Bool.and_eq_true] at e
        exact hall.mpr (iff.mp (of_decide_eq_true e.2)) a (Nat.zero_le _) a1 a2 a3
theorem m_86 {A S : Int32} (W : I_who z) (J : I_foe z) (hA : sub A (tld z)) (hS : sub S A) : ∀ (d k n j : Nat), k + d = j → d + 120 ≤ n → isN (cx z A S) k j → L_X6_inOrder_86 n 105 (tld z &&& (A ^^^ (-1))) (tld z &&& (S ^^^ (-1))) (ii k) (hp L xs z) = some (ii j)
  | d, k, n, j, h1, h2, h => by
    obtain ⟨m, rfl⟩ : ∃ m, n = m + 1 := ⟨n - 1, by omega⟩
    obtain ⟨i1, i2, i3, i4⟩ := h
    have hk : k < 16 := by omega
    have next : cx z A S k = false → (L_X6_inOrder_86 m 105 (tld z &&& (A ^^^ (-1))) (tld z &&& (S ^^^ (-1))) (ii (k + 1)) (hp L xs z) = some (ii j)) := fun hc => by
      have g := isN_s ⟨i1, i2, i3, i4⟩ hc
      have : k ≠ j := fun e => by rw [e, i3] at hc; cases hc
      match d, h1, h2 with
      | 0, h1, h2 => omega
      | d + 1, h1, h2 => exact m_86 W J hA hS d (k + 1) m j (by omega) (by omega) g
    have e1 : hb ((tld z &&& (S ^^^ (-1))) &&& ((tld z &&& (A ^^^ (-1))) ^^^ (-1))) k = (hb A k && !hb S k) := by
      rw [hb_dif, hb_dif, hb_dif]
      cases e : hb A k with
      | false => cases hb (tld z) k <;> cases hb S k <;> rfl
      | true => rw [hA k e]; cases hb S k <;> rfl
    rw [L_X6_inOrder_86]
    simp only [zr_0, zr_1, zr_2, zr_3, zr_4, zr_5, zr_6, Option.bind_some, po_s, po_n, m_has (show k < 32 by omega), b01, e1, ii_s]
    by_cases c1 : (hb A k && !hb S k) = true
    · have hc := m_cgo (L := L) (xs := xs) (n := m) W J hA hS hk c1 (by omega)
      simp only [c1, one_ne0, Bool.false_eq_true, not_true, not_false_eq_true, Classical.not_not, ↓reduceIte, hc, Option.bind_some, po_s, po_n, b01]
      by_cases c2 : cx z A S k = true
      · simp only [c2, one_ne0, Bool.false_eq_true, not_true, not_false_eq_true, Classical.not_not, ↓reduceIte, Option.bind_some, po_s, po_n]
        have : ¬ k < j := fun hn => by rw [i4 k (Nat.le_refl _) hn] at c2; cases c2
        obtain rfl : k = j := by omega
        rfl
      · have c2' : cx z A S k = false := by simpa using c2
        simp only [c2', one_ne0, Bool.false_eq_true, not_true, not_false_eq_true, Classical.not_not, ↓reduceIte, Option.bind_some, po_s, po_n]
        exact next c2'
    · have c1' : (hb A k && !hb S k) = false := by simpa using c1
      simp only [c1', one_ne0, Bool.false_eq_true, not_true, not_false_eq_true, Classical.not_not, ↓reduceIte, Option.bind_some, po_s, po_n]
      refine next ?_
      unfold cx okp
      cases a : hb A k <;> cases b : hb S k <;> rw [a, b] at c1' <;> first | rfl | cases c1'
end
