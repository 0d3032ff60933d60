/-! THE PLAIN LAW (5): the small functions -/
set_option maxRecDepth 100000
theorem ct_1_of {o : Option Int32} {n : Nat} (h : ct_1 o n = true) : o = some (ii n) := by
  unfold ct_1 at h
  split at h
  next v =>
    have := Nat.eq_of_beq_eq_true h
    rw [← this]
    refine congrArg some (Int32.toBitVec_inj.mp (BitVec.eq_of_toNat_eq ?_))
    show v.toBitVec.toNat = (BitVec.ofNat 32 v.toBitVec.toNat).toNat
    rw [BitVec.toNat_ofNat, Nat.mod_eq_of_lt v.toBitVec.isLt]
  next => cases h
theorem bc_F {m : Nat} (h : m < 65536) : F_J6_bitCount (ii m) = some (ii (pcF m)) := ct_1_of (ct_ok h).1
theorem nz_F {m : Nat} (h : m < 65536) : F_J6_numberOfTrailingZeros (ii m) = some (ii (lwF 16 0 m)) := ct_1_of (ct_ok h).2
/-- how many, the lowest -/
def pcN (s : Int32) : Nat → Nat
  | 0 => 0
  | k + 1 => pcN s k + (hb s k).toNat
def pc (s : Int32) : Nat := pcN s 16
def lwN (s : Int32) : Nat → Nat → Nat
  | 0, _ => 32
  | r + 1, k => bif hb s k then k else lwN s r (k + 1)
def lw (s : Int32) : Nat := lwN s 16 0
theorem nb_dec (a b : Nat) : Nat.beq a b = decide (a = b) := Bool.eq_iff_iff.mpr ⟨fun h => decide_eq_true (Nat.eq_of_beq_eq_true h), fun h => by rw [of_decide_eq_true h]; exact Nat.beq_refl b⟩
theorem tb_div (m k : Nat) : m.testBit k = decide (m / 2 ^ k % 2 = 1) := by
  rw [Nat.testBit_eq_decide_div_mod_eq]
theorem tb_nat (m k : Nat) : (m.testBit k).toNat = m / 2 ^ k % 2 := by
  rw [tb_div]
  by_cases h : m / 2 ^ k % 2 = 1
  · rw [decide_eq_true h, h]; rfl
  · rw [decide_eq_false h]
    have : m / 2 ^ k % 2 < 2 := Nat.mod_lt _ (by decide)
    show 0 = _
    omega
theorem pc_ii {m : Nat} : pc (ii m) = pcF m := by
  have e : ∀ k, k < 32 → (hb (ii m) k).toNat = m / 2 ^ k % 2 := fun k hk => by rw [hb_ii hk, tb_nat]
  unfold pc pcF
  simp only [pcN]
  rw [e 0 (by decide), e 1 (by decide), e 2 (by decide), e 3 (by decide), e 4 (by decide), e 5 (by decide), e 6 (by decide), e 7 (by decide), e 8 (by decide), e 9 (by decide), e 10 (by decide), e 11 (by decide), e 12 (by decide), e 13 (by decide), e 14 (by decide), e 15 (by decide)]
  simp
theorem lw_ii {m : Nat} : lw (ii m) = lwF 16 0 m := by
  have : ∀ (r k : Nat), k + r ≤ 32 → lwN (ii m) r k = lwF r k (m / 2 ^ k) := by
    intro r
    induction r with
    | zero => intro k _; rfl
    | succ r ih =>
      intro k hk
      unfold lwN lwF
      rw [ih (k + 1) (by omega), hb_ii (by omega), tb_div, Nat.pow_succ, ← Nat.div_div_eq_div_mul]
      rw [nb_dec]
  have h := this 16 0 (by decide)
  rw [Nat.pow_zero, Nat.div_one] at h
  exact h
theorem e_bits {s : Int32} (h : s16 s) : F_J6_bitCount s = some (ii (pc s)) := by
  obtain ⟨m, hm, rfl⟩ := s16_ii h
  rw [bc_F hm, pc_ii]
theorem e_low {s : Int32} (h : s16 s) : F_X0_lowest s = some (ii (lw s)) := by
  obtain ⟨m, hm, rfl⟩ := s16_ii h
  unfold F_X0_lowest
  rw [nz_F hm, lw_ii]
  rfl
theorem pcN_le (s : Int32) : ∀ k, pcN s k ≤ k
  | 0 => Nat.le_refl _
  | k + 1 => by
    have := pcN_le s k
    have h2 : (hb s k).toNat ≤ 1 := Bool.toNat_le _
    show pcN s k + _ ≤ _
    omega
theorem pc_le (s : Int32) : pc s ≤ 16 := pcN_le s 16
theorem lwN_spec (s : Int32) : ∀ (r k : Nat), (∃ j, k ≤ j ∧ j < k + r ∧ hb s j = true) → k ≤ lwN s r k ∧ lwN s r k < k + r ∧ hb s (lwN s r k) = true ∧ ∀ j, k ≤ j → j < lwN s r k → hb s j = false
  | 0, k, ⟨j, h1, h2, _⟩ => absurd h2 (by omega)
  | r + 1, k, ⟨j, h1, h2, h3⟩ => by
    unfold lwN
    cases hk : hb s k with
    | true => exact ⟨Nat.le_refl _, by show k < _; omega, hk, fun j a b => absurd b (by show ¬ j < k; omega)⟩
    | false =>
      have hj : j ≠ k := fun e => by rw [e, hk] at h3; cases h3
      obtain ⟨a, b, c, d⟩ := lwN_spec s r (k + 1) ⟨j, by omega, by omega, h3⟩
      refine ⟨by show k ≤ lwN s r (k + 1); omega, by show lwN s r (k + 1) < _; omega, c, fun i a1 b1 => ?_⟩
      by_cases hi : i = k
      · rw [hi, hk]
      · exact d i (by omega) b1
theorem s16_ne {s : Int32} (h : s16 s) (hs : s ≠ 0) : ∃ j, j < 16 ∧ hb s j = true := Classical.byContradiction fun hn => hs (s16_ext h s16_0 fun k hk => by
  rw [hb_0]
  cases hh : hb s k with
  | false => rfl
  | true => exact absurd ⟨k, hk, hh⟩ hn)
theorem lw_spec {s : Int32} (h : s16 s) (hs : s ≠ 0) : lw s < 16 ∧ hb s (lw s) = true ∧ ∀ j, j < lw s → hb s j = false := by
  obtain ⟨j, h1, h2⟩ := s16_ne h hs
  obtain ⟨a, b, c, d⟩ := lwN_spec s 16 0 ⟨j, Nat.zero_le _, by omega, h2⟩
  exact ⟨by unfold lw; omega, c, fun i hi => d i (Nat.zero_le _) hi⟩
theorem lw_uniq {s : Int32} {k : Nat} (h : s16 s) (h1 : hb s k = true) (h2 : ∀ j, j < k → hb s j = false) : lw s = k := by
  have hs : s ≠ 0 := fun e => by rw [e, hb_0] at h1; cases h1
  obtain ⟨a, b, c⟩ := lw_spec h hs
  rcases Nat.lt_trichotomy (lw s) k with q | q | q
  · rw [h2 _ q] at b; cases b
  · exact q
  · rw [c _ q] at h1; cases h1
/-- 0 or 1 -/
theorem b01 {c : Prop} [Decidable c] : ((if c then (1 : Int32) else 0) = 0) = ¬ c := by
  by_cases h : c <;> simp [h]
theorem b01_1 {c : Prop} [Decidable c] : ((if c then (1 : Int32) else 0) = 1) = c := by
  by_cases h : c <;> simp [h]
theorem e_in {v n : Int32} : F_X0_in v n = some (if ¬ v < 0 ∧ v < n then 1 else 0) := by
  unfold F_X0_in
  by_cases h1 : v < 0
  · simp [h1]
  · by_cases h2 : v < n <;> simp [h1, h2]
theorem e_within {v a b : Int32} : F_X0_within v a b = some (if ¬ v < a ∧ ¬ b < v then 1 else 0) := by
  unfold F_X0_within
  by_cases h1 : v < a
  · simp [h1]
  · by_cases h2 : b < v <;> simp [h1, h2]
theorem m_in {v a b : Int32} : F_X6_in v a b = some (if ¬ v < a ∧ ¬ b < v then 1 else 0) := by
  unfold F_X6_in
  by_cases h1 : v < a
  · simp [h1]
  · by_cases h2 : b < v <;> simp [h1, h2]
theorem e_has {s : Int32} {p : Nat} (hp : p < 32) : F_X0_has s (ii p) = some (if hb s p = true then 1 else 0) := by
  unfold F_X0_has
  simp only [has_eq hp]
  by_cases h : hb s p = true <;> simp [h]
theorem m_has {s : Int32} {p : Nat} (hp : p < 32) : F_X6_has s (ii p) = some (if hb s p = true then 1 else 0) := by
  unfold F_X6_has
  simp only [has_eq hp]
  by_cases h : hb s p = true <;> simp [h]
theorem sr_toNat {s : Int32} {k : Nat} (hk : k < 32) : (pm_shr s (ii k) &&& 1) = ii (hb s k).toNat := by
  have h := has_eq (s := s) hk
  cases hh : hb s k with
  | true =>
    rw [hh] at h
    exact h.mpr rfl
  | false =>
    rw [hh] at h
    refine hb_ext fun j hj => ?_
    rw [hb_and]
    have h1 : hb 1 j = decide (j = 0) := (hb_bt (p := 0) (by decide)).symm ▸ rfl
    rw [h1]
    show _ = hb 0 j
    rw [hb_0]
    by_cases h0 : j = 0
    · subst h0
      rw [sr_h hk, hh]
      rfl
    · simp [h0]
theorem m_bits {s : Int32} {n : Nat} (hn : 17 ≤ n) : F_X6_bits n s = some (ii (pc s)) := by
  have h := lp_r (G := fun n k a => L_X6_bits_4 n s a (ii k)) (fun k a => a + ii (hb s k).toNat) (N := 16) (c := 0) (fin := fun a => some a)
    (fun n k a hk _ => by
      have h1 : ii k < 16 := by
        have := @ii_lt k 16 (by omega) (by decide)
        rw [show (16 : Int32) = ii 16 from rfl, this]; exact hk
      show L_X6_bits_4 (n + 1) s a (ii k) = _
      rw [L_X6_bits_4, if_pos h1, sr_toNat (by omega), ii_s])
    (fun n a _ => by
      show L_X6_bits_4 (n + 1) s a (ii 16) = _
      rw [L_X6_bits_4, if_neg (by decide)]) (r := 16) (k := 0) (n := n) (a := 0) rfl (by omega)
  unfold F_X6_bits
  rw [show (L_X6_bits_4 n s 0 0) = L_X6_bits_4 n s 0 (ii 0) from rfl, h]
  show some _ = _
  have e : ∀ r, lp (fun k a => a + ii (hb s k).toNat) r 0 0 = ii (pcN s r) := by
    intro r
    induction r with
    | zero => rfl
    | succ r ih => rw [lp_s, ih, Nat.zero_add, ii_add]; rfl
  rw [e 16]
  rfl
theorem m_low {s : Int32} {n : Nat} (h : s16 s) (hs : s ≠ 0) (hn : 17 ≤ n) : F_X6_lowest n s = some (ii (lw s)) := by
  obtain ⟨a, b, c⟩ := lw_spec h hs
  have : ∀ (r k n : Nat), k + r = lw s → r < n → L_X6_lowest_2 n s (ii k) = some (ii (lw s)) := by
    intro r
    induction r with
    | zero =>
      intro k n e hn
      obtain ⟨m, rfl⟩ : ∃ m, n = m + 1 := ⟨n - 1, by omega⟩
      have e : k = lw s := e
      subst e
      rw [L_X6_lowest_2, m_has (by omega), Option.bind_some, if_neg (by rw [b01]; simp [b])]
    | succ r ih =>
      intro k n e hn
      obtain ⟨m, rfl⟩ : ∃ m, n = m + 1 := ⟨n - 1, by omega⟩
      rw [L_X6_lowest_2, m_has (by omega), Option.bind_some, if_pos (by rw [b01]; simp [c k (by omega)]), ii_s]
      exact ih (k + 1) m (by omega) (by omega)
  unfold F_X6_lowest
  rw [show (L_X6_lowest_2 n s 0) = L_X6_lowest_2 n s (ii 0) from rfl, this (lw s) 0 n (Nat.zero_add _) (by omega)]
  rfl
/-- min, max, abs: one of each -/
def mn (a b : Int32) : Int32 := if b < a then b else a
def mx (a b : Int32) : Int32 := if a < b then b else a
def ab (a : Int32) : Int32 := if a < 0 then -a else a
theorem e_min {a b : Int32} : F_J2_min a b = some (mn a b) := by
  unfold F_J2_min mn; by_cases h : b < a <;> simp [h]
theorem e_max {a b : Int32} : F_J2_max a b = some (mx a b) := by
  unfold F_J2_max mx; by_cases h : a < b <;> simp [h]
theorem e_abs {a : Int32} : F_J2_abs a = some (ab a) := by
  unfold F_J2_abs ab; by_cases h : a < 0 <;> simp [h]
theorem m_size {a : Int32} : F_X6_size a = some (ab a) := by
  unfold F_X6_size ab; by_cases h : a < 0 <;> simp [h]
theorem i_lt {a b : Int32} : (a < b) = (a.toInt < b.toInt) := propext Int32.lt_iff_toInt_lt
theorem m_min {a b : Int32} : F_X6_min a b = some (mn a b) := by
  unfold F_X6_min mn
  by_cases h : a < b
  · have h2 : ¬ b < a := by rw [i_lt] at h ⊢; omega
    simp [h, h2]
  · by_cases h2 : b < a
    · simp [h, h2]
    · have : a = b := Int32.toInt_inj.mp (by rw [i_lt] at h h2; omega)
      simp [this]
theorem m_max {a b : Int32} : F_X6_max a b = some (mx a b) := by
  unfold F_X6_max mx
  by_cases h : b < a
  · have h2 : ¬ a < b := by rw [i_lt] at h ⊢; omega
    simp [h, h2]
  · by_cases h2 : a < b
    · simp [h, h2]
    · have : a = b := Int32.toInt_inj.mp (by rw [i_lt] at h h2; omega)
      simp [this]
