/-! THE PLAIN LAW (4): the two counts of the library, on sets of sixteen: by trying them all -/
set_option maxRecDepth 100000
def pcF (m : Nat) : Nat := m % 2 + m / 2 % 2 + m / 4 % 2 + m / 8 % 2 + m / 16 % 2 + m / 32 % 2 + m / 64 % 2 + m / 128 % 2 + m / 256 % 2 + m / 512 % 2 + m / 1024 % 2 + m / 2048 % 2 + m / 4096 % 2 + m / 8192 % 2 + m / 16384 % 2 + m / 32768 % 2
/-- a set that ends in a one and j noughts: its rest has j twos -/
def lwF : Nat → Nat → Nat → Nat
  | 0, _, _ => 32
  | r + 1, k, m => bif Nat.beq (m % 2) 1 then k else lwF r (k + 1) (m / 2)
def ct_1 (o : Option Int32) (n : Nat) : Bool := match o with
  | some v => Nat.beq v.toBitVec.toNat n
  | none => false
def ct_all : Nat → Nat → Bool
  | 0, _ => true
  | r + 1, m => ct_1 (F_J6_bitCount (ii m)) (pcF m) && (ct_1 (F_J6_numberOfTrailingZeros (ii m)) (lwF 16 0 m) && ct_all r (m + 1))
theorem ct_of : ∀ (r m : Nat), ct_all r m = true → ∀ j, m ≤ j → j < m + r → ct_1 (F_J6_bitCount (ii j)) (pcF j) = true ∧ ct_1 (F_J6_numberOfTrailingZeros (ii j)) (lwF 16 0 j) = true
  | 0, m, _, j, h1, h2 => absurd h2 (by omega)
  | r + 1, m, h, j, h1, h2 => by
    unfold ct_all at h
    rw [Bool.and_eq_true, Bool.and_eq_true] at h
    by_cases e : j = m
    · subst e; exact ⟨h.1, h.2.1⟩
    · exact ct_of r (m + 1) h.2.2 j (by omega) (by omega)
theorem ctq_0 : ct_all 2048 0 = true := by decide +kernel
theorem ctq_1 : ct_all 2048 2048 = true := by decide +kernel
theorem ctq_2 : ct_all 2048 4096 = true := by decide +kernel
theorem ctq_3 : ct_all 2048 6144 = true := by decide +kernel
theorem ctq_4 : ct_all 2048 8192 = true := by decide +kernel
theorem ctq_5 : ct_all 2048 10240 = true := by decide +kernel
theorem ctq_6 : ct_all 2048 12288 = true := by decide +kernel
theorem ctq_7 : ct_all 2048 14336 = true := by decide +kernel
theorem ctq_8 : ct_all 2048 16384 = true := by decide +kernel
theorem ctq_9 : ct_all 2048 18432 = true := by decide +kernel
theorem ctq_10 : ct_all 2048 20480 = true := by decide +kernel
theorem ctq_11 : ct_all 2048 22528 = true := by decide +kernel
theorem ctq_12 : ct_all 2048 24576 = true := by decide +kernel
theorem ctq_13 : ct_all 2048 26624 = true := by decide +kernel
theorem ctq_14 : ct_all 2048 28672 = true := by decide +kernel
theorem ctq_15 : ct_all 2048 30720 = true := by decide +kernel
theorem ctq_16 : ct_all 2048 32768 = true := by decide +kernel
theorem ctq_17 : ct_all 2048 34816 = true := by decide +kernel
theorem ctq_18 : ct_all 2048 36864 = true := by decide +kernel
theorem ctq_19 : ct_all 2048 38912 = true := by decide +kernel
theorem ctq_20 : ct_all 2048 40960 = true := by decide +kernel
theorem ctq_21 : ct_all 2048 43008 = true := by decide +kernel
theorem ctq_22 : ct_all 2048 45056 = true := by decide +kernel
theorem ctq_23 : ct_all 2048 47104 = true := by decide +kernel
theorem ctq_24 : ct_all 2048 49152 = true := by decide +kernel
theorem ctq_25 : ct_all 2048 51200 = true := by decide +kernel
theorem ctq_26 : ct_all 2048 53248 = true := by decide +kernel
theorem ctq_27 : ct_all 2048 55296 = true := by decide +kernel
theorem ctq_28 : ct_all 2048 57344 = true := by decide +kernel
theorem ctq_29 : ct_all 2048 59392 = true := by decide +kernel
theorem ctq_30 : ct_all 2048 61440 = true := by decide +kernel
theorem ctq_31 : ct_all 2048 63488 = true := by decide +kernel
theorem ct_at : ∀ q, q < 32 → ct_all 2048 (2048 * q) = true := fun q hq => match q, hq with
  | 0, _ => ctq_0
  | 1, _ => ctq_1
  | 2, _ => ctq_2
  | 3, _ => ctq_3
  | 4, _ => ctq_4
  | 5, _ => ctq_5
  | 6, _ => ctq_6
  | 7, _ => ctq_7
  | 8, _ => ctq_8
  | 9, _ => ctq_9
  | 10, _ => ctq_10
  | 11, _ => ctq_11
  | 12, _ => ctq_12
  | 13, _ => ctq_13
  | 14, _ => ctq_14
  | 15, _ => ctq_15
  | 16, _ => ctq_16
  | 17, _ => ctq_17
  | 18, _ => ctq_18
  | 19, _ => ctq_19
  | 20, _ => ctq_20
  | 21, _ => ctq_21
  | 22, _ => ctq_22
  | 23, _ => ctq_23
  | 24, _ => ctq_24
  | 25, _ => ctq_25
  | 26, _ => ctq_26
  | 27, _ => ctq_27
  | 28, _ => ctq_28
  | 29, _ => ctq_29
  | 30, _ => ctq_30
  | 31, _ => ctq_31
  | j + 32, h => absurd h (by omega)
theorem ct_ok {m : Nat} (h : m < 65536) : ct_1 (F_J6_bitCount (ii m)) (pcF m) = true ∧ ct_1 (F_J6_numberOfTrailingZeros (ii m)) (lwF 16 0 m) = true :=
  ct_of 2048 (2048 * (m / 2048)) (ct_at (m / 2048) (by omega)) m (by omega) (by omega)
