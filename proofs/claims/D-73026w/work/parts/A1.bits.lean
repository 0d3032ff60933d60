/-! THE PLAIN LAW (1): sets of people as ints, loops -/
set_option maxRecDepth 100000
def hb (s : Int32) (k : Nat) : Bool := s.toBitVec.getLsbD k
theorem hb_ge {s : Int32} {k : Nat} (h : 32 ≤ k) : hb s k = false := BitVec.getLsbD_of_ge _ _ h
theorem hb_ext {a b : Int32} (h : ∀ k, k < 32 → hb a k = hb b k) : a = b := Int32.toBitVec_inj.mp (BitVec.eq_of_getLsbD_eq fun i hi => h i hi)
theorem hb_or (a b : Int32) (k : Nat) : hb (a ||| b) k = (hb a k || hb b k) := by
  unfold hb
  rw [Int32.toBitVec_or, BitVec.getLsbD_or]
theorem hb_and (a b : Int32) (k : Nat) : hb (a &&& b) k = (hb a k && hb b k) := by
  unfold hb
  rw [Int32.toBitVec_and, BitVec.getLsbD_and]
theorem hb_0 (k : Nat) : hb 0 k = false := by
  unfold hb
  exact BitVec.getLsbD_zero
theorem hb_m1 (k : Nat) : hb (-1) k = decide (k < 32) := by
  unfold hb
  show (BitVec.allOnes 32).getLsbD k = _
  exact BitVec.getLsbD_allOnes
theorem hb_xor (a b : Int32) (k : Nat) : hb (a ^^^ b) k = (hb a k ^^ hb b k) := by
  unfold hb
  rw [Int32.toBitVec_xor, BitVec.getLsbD_xor]
theorem hb_not (a : Int32) (k : Nat) : hb (a ^^^ (-1)) k = (decide (k < 32) && !hb a k) := by
  rw [hb_xor, hb_m1]
  by_cases h : k < 32
  · simp [h]
  · rw [hb_ge (Nat.not_lt.mp h)]; simp [h]
theorem hb_ii {m k : Nat} (hk : k < 32) : hb (ii m) k = m.testBit k := by
  unfold hb ii
  show (BitVec.ofNat 32 m).getLsbD k = _
  rw [BitVec.getLsbD_ofNat]
  simp [hk]
/-- one bit -/
def bt (p : Nat) : Int32 := pm_shl 1 (ii p)
theorem bt_eq {p : Nat} (hp : p < 32) : bt p = ii (2 ^ p) := by
  have : ∀ p, p < 32 → bt p = ii (2 ^ p) := by decide
  exact this p hp
theorem hb_bt {p k : Nat} (hp : p < 32) : hb (bt p) k = decide (k = p) := by
  by_cases hk : k < 32
  · rw [bt_eq hp, hb_ii hk, Nat.testBit_two_pow]
    exact decide_eq_decide.mpr ⟨fun h => h.symm, fun h => h.symm⟩
  · rw [hb_ge (Nat.not_lt.mp hk)]
    exact (decide_eq_false (by omega)).symm
theorem sr_1 (v : Int32) : (v &&& 1 = 1) = (hb v 0 = true) := by
  refine propext ⟨fun h => ?_, fun h => ?_⟩
  · have := congrArg (fun q => hb q 0) h
    rw [hb_and] at this
    have h1 : hb 1 0 = true := rfl
    rw [h1, Bool.and_true] at this
    exact this
  · refine hb_ext fun k hk => ?_
    rw [hb_and]
    have h1 : ∀ k, hb 1 k = decide (k = 0) := fun k => (hb_bt (p := 0) (by decide)).symm ▸ rfl
    rw [h1]
    by_cases h0 : k = 0
    · subst h0; rw [h]; rfl
    · simp [h0]
theorem sr_h {s : Int32} {p : Nat} (hp : p < 32) : hb (pm_shr s (ii p)) 0 = hb s p := by
  have e : ∀ p, p < 32 → ((ii p &&& 31).toBitVec.smod 32).toNat = p := by decide
  unfold hb pm_shr
  rw [Int32.toBitVec_shiftRight, BitVec.sshiftRight_eq', e p hp, BitVec.getLsbD_sshiftRight]
  simp [hp]
theorem has_eq {s : Int32} {p : Nat} (hp : p < 32) : (pm_shr s (ii p) &&& 1 = 1) = (hb s p = true) := by rw [sr_1, sr_h hp]
/-- sets of sixteen -/
def s16 (s : Int32) : Prop := ∀ k, 16 ≤ k → hb s k = false
theorem s16_ext {a b : Int32} (ha : s16 a) (hb' : s16 b) (h : ∀ k, k < 16 → hb a k = hb b k) : a = b := hb_ext fun k _ => by
  by_cases hk : k < 16
  · exact h k hk
  · rw [ha k (by omega), hb' k (by omega)]
theorem s16_0 : s16 0 := fun k _ => hb_0 k
theorem s16_or {a b : Int32} (h1 : s16 a) (h2 : s16 b) : s16 (a ||| b) := fun k hk => by rw [hb_or, h1 k hk, h2 k hk]; rfl
theorem s16_al {a b : Int32} (h1 : s16 a) : s16 (a &&& b) := fun k hk => by rw [hb_and, h1 k hk]; rfl
theorem s16_ar {a b : Int32} (h1 : s16 b) : s16 (a &&& b) := fun k hk => by rw [hb_and, h1 k hk, Bool.and_false]
theorem s16_bt {p : Nat} (hp : p < 16) : s16 (bt p) := fun k hk => by rw [hb_bt (by omega)]; exact decide_eq_false (by omega)
theorem s16_ii {s : Int32} (h : s16 s) : ∃ m, m < 65536 ∧ s = ii m := by
  refine ⟨s.toBitVec.toNat, ?_, ?_⟩
  · exact Nat.lt_pow_two_of_testBit (n := 16) _ fun j hj => h j hj
  · refine hb_ext fun k hk => ?_
    rw [hb_ii hk]
    rfl
theorem ii_s16 {m : Nat} (h : m < 65536) : s16 (ii m) := fun k hk => by
  by_cases h2 : k < 32
  · rw [hb_ii h2]
    exact Nat.testBit_lt_two_pow (Nat.lt_of_lt_of_le h (Nat.pow_le_pow_right (n := 2) (i := 16) (by decide) hk))
  · exact hb_ge (by omega)
/-- loops: r rounds from k on -/
def lp {α : Type} (f : Nat → α → α) : Nat → Nat → α → α
  | 0, _, a => a
  | r + 1, k, a => lp f r (k + 1) (f k a)
theorem lp_s {α : Type} (f : Nat → α → α) : ∀ (r k : Nat) (a : α), lp f (r + 1) k a = f (k + r) (lp f r k a)
  | 0, k, a => rfl
  | r + 1, k, a => by
    show lp f (r + 1) (k + 1) (f k a) = _
    rw [lp_s f r (k + 1) (f k a), show k + 1 + r = k + (r + 1) by omega]
    rfl
theorem lp_inv {α : Type} {f : Nat → α → α} {I : Nat → α → Prop} {N : Nat} (hs : ∀ k a, k < N → I k a → I (k + 1) (f k a)) : ∀ (r k : Nat) (a : α), k + r = N → I k a → I N (lp f r k a)
  | 0, k, a, e, h => by cases e; exact h
  | r + 1, k, a, e, h => lp_inv hs r (k + 1) (f k a) (by omega) (hs k a (by omega) h)
theorem lp_cong {α : Type} {f g : Nat → α → α} {N : Nat} (h : ∀ k a, k < N → f k a = g k a) : ∀ (r k : Nat) (a : α), k + r = N → lp f r k a = lp g r k a
  | 0, _, _, _ => rfl
  | r + 1, k, a, e => by
    show lp f r (k + 1) (f k a) = lp g r (k + 1) (g k a)
    rw [h k a (by omega), lp_cong h r (k + 1) _ (by omega)]
/-- a loop of the program that is one: G n k a is the loop's function with fuel n -/
theorem lp_rule {α β : Type} {G : Nat → Nat → α → Option β} {f : Nat → α → α} {N c : Nat} {fin : α → Option β} (I : Nat → α → Prop)
    (step : ∀ n k a, k < N → c ≤ n → I k a → G (n + 1) k a = G n (k + 1) (f k a) ∧ I (k + 1) (f k a)) (stop : ∀ n a, c ≤ n → I N a → G (n + 1) N a = fin a) :
    ∀ (r k n : Nat) (a : α), k + r = N → c + r + 1 ≤ n → I k a → G n k a = fin (lp f r k a) ∧ I N (lp f r k a)
  | 0, k, n, a, e, hn, h => by
    cases e
    obtain ⟨m, rfl⟩ : ∃ m, n = m + 1 := ⟨n - 1, by omega⟩
    exact ⟨stop m a (by omega) h, h⟩
  | r + 1, k, n, a, e, hn, h => by
    obtain ⟨m, rfl⟩ : ∃ m, n = m + 1 := ⟨n - 1, by omega⟩
    obtain ⟨h1, h2⟩ := step m k a (by omega) (by omega) h
    rw [h1]
    exact lp_rule I step stop r (k + 1) m _ (by omega) (by omega) h2
/-- without an invariant -/
theorem lp_r {α β : Type} {G : Nat → Nat → α → Option β} (f : Nat → α → α) {N c : Nat} {fin : α → Option β} (step : ∀ n k a, k < N → c ≤ n → G (n + 1) k a = G n (k + 1) (f k a)) (stop : ∀ n a, c ≤ n → G (n + 1) N a = fin a) {r k n : Nat} {a : α} (e : k + r = N) (hn : c + r + 1 ≤ n) : G n k a = fin (lp f r k a) :=
  (lp_rule (fun _ _ => True) (fun n k a h1 h2 _ => ⟨step n k a h1 h2, trivial⟩) (fun n a h _ => stop n a h) r k n a e hn trivial).1
/-- a loop with a way out: .inl is the way out -/
def le {α β : Type} (f : Nat → α → β ⊕ α) : Nat → Nat → α → β ⊕ α
  | 0, _, a => .inr a
  | r + 1, k, a => match f k a with
    | .inl b => .inl b
    | .inr a => le f r (k + 1) a
theorem le_r {α β γ : Type} {G : Nat → Nat → α → Option γ} (f : Nat → α → β ⊕ α) {N c : Nat} {out : β → Option γ} {fin : α → Option γ} (step : ∀ n k a, k < N → c ≤ n → G (n + 1) k a = po_s (f k a) out (fun a => G n (k + 1) a)) (stop : ∀ n a, c ≤ n → G (n + 1) N a = fin a) :
    ∀ {r k n : Nat} {a : α}, k + r = N → c + r + 1 ≤ n → G n k a = po_s (le f r k a) out fin
  | 0, k, n, a, e, hn => by
    cases e
    obtain ⟨m, rfl⟩ : ∃ m, n = m + 1 := ⟨n - 1, by omega⟩
    exact stop m a (by omega)
  | r + 1, k, n, a, e, hn => by
    obtain ⟨m, rfl⟩ : ∃ m, n = m + 1 := ⟨n - 1, by omega⟩
    rw [step m k a (by omega) (by omega)]
    show _ = po_s (match f k a with | .inl b => Sum.inl b | .inr a => le f r (k + 1) a) out fin
    cases f k a with
    | inl b => rfl
    | inr a => exact le_r f step stop (by omega) (by omega)
