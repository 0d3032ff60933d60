/-! THE PLAIN LAW: orders counted -/
set_option maxRecDepth 100000
/-- sums -/
def sm (F : Nat → Nat) : Nat → Nat
  | 0 => 0
  | r + 1 => sm F r + F r
theorem sm_add (F G : Nat → Nat) : ∀ r, sm (fun p => F p + G p) r = sm F r + sm G r
  | 0 => rfl
  | r + 1 => by
    show sm (fun p => F p + G p) r + (F r + G r) = (sm F r + F r) + (sm G r + G r)
    rw [sm_add F G r]
    omega
theorem sm_0 : ∀ r, sm (fun _ => 0) r = 0
  | 0 => rfl
  | r + 1 => by
    show sm (fun _ => 0) r + 0 = 0
    rw [sm_0 r]
theorem sm_swap (F : Nat → Nat → Nat) : ∀ r s, sm (fun p => sm (F p) s) r = sm (fun q => sm (fun p => F p q) r) s
  | 0, s => (sm_0 s).symm
  | r + 1, s => by
    show sm (fun p => sm (F p) s) r + sm (F r) s = _
    rw [sm_swap F r s, ← sm_add]
    rfl
theorem sm_cong {F G : Nat → Nat} : ∀ {r : Nat}, (∀ p, p < r → F p = G p) → sm F r = sm G r
  | 0, _ => rfl
  | r + 1, h => by
    show sm F r + F r = sm G r + G r
    rw [sm_cong fun p hp => h p (by omega), h r (by omega)]
theorem sm_if (c : Prop) [Decidable c] (F : Nat → Nat) (r : Nat) : (if c then sm F r else 0) = sm (fun q => if c then F q else 0) r := by
  by_cases h : c
  · rw [if_pos h]
    exact sm_cong fun p _ => by rw [if_pos h]
  · rw [if_neg h]
    refine (sm_0 r).symm.trans ?_
    exact sm_cong fun p _ => (if_neg h).symm
theorem sm_le {F : Nat → Nat} {X : Int32} {B : Nat} : ∀ {r : Nat}, (∀ p, p < r → F p ≤ (hb X p).toNat * B) → sm F r ≤ pcN X r * B
  | 0, _ => by show 0 ≤ _; omega
  | r + 1, h => by
    show sm F r + F r ≤ (pcN X r + (hb X r).toNat) * B
    rw [Nat.add_mul]
    exact Nat.add_le_add (sm_le fun p hp => h p (by omega)) (h r (by omega))
theorem sm_pos {F : Nat → Nat} : ∀ {r : Nat}, sm F r ≠ 0 → ∃ p, p < r ∧ F p ≠ 0
  | 0, h => absurd rfl h
  | r + 1, h => by
    by_cases c : F r = 0
    · have h : sm F r + F r ≠ 0 := h
      obtain ⟨p, h1, h2⟩ := sm_pos (F := F) (r := r) (by omega)
      exact ⟨p, by omega, h2⟩
    · exact ⟨r, by omega, c⟩
theorem pos_sm {F : Nat → Nat} {p : Nat} (hF : F p ≠ 0) : ∀ {r : Nat}, p < r → sm F r ≠ 0
  | 0, h => absurd h (by omega)
  | r + 1, h => by
    show sm F r + F r ≠ 0
    by_cases c : p = r
    · subst c; omega
    · have := pos_sm hF (r := r) (by omega)
      omega
/-- may p go in when those of S are in -/
def okp (A : Int32) (N : Nat → Int32) (S : Int32) (p : Nat) : Bool := hb A p && (!hb S p && decide (N p &&& (S ^^^ (-1)) ≠ 0))
def P (A : Int32) (N : Nat → Int32) : Nat → Int32 → Int32 → Nat
  | 0, S, T => if S = T then 1 else 0
  | k + 1, S, T => sm (fun p => if okp A N S p = true then P A N k (S ||| bt p) T else 0) 16
theorem hb_out {S : Int32} {p k : Nat} (hp : p < 32) : hb (S &&& (bt p ^^^ (-1))) k = (hb S k && !decide (k = p)) := by
  rw [hb_and, hb_not, hb_bt hp]
  by_cases h32 : k < 32
  · simp [h32]
  · rw [hb_ge (s := S) (by omega)]; simp
theorem out_or {T : Int32} {p : Nat} (hp : p < 32) (h : hb T p = true) : (T &&& (bt p ^^^ (-1))) ||| bt p = T := hb_ext fun k _ => by
  rw [hb_or, hb_out hp, hb_bt hp]
  by_cases c : k = p
  · subst c; simp [h]
  · simp [c]
def lst (A : Int32) (N : Nat → Int32) (T : Int32) (p : Nat) : Bool := hb T p && okp A N (T &&& (bt p ^^^ (-1))) p
theorem P_last {A : Int32} {N : Nat → Int32} : ∀ (k : Nat) (S T : Int32), P A N (k + 1) S T = sm (fun p => if lst A N T p = true then P A N k S (T &&& (bt p ^^^ (-1))) else 0) 16
  | 0, S, T => by
    refine sm_cong fun p hp => ?_
    show (if okp A N S p = true then (if S ||| bt p = T then 1 else 0) else 0) = (if lst A N T p = true then (if S = T &&& (bt p ^^^ (-1)) then 1 else 0) else 0)
    by_cases h : okp A N S p = true ∧ S ||| bt p = T
    · obtain ⟨h1, h2⟩ := h
      have hs : hb S p = false := by
        unfold okp at h1
        cases c : hb S p with
        | false => rfl
        | true => rw [c] at h1; simp at h1
      have e : T &&& (bt p ^^^ (-1)) = S := by rw [← h2]; exact or_out (by omega) hs
      have ht : hb T p = true := by rw [← h2, hb_or, hb_bt (by omega)]; simp
      unfold lst
      rw [if_pos h1, if_pos h2, e, ht, h1]
      simp
    · have e1 : (if okp A N S p = true then (if S ||| bt p = T then 1 else 0) else 0) = 0 := by
        by_cases c : okp A N S p = true
        · rw [if_pos c, if_neg (fun e => h ⟨c, e⟩)]
        · rw [if_neg c]
      rw [e1]
      by_cases c : lst A N T p = true
      · rw [if_pos c]
        by_cases c2 : S = T &&& (bt p ^^^ (-1))
        · exfalso
          unfold lst at c
          rw [Bool.and_eq_true] at c
          refine h ⟨by rw [c2]; exact c.2, ?_⟩
          rw [c2]
          exact out_or (by omega) c.1
        · rw [if_neg c2]
      · rw [if_neg c]
  | k + 1, S, T => by
    show sm (fun p => if okp A N S p = true then P A N (k + 1) (S ||| bt p) T else 0) 16 = _
    have e1 : ∀ p, p < 16 → (if okp A N S p = true then P A N (k + 1) (S ||| bt p) T else 0) = sm (fun q => if okp A N S p = true then (if lst A N T q = true then P A N k (S ||| bt p) (T &&& (bt q ^^^ (-1))) else 0) else 0) 16 := fun p _ => by
      rw [P_last k (S ||| bt p) T, sm_if]
    rw [sm_cong e1, sm_swap]
    refine sm_cong fun q _ => ?_
    show sm (fun p => if okp A N S p = true then (if lst A N T q = true then P A N k (S ||| bt p) (T &&& (bt q ^^^ (-1))) else 0) else 0) 16 = (if lst A N T q = true then sm (fun p => if okp A N S p = true then P A N k (S ||| bt p) (T &&& (bt q ^^^ (-1))) else 0) 16 else 0)
    rw [sm_if]
    refine sm_cong fun p _ => ?_
    by_cases a : okp A N S p = true <;> by_cases b : lst A N T q = true <;> simp only [a, b, ↓reduceIte] <;> rfl
def fct : Nat → Nat
  | 0 => 1
  | k + 1 => (k + 1) * fct k
theorem fct_mono : ∀ k, fct k ≤ fct (k + 1) := fun k => Nat.le_mul_of_pos_left _ (by omega)
theorem fct16 : ∀ {k}, k ≤ 16 → fct k < 9223372036854775808 := by
  have : ∀ k, k < 17 → fct k < 9223372036854775808 := by decide
  exact fun {k} h => this k (by omega)
theorem P_le {A : Int32} {N : Nat → Int32} : ∀ (k : Nat) (S T : Int32), pc (A &&& (S ^^^ (-1))) ≤ k → P A N k S T ≤ fct k
  | 0, S, T, _ => by
    show (if S = T then 1 else 0) ≤ 1
    split <;> omega
  | k + 1, S, T, h => by
    show sm (fun p => if okp A N S p = true then P A N k (S ||| bt p) T else 0) 16 ≤ (k + 1) * fct k
    refine Nat.le_trans (sm_le (X := A &&& (S ^^^ (-1))) (B := fct k) fun p hp => ?_) (Nat.mul_le_mul_right _ h)
    by_cases c : okp A N S p = true
    · have c' := c
      unfold okp at c
      rw [Bool.and_eq_true, Bool.and_eq_true] at c
      have e : hb (A &&& (S ^^^ (-1))) p = true := by
        rw [hb_and, hb_not, c.1, c.2.1]
        simp
        omega
      rw [if_pos c', e]
      show _ ≤ 1 * fct k
      rw [Nat.one_mul]
      refine P_le k _ _ ?_
      have := pc_out hp e
      have e2 : A &&& ((S ||| bt p) ^^^ (-1)) = (A &&& (S ^^^ (-1))) &&& (bt p ^^^ (-1)) := hb_ext fun q hq => by
        rw [hb_and, hb_not, hb_or, hb_and, hb_and, hb_not, hb_not]
        cases hb A q <;> cases hb S q <;> cases hb (bt p) q <;> simp [hq]
      rw [e2]
      omega
    · rw [if_neg c]
      exact Nat.zero_le _
theorem P_pc {A : Int32} {N : Nat → Int32} : ∀ (k : Nat) {S T : Int32}, P A N k S T ≠ 0 → pc T = pc S + k
  | 0, S, T, h => by
    by_cases c : S = T
    · rw [c]; rfl
    · exact absurd (if_neg c) h
  | k + 1, S, T, h => by
    obtain ⟨p, h1, h2⟩ := sm_pos h
    by_cases c : okp A N S p = true
    · have h2 : (if okp A N S p = true then P A N k (S ||| bt p) T else 0) ≠ 0 := h2
      rw [if_pos c] at h2
      have h3 := P_pc k h2
      unfold okp at c
      rw [Bool.and_eq_true, Bool.and_eq_true] at c
      have hs : hb S p = false := by cases d : hb S p with
        | false => rfl
        | true => rw [d] at c; cases c.2.1
      have := pc_out (A := S ||| bt p) h1 (by rw [hb_or, hb_bt (by omega)]; simp)
      rw [or_out (by omega) hs] at this
      omega
    · exact absurd (if_neg c) h2
/-- sets as numbers -/
def sn (s : Int32) : Nat := s.toBitVec.toNat
theorem sn_ii {m : Nat} (h : m < 65536) : sn (ii m) = m := by
  show (BitVec.ofNat 32 m).toNat = m
  rw [BitVec.toNat_ofNat]
  exact Nat.mod_eq_of_lt (by omega)
theorem ii_sn (s : Int32) : ii (sn s) = s := hb_ext fun k hk => by
  rw [hb_ii hk]
  rfl
theorem sn_lt {s : Int32} (h : s16 s) : sn s < 65536 := Nat.lt_pow_two_of_testBit (n := 16) _ fun j hj => h j hj
theorem sn_inj {s t : Int32} (h : sn s = sn t) : s = t := by rw [← ii_sn s, ← ii_sn t, h]
theorem sn_le {s t : Int32} (hs : s16 s) (h : sub s t) : sn s ≤ sn t := by
  refine sub_le ?_ (sn_lt hs)
  rw [ii_sn, ii_sn]
  exact and_not0.mpr h
theorem sn_lt2 {s t : Int32} (hs : s16 s) (h : sub s t) (hne : s ≠ t) : sn s < sn t := by
  have := sn_le hs h
  have : sn s ≠ sn t := fun e => hne (sn_inj e)
  omega
theorem sub16 {s t : Int32} (h : sub s t) (ht : s16 t) : s16 s := fun k hk => by
  cases e : hb s k with
  | false => rfl
  | true =>
    have := h k e
    rw [ht k hk] at this
    cases this
