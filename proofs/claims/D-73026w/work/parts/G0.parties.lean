/-! THE PLAIN LAW: parties -/
set_option maxRecDepth 100000
def updN (c : Nat → Nat) (p v : Nat) : Nat → Nat := fun j => if j = p then v else c j
def okc (f : Int32) (c : Nat → Nat) (p k : Nat) : Bool := !(anyb (fun q => hb f q && decide (c q = k)) p)
def tk {α : Type} (g : Nat → Option α) : Nat → Nat → Option α
  | 0, _ => none
  | r + 1, k => match g k with
    | some a => some a
    | none => tk g r (k + 1)
def mxN (a b : Nat) : Nat := if a < b then b else a
def lim (M u : Nat) : Nat := if M < u + 1 then M else u + 1
def srch (t : Int32) (f : Nat → Int32) (M : Nat) : Nat → Nat → Nat → (Nat → Nat) → Option (Nat → Nat)
  | 0, _, _, c => some c
  | d + 1, p, u, c => if hb t p = true then tk (fun k => if okc (f p) c p k = true then srch t f M d (p + 1) (mxN u (k + 1)) (updN c p k) else none) (lim M u) 0 else srch t f M d (p + 1) u c
/-- how many are used by those before p -/
def us (t : Int32) (c : Nat → Nat) : Nat → Nat
  | 0 => 0
  | q + 1 => if hb t q = true then mxN (us t c q) (c q + 1) else us t c q
theorem us_cong {t : Int32} {c e : Nat → Nat} : ∀ {p : Nat}, (∀ q, q < p → hb t q = true → c q = e q) → us t c p = us t e p
  | 0, _ => rfl
  | p + 1, h => by
    have ih := us_cong (t := t) (c := c) (e := e) (p := p) fun q hq => h q (by omega)
    show (if hb t p = true then mxN (us t c p) (c p + 1) else us t c p) = (if hb t p = true then mxN (us t e p) (e p + 1) else us t e p)
    rw [ih]
    by_cases a : hb t p = true
    · rw [if_pos a, if_pos a, h p (by omega) a]
    · rw [if_neg a, if_neg a]
theorem us_upd {t : Int32} {c : Nat → Nat} {p k : Nat} (h : hb t p = true) : us t (updN c p k) (p + 1) = mxN (us t c p) (k + 1) := by
  show (if hb t p = true then mxN (us t (updN c p k) p) (updN c p k p + 1) else us t (updN c p k) p) = _
  rw [if_pos h, us_cong (c := updN c p k) (e := c) fun q hq _ => if_neg (by omega)]
  show mxN _ ((if p = p then k else c p) + 1) = _
  rw [if_pos rfl]
theorem us_le {t : Int32} {c : Nat → Nat} : ∀ {p : Nat}, p ≤ 16 → (∀ q, q < p → hb t q = true → c q < 16) → us t c p ≤ 16
  | 0, _, _ => Nat.zero_le _
  | p + 1, hp, h => by
    have ih := us_le (t := t) (c := c) (p := p) (by omega) fun q hq => h q (by omega)
    show (if hb t p = true then mxN (us t c p) (c p + 1) else us t c p) ≤ 16
    split
    · next a =>
      have := h p (by omega) a
      unfold mxN
      split <;> omega
    · exact ih
theorem us_up {t : Int32} {c : Nat → Nat} : ∀ {p q : Nat}, q < p → hb t q = true → c q < us t c p
  | 0, q, h, _ => absurd h (by omega)
  | p + 1, q, h, hq => by
    show c q < (if hb t p = true then mxN (us t c p) (c p + 1) else us t c p)
    by_cases e : q = p
    · subst e
      rw [if_pos hq]
      unfold mxN
      split <;> omega
    · have := us_up (c := c) (p := p) (q := q) (by omega) hq
      split
      · unfold mxN
        split <;> omega
      · exact this
theorem us_id {t : Int32} {c : Nat → Nat} : ∀ {p : Nat}, us t c p ≤ p → True := fun _ => trivial
theorem tk_n {α : Type} {g : Nat → Option α} {r k : Nat} (h : g k = none) : tk g (r + 1) k = tk g r (k + 1) := by
  rw [tk, h]
theorem tk_y {α : Type} {g : Nat → Option α} {r k : Nat} {a : α} (h : g k = some a) : tk g (r + 1) k = some a := by
  rw [tk, h]
theorem tk_some {α : Type} {g : Nat → Option α} : ∀ (r k j : Nat), k ≤ j → j < k + r → g j ≠ none → tk g r k ≠ none
  | 0, k, j, h1, h2, _ => absurd h2 (by omega)
  | r + 1, k, j, h1, h2, h3 => by
    unfold tk
    cases e : g k with
    | some a => exact fun x => nomatch x
    | none =>
      have : j ≠ k := fun x => by rw [x] at h3; exact h3 e
      exact tk_some r (k + 1) j (by omega) (by omega) h3
theorem tk_skip {α : Type} {g : Nat → Option α} : ∀ (s r k : Nat), (∀ j, k ≤ j → j < k + s → g j = none) → tk g (s + r) k = tk g r (k + s)
  | 0, r, k, _ => by rw [Nat.zero_add]; rfl
  | s + 1, r, k, h => by
    rw [show s + 1 + r = (s + r) + 1 by omega, show k + (s + 1) = k + 1 + s by omega]
    show (match g k with | some a => some a | none => tk g (s + r) (k + 1)) = _
    rw [h k (Nat.le_refl _) (by omega)]
    exact tk_skip s r (k + 1) fun j h1 h2 => h j (by omega) (by omega)
theorem tk_none {α : Type} {g : Nat → Option α} {r k : Nat} (h : ∀ j, k ≤ j → j < k + r → g j = none) : tk g r k = none := by
  have := tk_skip (g := g) r 0 k h
  rw [Nat.add_zero] at this
  exact this
theorem mxN_le {a b c : Nat} (h1 : a ≤ c) (h2 : b ≤ c) : mxN a b ≤ c := by
  unfold mxN
  split <;> omega
/-- sixteen will do -/
theorem srch_16 {t : Int32} {f : Nat → Int32} (hf : ∀ p q, p < 16 → hb (f p) q = true → hb t q = true) : ∀ (d p : Nat) (c : Nat → Nat), p + d = 16 → us t c p ≤ p → srch t f 16 d p (us t c p) c ≠ none
  | 0, _, _, _, _ => fun h => nomatch h
  | d + 1, p, c, h1, h2 => by
    unfold srch
    by_cases a : hb t p = true
    · rw [if_pos a]
      refine tk_some (lim 16 (us t c p)) 0 (us t c p) (Nat.zero_le _) (by unfold lim; split <;> omega) ?_
      have ho : okc (f p) c p (us t c p) = true := by
        unfold okc
        rw [Bool.not_eq_true']
        refine Bool.eq_false_iff.mpr fun e => ?_
        obtain ⟨q, q1, q2⟩ := anyb_i.mp e
        rw [Bool.and_eq_true] at q2
        have := us_up (c := c) q1 (hf p q (by omega) q2.1)
        have := of_decide_eq_true q2.2
        omega
      rw [if_pos ho, ← us_upd a]
      refine srch_16 hf d (p + 1) (updN c p (us t c p)) (by omega) ?_
      rw [us_upd a]
      exact mxN_le (by omega) (by omega)
    · rw [if_neg a]
      have e : us t c (p + 1) = us t c p := if_neg a
      rw [← e]
      exact srch_16 hf d (p + 1) c (by omega) (by omega)
