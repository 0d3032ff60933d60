/-! THE PLAIN LAW: calls -/
set_option maxRecDepth 100000
def ad (a b : Nat) : Nat := if a < b then b - a else a - b
def mnN (a b : Nat) : Nat := if b < a then b else a
section
variable (n : Nat) (h d : Nat → Nat) (f : Nat) (o : Nat → Nat)
/-- called at all of S, last at l, at t -/
def Pt : Nat → Int32 → Nat → Nat → Prop
  | 0, S, l, t => l < n ∧ S = bt l ∧ t = ad (h l) f ∧ t ≤ d l
  | k + 1, S, l, t => l < n ∧ ∃ S' k' t', Pt k S' k' t' ∧ hb S' l = false ∧ S = S' ||| bt l ∧ t = t' + ad (h l) (h k') ∧ t ≤ d l
/-- the component's -/
def inT (v a : Nat) : Nat := if d (o a) < v then 268435456 else v
def LR : Nat → Nat → Nat × Nat
  | 0, i => (inT d o (ad (h (o i)) f) i, inT d o (ad (h (o i)) f) i)
  | s + 1, i => (inT d o (mnN ((LR s (i + 1)).1 + h (o (i + 1)) - h (o i)) ((LR s (i + 1)).2 + h (o (i + s + 1)) - h (o i))) i, inT d o (mnN ((LR s i).2 + h (o (i + s + 1)) - h (o (i + s))) ((LR s i).1 + h (o (i + s + 1)) - h (o i))) (i + s + 1))
/-- sorted -/
def srt : Prop := (∀ a b, a ≤ b → b < n → h (o a) ≤ h (o b)) ∧ (∀ l, l < n → ∃ a, a < n ∧ o a = l) ∧ (∀ a b, a < n → b < n → o a = o b → a = b) ∧ (∀ a, a < n → o a < n)
end
section
variable {n : Nat} {h d : Nat → Nat} {f : Nat} {o : Nat → Nat}
theorem inT_le {v a t : Nat} (h1 : v ≤ t) (h2 : t ≤ d (o a)) : inT d o v a ≤ t := by
  unfold inT
  rw [if_neg (by omega)]
  exact h1
theorem mnN_l {a b : Nat} : mnN a b ≤ a := by unfold mnN; split <;> omega
theorem mnN_r {a b : Nat} : mnN a b ≤ b := by unfold mnN; split <;> omega
theorem mnN_or {a b : Nat} : mnN a b = a ∨ mnN a b = b := by unfold mnN; split <;> simp
theorem ext_l {w i α t : Nat} (S : srt n h o) (hn : i + w < n) (hα : α < i) (hb1 : mnN ((LR h d f o w i).1 + h (o i) - h (o α)) ((LR h d f o w i).2 + h (o (i + w)) - h (o α)) ≤ t) (hd : ∀ b, α ≤ b → b < i → t ≤ d (o b)) : ∀ (e s : Nat), s + (e + 1) = i → α ≤ s → (LR h d f o (w + e + 1) s).1 + (h (o s) - h (o α)) ≤ t
  | 0, s, h1, h2 => by
    subst h1
    have a1 := S.1 α s h2 (by omega)
    have a2 := S.1 s (s + 1) (by omega) (by omega)
    have a3 := S.1 (s + 1) (s + 1 + w) (by omega) (by omega)
    show inT d o (mnN ((LR h d f o w (s + 1)).1 + h (o (s + 1)) - h (o s)) ((LR h d f o w (s + 1)).2 + h (o (s + w + 1)) - h (o s))) s + _ ≤ t
    have e1 : s + w + 1 = s + 1 + w := by omega
    rw [e1]
    have hb1 : mnN ((LR h d f o w (s + 1)).1 + h (o (s + 1)) - h (o α)) ((LR h d f o w (s + 1)).2 + h (o (s + 1 + w)) - h (o α)) ≤ t := hb1
    have hv : mnN ((LR h d f o w (s + 1)).1 + h (o (s + 1)) - h (o s)) ((LR h d f o w (s + 1)).2 + h (o (s + 1 + w)) - h (o s)) + (h (o s) - h (o α)) ≤ t := by
      unfold mnN at hb1 ⊢
      split at hb1 <;> split <;> omega
    have := inT_le (d := d) (o := o) (a := s) (v := mnN ((LR h d f o w (s + 1)).1 + h (o (s + 1)) - h (o s)) ((LR h d f o w (s + 1)).2 + h (o (s + 1 + w)) - h (o s))) (t := t - (h (o s) - h (o α))) (by omega) (by have := hd s h2 (by omega); omega)
    omega
  | e + 1, s, h1, h2 => by
    have ih := ext_l S hn hα hb1 hd e (s + 1) (by omega) (by omega)
    have a1 := S.1 α s h2 (by omega)
    have a2 := S.1 s (s + 1) (by omega) (by omega)
    show inT d o (mnN ((LR h d f o (w + e + 1) (s + 1)).1 + h (o (s + 1)) - h (o s)) ((LR h d f o (w + e + 1) (s + 1)).2 + h (o (s + (w + e + 1) + 1)) - h (o s))) s + _ ≤ t
    have hv := mnN_l (a := (LR h d f o (w + e + 1) (s + 1)).1 + h (o (s + 1)) - h (o s)) (b := (LR h d f o (w + e + 1) (s + 1)).2 + h (o (s + (w + e + 1) + 1)) - h (o s))
    have := inT_le (d := d) (o := o) (a := s) (v := mnN ((LR h d f o (w + e + 1) (s + 1)).1 + h (o (s + 1)) - h (o s)) ((LR h d f o (w + e + 1) (s + 1)).2 + h (o (s + (w + e + 1) + 1)) - h (o s))) (t := t - (h (o s) - h (o α))) (by omega) (by have := hd s h2 (by omega); omega)
    omega
theorem ext_r {w i α t : Nat} (S : srt n h o) (hn : α < n) (hα : i + w < α) (hb1 : mnN ((LR h d f o w i).2 + h (o α) - h (o (i + w))) ((LR h d f o w i).1 + h (o α) - h (o i)) ≤ t) (hd : ∀ b, i + w < b → b ≤ α → t ≤ d (o b)) : ∀ (e : Nat), i + w + e + 1 ≤ α → (LR h d f o (w + e + 1) i).2 + (h (o α) - h (o (i + w + e + 1))) ≤ t
  | 0, h2 => by
    have a1 := S.1 (i + w + 1) α h2 (by omega)
    have a2 := S.1 (i + w) (i + w + 1) (by omega) (by omega)
    have a3 := S.1 i (i + w) (by omega) (by omega)
    show inT d o (mnN ((LR h d f o w i).2 + h (o (i + w + 1)) - h (o (i + w))) ((LR h d f o w i).1 + h (o (i + w + 1)) - h (o i))) (i + w + 1) + (h (o α) - h (o (i + w + 1))) ≤ t
    have hv : mnN ((LR h d f o w i).2 + h (o (i + w + 1)) - h (o (i + w))) ((LR h d f o w i).1 + h (o (i + w + 1)) - h (o i)) + (h (o α) - h (o (i + w + 1))) ≤ t := by
      unfold mnN at hb1 ⊢
      split at hb1 <;> split <;> omega
    have := inT_le (d := d) (o := o) (a := i + w + 1) (v := mnN ((LR h d f o w i).2 + h (o (i + w + 1)) - h (o (i + w))) ((LR h d f o w i).1 + h (o (i + w + 1)) - h (o i))) (t := t - (h (o α) - h (o (i + w + 1)))) (by omega) (by have := hd (i + w + 1) (by omega) h2; omega)
    omega
  | e + 1, h2 => by
    have ih := ext_r S hn hα hb1 hd e (by omega)
    have e1 : i + (w + e + 1) = i + w + e + 1 := by omega
    have a1 := S.1 (i + w + e + 1 + 1) α (by omega) (by omega)
    have a2 := S.1 (i + w + e + 1) (i + w + e + 1 + 1) (by omega) (by omega)
    show inT d o (mnN ((LR h d f o (w + e + 1) i).2 + h (o (i + (w + e + 1) + 1)) - h (o (i + (w + e + 1)))) ((LR h d f o (w + e + 1) i).1 + h (o (i + (w + e + 1) + 1)) - h (o i))) (i + (w + e + 1) + 1) + (h (o α) - h (o (i + w + (e + 1) + 1))) ≤ t
    rw [e1, show i + w + (e + 1) + 1 = i + w + e + 1 + 1 by omega]
    have hv := mnN_l (a := (LR h d f o (w + e + 1) i).2 + h (o (i + w + e + 1 + 1)) - h (o (i + w + e + 1))) (b := (LR h d f o (w + e + 1) i).1 + h (o (i + w + e + 1 + 1)) - h (o i))
    have := inT_le (d := d) (o := o) (a := i + w + e + 1 + 1) (v := mnN ((LR h d f o (w + e + 1) i).2 + h (o (i + w + e + 1 + 1)) - h (o (i + w + e + 1))) ((LR h d f o (w + e + 1) i).1 + h (o (i + w + e + 1 + 1)) - h (o i))) (t := t - (h (o α) - h (o (i + w + e + 1 + 1)))) (by omega) (by have := hd (i + w + e + 1 + 1) (by omega) (by omega); omega)
    omega
/-- no way is shorter than the component's -/
theorem Pt_LR (S0 : srt n h o) (h8 : n ≤ 8) : ∀ (k : Nat) (S : Int32) (l t : Nat), Pt n h d f k S l t → (∀ b, b < n → hb S b = false → t ≤ d b) → ∃ i w κ, i ≤ κ ∧ κ ≤ i + w ∧ i + w < n ∧ o κ = l ∧ (∀ a, a < n → hb S (o a) = true → i ≤ a ∧ a ≤ i + w) ∧ ((LR h d f o w i).1 + (h (o κ) - h (o i)) ≤ t ∨ (LR h d f o w i).2 + (h (o (i + w)) - h (o κ)) ≤ t)
  | 0, S, l, t, ⟨h1, h2, h3, h4⟩, _ => by
    obtain ⟨α, α1, α2⟩ := S0.2.1 l h1
    refine ⟨α, 0, α, Nat.le_refl _, Nat.le_refl _, α1, α2, fun a ha hS => ?_, Or.inl ?_⟩
    · rw [h2, hb_bt (by omega)] at hS
      have := S0.2.2.1 a α ha α1 (by rw [α2]; exact of_decide_eq_true hS)
      omega
    · show inT d o (ad (h (o α)) f) α + _ ≤ t
      rw [Nat.sub_self, Nat.add_zero, α2]
      exact inT_le (by omega) (by rw [α2]; exact h4)
  | k + 1, S, l, t, ⟨h1, S', k', t', p1, p2, p3, p4, p5⟩, hd => by
    obtain ⟨α, α1, α2⟩ := S0.2.1 l h1
    have hS : ∀ b, hb S b = (hb S' b || decide (b = l)) := fun b => by rw [p3, hb_or, hb_bt (by omega)]
    obtain ⟨i, w, κ, q1, q2, q3, q4, q5, q6⟩ := Pt_LR S0 h8 k S' k' t' p1 (fun b hb1 hb2 => by
      by_cases e : b = l
      · rw [e]; omega
      · have := hd b hb1 (by rw [hS, hb2, decide_eq_false e]; rfl)
        omega)
    rw [← α2, ← q4] at p4
    have iκ := S0.1 i κ q1 (by omega)
    have κj := S0.1 κ (i + w) q2 q3
    have hd2 : ∀ b, b < n → ¬ (i ≤ b ∧ b ≤ i + w) → t ≤ d (o b) := fun b hb1 hn => by
      by_cases e : b = α
      · rw [e, α2]; exact p5
      · refine hd (o b) (S0.2.2.2 b hb1) ?_
        rw [hS]
        have e2 : o b ≠ l := fun x => e (S0.2.2.1 b α hb1 α1 (by rw [α2]; exact x))
        rw [decide_eq_false e2, Bool.or_false]
        cases c : hb S' (o b) with
        | false => rfl
        | true => exact absurd (q5 b hb1 c) hn
    by_cases c1 : α < i
    · have αi := S0.1 α i (by omega) (by omega)
      have e1 : ad (h (o α)) (h (o κ)) = h (o κ) - h (o α) := by unfold ad; split <;> omega
      have hb1 : mnN ((LR h d f o w i).1 + h (o i) - h (o α)) ((LR h d f o w i).2 + h (o (i + w)) - h (o α)) ≤ t := by
        rcases q6 with q6 | q6
        · exact Nat.le_trans mnN_l (by omega)
        · exact Nat.le_trans mnN_r (by omega)
      have := ext_l (d := d) (f := f) S0 q3 c1 hb1 (fun b b1 b2 => hd2 b (by omega) (by omega)) (i - α - 1) α (by omega) (Nat.le_refl _)
      refine ⟨α, w + (i - α - 1) + 1, α, Nat.le_refl _, by omega, by omega, α2, fun a ha hs => ?_, Or.inl this⟩
      rw [hS, Bool.or_eq_true] at hs
      rcases hs with hs | hs
      · have := q5 a ha hs
        omega
      · have := S0.2.2.1 a α ha α1 (by rw [α2]; exact of_decide_eq_true hs)
        omega
    · by_cases c2 : i + w < α
      · have jα := S0.1 (i + w) α (by omega) (by omega)
        have e1 : ad (h (o α)) (h (o κ)) = h (o α) - h (o κ) := by unfold ad; split <;> omega
        have hb1 : mnN ((LR h d f o w i).2 + h (o α) - h (o (i + w))) ((LR h d f o w i).1 + h (o α) - h (o i)) ≤ t := by
          rcases q6 with q6 | q6
          · exact Nat.le_trans mnN_r (by omega)
          · exact Nat.le_trans mnN_l (by omega)
        have := ext_r (d := d) (f := f) S0 α1 c2 hb1 (fun b b1 b2 => hd2 b (by omega) (by omega)) (α - (i + w) - 1) (by omega)
        rw [show i + w + (α - (i + w) - 1) + 1 = α by omega] at this
        refine ⟨i, w + (α - (i + w) - 1) + 1, α, by omega, by omega, by omega, α2, fun a ha hs => ?_, Or.inr ?_⟩
        · rw [hS, Bool.or_eq_true] at hs
          rcases hs with hs | hs
          · have := q5 a ha hs
            omega
          · have := S0.2.2.1 a α ha α1 (by rw [α2]; exact of_decide_eq_true hs)
            omega
        · rw [show i + (w + (α - (i + w) - 1) + 1) = α by omega]
          exact this
      · have iα := S0.1 i α (by omega) (by omega)
        have αj := S0.1 α (i + w) (by omega) q3
        refine ⟨i, w, α, by omega, by omega, q3, α2, fun a ha hs => ?_, ?_⟩
        · rw [hS, Bool.or_eq_true] at hs
          rcases hs with hs | hs
          · exact q5 a ha hs
          · have := S0.2.2.1 a α ha α1 (by rw [α2]; exact of_decide_eq_true hs)
            omega
        · unfold ad at p4
          rcases q6 with q6 | q6
          · left
            split at p4 <;> omega
          · right
            split at p4 <;> omega
end
