/-! THE PLAIN LAW: calls, both are the shortest -/
set_option maxRecDepth 100000
def Sx (o : Nat → Nat) (r i : Nat) : Int32 := lp (fun a S => S ||| bt (o a)) r i 0
theorem hb_Sx' {o : Nat → Nat} {b : Nat} : ∀ (r i : Nat) (A : Int32), (∀ a, a < i + r → o a < 32) → (hb (lp (fun a S => S ||| bt (o a)) r i A) b = true ↔ hb A b = true ∨ ∃ a, i ≤ a ∧ a < i + r ∧ o a = b)
  | 0, i, A, _ => ⟨Or.inl, fun h => h.elim id fun ⟨a, h1, h2, _⟩ => absurd h1 (by omega)⟩
  | r + 1, i, A, ho => by
    show hb (lp (fun a S => S ||| bt (o a)) r (i + 1) (A ||| bt (o i))) b = true ↔ _
    rw [hb_Sx' r (i + 1) _ (fun a ha => ho a (by omega)), hb_or, Bool.or_eq_true, hb_bt (ho i (by omega))]
    refine ⟨fun h => ?_, fun h => ?_⟩
    · rcases h with (h | h) | ⟨a, h1, h2, h3⟩
      · exact Or.inl h
      · exact Or.inr ⟨i, Nat.le_refl _, by omega, (of_decide_eq_true h).symm⟩
      · exact Or.inr ⟨a, by omega, by omega, h3⟩
    · rcases h with h | ⟨a, h1, h2, h3⟩
      · exact Or.inl (Or.inl h)
      · by_cases e : a = i
        · subst e; exact Or.inl (Or.inr (decide_eq_true h3.symm))
        · exact Or.inr ⟨a, by omega, by omega, h3⟩
theorem hb_Sx {o : Nat → Nat} {b r i : Nat} (ho : ∀ a, a < i + r → o a < 32) : hb (Sx o r i) b = true ↔ ∃ a, i ≤ a ∧ a < i + r ∧ o a = b := by
  unfold Sx
  rw [hb_Sx' r i 0 ho, hb_0]
  exact ⟨fun h => h.elim (fun e => nomatch e) id, Or.inr⟩
section
variable {n : Nat} {h d : Nat → Nat} {f : Nat} {o : Nat → Nat}
theorem inT_lt {v a : Nat} (h1 : inT d o v a < 268435456) : v ≤ d (o a) ∧ inT d o v a = v := by
  unfold inT at h1 ⊢
  split at h1
  · omega
  · next c => exact ⟨by omega, by rw [if_neg c]⟩
theorem LR_Pt (S0 : srt n h o) (h8 : n ≤ 8) (hd : ∀ l, l < n → d l < 256) : ∀ (s i : Nat), i + s < n → ((LR h d f o s i).1 < 268435456 → Pt n h d f s (Sx o (s + 1) i) (o i) (LR h d f o s i).1) ∧ ((LR h d f o s i).2 < 268435456 → Pt n h d f s (Sx o (s + 1) i) (o (i + s)) (LR h d f o s i).2)
  | 0, i, hi => by
    have e : Sx o 1 i = bt (o i) := by
      unfold Sx
      show 0 ||| bt (o i) = _
      exact Int32.zero_or
    have key : inT d o (ad (h (o i)) f) i < 268435456 → Pt n h d f 0 (Sx o 1 i) (o i) (inT d o (ad (h (o i)) f) i) := fun c => by
      obtain ⟨c1, c2⟩ := inT_lt c
      rw [c2]
      exact ⟨S0.2.2.2 i (by omega), e, rfl, c1⟩
    exact ⟨key, key⟩
  | s + 1, i, hi => by
    have o32 : ∀ a, a < n → o a < 32 := fun a ha => by have := S0.2.2.2 a ha; omega
    obtain ⟨A1, A2⟩ := LR_Pt S0 h8 hd s (i + 1) (by omega)
    obtain ⟨B1, B2⟩ := LR_Pt S0 h8 hd s i (by omega)
    have eL : Sx o (s + 1 + 1) i = Sx o (s + 1) (i + 1) ||| bt (o i) := hb_ext fun b _ => Bool.eq_iff_iff.mpr (by
      rw [hb_Sx fun a ha => o32 a (by omega), hb_or, Bool.or_eq_true, hb_Sx fun a ha => o32 a (by omega), hb_bt (o32 i (by omega))]
      refine ⟨fun ⟨a, h1, h2, h3⟩ => ?_, fun q => ?_⟩
      · by_cases e : a = i
        · subst e; exact Or.inr (decide_eq_true h3.symm)
        · exact Or.inl ⟨a, by omega, by omega, h3⟩
      · rcases q with ⟨a, h1, h2, h3⟩ | q
        · exact ⟨a, by omega, by omega, h3⟩
        · exact ⟨i, Nat.le_refl _, by omega, (of_decide_eq_true q).symm⟩)
    have eR : Sx o (s + 1 + 1) i = Sx o (s + 1) i ||| bt (o (i + s + 1)) := hb_ext fun b _ => Bool.eq_iff_iff.mpr (by
      rw [hb_Sx fun a ha => o32 a (by omega), hb_or, Bool.or_eq_true, hb_Sx fun a ha => o32 a (by omega), hb_bt (o32 _ (by omega))]
      refine ⟨fun ⟨a, h1, h2, h3⟩ => ?_, fun q => ?_⟩
      · by_cases e : a = i + s + 1
        · subst e; exact Or.inr (decide_eq_true h3.symm)
        · exact Or.inl ⟨a, by omega, by omega, h3⟩
      · rcases q with ⟨a, h1, h2, h3⟩ | q
        · exact ⟨a, by omega, by omega, h3⟩
        · exact ⟨i + s + 1, by omega, by omega, (of_decide_eq_true q).symm⟩)
    have nL : hb (Sx o (s + 1) (i + 1)) (o i) = false := Bool.eq_false_iff.mpr fun e => by
      obtain ⟨a, h1, h2, h3⟩ := (hb_Sx fun a ha => o32 a (by omega)).mp e
      have := S0.2.2.1 a i (by omega) (by omega) h3
      omega
    have nR : hb (Sx o (s + 1) i) (o (i + s + 1)) = false := Bool.eq_false_iff.mpr fun e => by
      obtain ⟨a, h1, h2, h3⟩ := (hb_Sx fun a ha => o32 a (by omega)).mp e
      have := S0.2.2.1 a (i + s + 1) (by omega) (by omega) h3
      omega
    have s1 := S0.1 i (i + 1) (by omega) (by omega)
    have s2 := S0.1 (i + 1) (i + s + 1) (by omega) (by omega)
    have s3 := S0.1 (i + s) (i + s + 1) (by omega) (by omega)
    have s4 := S0.1 i (i + s) (by omega) (by omega)
    have di := hd _ (S0.2.2.2 i (by omega))
    have dj := hd _ (S0.2.2.2 (i + s + 1) (by omega))
    refine ⟨fun c => ?_, fun c => ?_⟩
    · obtain ⟨c1, c2⟩ := inT_lt (show inT d o (mnN ((LR h d f o s (i + 1)).1 + h (o (i + 1)) - h (o i)) ((LR h d f o s (i + 1)).2 + h (o (i + s + 1)) - h (o i))) i < 268435456 from c)
      show Pt n h d f (s + 1) (Sx o (s + 1 + 1) i) (o i) (inT d o (mnN ((LR h d f o s (i + 1)).1 + h (o (i + 1)) - h (o i)) ((LR h d f o s (i + 1)).2 + h (o (i + s + 1)) - h (o i))) i)
      rw [c2]
      refine ⟨S0.2.2.2 i (by omega), ?_⟩
      rcases mnN_or (a := (LR h d f o s (i + 1)).1 + h (o (i + 1)) - h (o i)) (b := (LR h d f o s (i + 1)).2 + h (o (i + s + 1)) - h (o i)) with e | e
      · rw [e] at c1 ⊢
        refine ⟨Sx o (s + 1) (i + 1), o (i + 1), _, A1 (by omega), nL, eL, ?_, c1⟩
        unfold ad
        split <;> omega
      · rw [e] at c1 ⊢
        refine ⟨Sx o (s + 1) (i + 1), o (i + 1 + s), _, A2 (by omega), nL, eL, ?_, c1⟩
        rw [show i + 1 + s = i + s + 1 by omega]
        unfold ad
        split <;> omega
    · obtain ⟨c1, c2⟩ := inT_lt (show inT d o (mnN ((LR h d f o s i).2 + h (o (i + s + 1)) - h (o (i + s))) ((LR h d f o s i).1 + h (o (i + s + 1)) - h (o i))) (i + s + 1) < 268435456 from c)
      show Pt n h d f (s + 1) (Sx o (s + 1 + 1) i) (o (i + s + 1)) (inT d o (mnN ((LR h d f o s i).2 + h (o (i + s + 1)) - h (o (i + s))) ((LR h d f o s i).1 + h (o (i + s + 1)) - h (o i))) (i + s + 1))
      rw [c2]
      refine ⟨S0.2.2.2 _ (by omega), ?_⟩
      rcases mnN_or (a := (LR h d f o s i).2 + h (o (i + s + 1)) - h (o (i + s))) (b := (LR h d f o s i).1 + h (o (i + s + 1)) - h (o i)) with e | e
      · rw [e] at c1 ⊢
        refine ⟨Sx o (s + 1) i, o (i + s), _, B2 (by omega), nR, eR, ?_, c1⟩
        unfold ad
        split <;> omega
      · rw [e] at c1 ⊢
        refine ⟨Sx o (s + 1) i, o i, _, B1 (by omega), nR, eR, ?_, c1⟩
        unfold ad
        split <;> omega
end
section
variable (n : Nat) (h d : Nat → Nat) (f : Nat)
/-- the model's -/
def tm (v l : Nat) : Nat := if d l < v then 1000000 else v
def Mt : Nat → Int32 → Nat → Nat
  | 0, _, l => tm d (ad (h l) f) l
  | k + 1, S, l => tm d (lp (fun q a => if hb (S &&& (bt l ^^^ (-1))) q = true then mnN a (Mt k (S &&& (bt l ^^^ (-1))) q + ad (h l) (h q)) else a) n 0 1000000) l
end
theorem fold_s {c : Nat → Bool} {g : Nat → Nat} {A : Nat} : ∀ r, (lp (fun q a => if c q = true then mnN a (g q) else a) r 0 A ≤ A) ∧ (∀ q, q < r → c q = true → lp (fun q a => if c q = true then mnN a (g q) else a) r 0 A ≤ g q) ∧ (lp (fun q a => if c q = true then mnN a (g q) else a) r 0 A = A ∨ ∃ q, q < r ∧ c q = true ∧ lp (fun q a => if c q = true then mnN a (g q) else a) r 0 A = g q)
  | 0 => ⟨Nat.le_refl _, fun q hq => absurd hq (by omega), Or.inl rfl⟩
  | r + 1 => by
    obtain ⟨h1, h2, h3⟩ := fold_s (c := c) (g := g) (A := A) r
    rw [lp_s, Nat.zero_add]
    generalize lp (fun q a => if c q = true then mnN a (g q) else a) r 0 A = v at h1 h2 h3
    by_cases e : c r = true
    · rw [if_pos e]
      have m1 := mnN_l (a := v) (b := g r)
      have m2 := mnN_r (a := v) (b := g r)
      refine ⟨by omega, fun q hq hc => ?_, ?_⟩
      · by_cases x : q = r
        · subst x; exact m2
        · have := h2 q (by omega) hc
          omega
      · rcases mnN_or (a := v) (b := g r) with x | x
        · rw [x]
          exact h3.imp id fun ⟨q, a, b⟩ => ⟨q, by omega, b⟩
        · exact Or.inr ⟨r, by omega, e, x⟩
    · rw [if_neg e]
      refine ⟨h1, fun q hq hc => ?_, h3.imp id fun ⟨q, a, b⟩ => ⟨q, by omega, b⟩⟩
      have : q ≠ r := fun x => by subst x; exact e hc
      exact h2 q (by omega) hc
section
variable {n : Nat} {h d : Nat → Nat} {f : Nat} {o : Nat → Nat}
theorem Pt_in (h8 : n ≤ 8) : ∀ (k : Nat) (S : Int32) (l t : Nat), Pt n h d f k S l t → l < n ∧ hb S l = true ∧ pc S = k + 1 ∧ sub S (full n)
  | 0, S, l, t, ⟨h1, h2, _, _⟩ => by
    refine ⟨h1, by rw [h2, hb_bt (by omega)]; exact decide_eq_true rfl, by rw [h2, pc_bt (by omega)], fun b hb1 => ?_⟩
    rw [h2, hb_bt (by omega)] at hb1
    rw [of_decide_eq_true hb1, hb_full h8]
    exact decide_eq_true h1
  | k + 1, S, l, t, ⟨h1, S', k', t', p1, p2, p3, _, _⟩ => by
    obtain ⟨i1, i2, i3, i4⟩ := Pt_in h8 k S' k' t' p1
    have hl : hb S l = true := by rw [p3, hb_or, hb_bt (by omega)]; simp
    have e := or_out (s := S') (q := l) (by omega) p2
    refine ⟨h1, hl, ?_, ?_⟩
    · have := pc_out (A := S) (j := l) (by omega) hl
      rw [p3, e] at this
      rw [p3]
      omega
    · rw [p3]
      exact sub_or i4 fun b hb1 => by
        rw [hb_bt (by omega)] at hb1
        rw [of_decide_eq_true hb1, hb_full h8]
        exact decide_eq_true h1
theorem tm_lt {v l : Nat} (hl : d l < 256) (h1 : tm d v l < 1000000) : v ≤ d l ∧ tm d v l = v := by
  unfold tm at h1 ⊢
  split at h1
  · omega
  · next c => exact ⟨by omega, by rw [if_neg c]⟩
theorem Mt_Pt (h8 : n ≤ 8) (hd : ∀ l, l < n → d l < 256) : ∀ (k : Nat) (S : Int32) (l : Nat), l < n → hb S l = true → pc S = k + 1 → sub S (full n) → Mt n h d f k S l < 1000000 → Pt n h d f k S l (Mt n h d f k S l)
  | 0, S, l, h1, h2, h3, h4, h5 => by
    obtain ⟨c1, c2⟩ := tm_lt (hd l h1) (show tm d (ad (h l) f) l < 1000000 from h5)
    show Pt n h d f 0 S l (tm d (ad (h l) f) l)
    rw [c2]
    refine ⟨h1, ?_, rfl, c1⟩
    have hpo := pc_out (A := S) (j := l) (by omega) h2
    have e0 := (pc_z (s16_al (b := bt l ^^^ (-1)) (sub16 h4 (full16 h8)))).mp (by omega)
    have := out_or (T := S) (p := l) (by omega) h2
    rw [e0] at this
    rw [← this]
    exact Int32.zero_or
  | k + 1, S, l, h1, h2, h3, h4, h5 => by
    have hpo := pc_out (A := S) (j := l) (by omega) h2
    obtain ⟨c1, c2⟩ := tm_lt (hd l h1) (show tm d (lp (fun q a => if hb (S &&& (bt l ^^^ (-1))) q = true then mnN a (Mt n h d f k (S &&& (bt l ^^^ (-1))) q + ad (h l) (h q)) else a) n 0 1000000) l < 1000000 from h5)
    show Pt n h d f (k + 1) S l (tm d (lp (fun q a => if hb (S &&& (bt l ^^^ (-1))) q = true then mnN a (Mt n h d f k (S &&& (bt l ^^^ (-1))) q + ad (h l) (h q)) else a) n 0 1000000) l)
    rw [c2]
    obtain ⟨_, _, f3⟩ := fold_s (c := hb (S &&& (bt l ^^^ (-1)))) (g := fun q => Mt n h d f k (S &&& (bt l ^^^ (-1))) q + ad (h l) (h q)) (A := 1000000) n
    have hdl := hd l h1
    rcases f3 with f3 | ⟨q, q1, q2, q3⟩
    · rw [f3] at c1
      omega
    · rw [q3] at c1 ⊢
      have c1 : Mt n h d f k (S &&& (bt l ^^^ (-1))) q + ad (h l) (h q) ≤ d l := c1
      refine ⟨h1, S &&& (bt l ^^^ (-1)), q, _, Mt_Pt h8 hd k (S &&& (bt l ^^^ (-1))) q q1 q2 (by omega) (sub_out.tr h4) (by omega), ?_, (out_or (by omega) h2).symm, rfl, c1⟩
      rw [hb_out (by omega)]
      simp
theorem Pt_Mt (h8 : n ≤ 8) : ∀ (k : Nat) (S : Int32) (l t : Nat), Pt n h d f k S l t → Mt n h d f k S l ≤ t
  | 0, S, l, t, ⟨h1, h2, h3, h4⟩ => by
    show tm d (ad (h l) f) l ≤ t
    unfold tm
    rw [if_neg (by omega)]
    omega
  | k + 1, S, l, t, ⟨h1, S', k', t', p1, p2, p3, p4, p5⟩ => by
    obtain ⟨i1, i2, i3, i4⟩ := Pt_in h8 k S' k' t' p1
    have ih := Pt_Mt h8 k S' k' t' p1
    have e : S &&& (bt l ^^^ (-1)) = S' := by rw [p3]; exact or_out (by omega) p2
    show tm d (lp (fun q a => if hb (S &&& (bt l ^^^ (-1))) q = true then mnN a (Mt n h d f k (S &&& (bt l ^^^ (-1))) q + ad (h l) (h q)) else a) n 0 1000000) l ≤ t
    rw [e]
    have f2 := (fold_s (c := hb S') (g := fun q => Mt n h d f k S' q + ad (h l) (h q)) (A := 1000000) n).2.1 k' i1 i2
    have f2 : lp (fun q a => if hb S' q = true then mnN a (Mt n h d f k S' q + ad (h l) (h q)) else a) n 0 1000000 ≤ Mt n h d f k S' k' + ad (h l) (h k') := f2
    unfold tm
    rw [if_neg (by omega)]
    omega
/-- both are the shortest -/
theorem calls_eq (S0 : srt n h o) (h8 : n ≤ 8) (h1 : 1 ≤ n) (hd : ∀ l, l < n → d l < 256) :
    (mnN (LR h d f o (n - 1) 0).1 (LR h d f o (n - 1) 0).2 < 268435456 → lp (fun q a => mnN a (Mt n h d f (n - 1) (full n) q)) n 0 1000000 = mnN (LR h d f o (n - 1) 0).1 (LR h d f o (n - 1) 0).2 ∧ mnN (LR h d f o (n - 1) 0).1 (LR h d f o (n - 1) 0).2 < 1000000) ∧
    (¬ mnN (LR h d f o (n - 1) 0).1 (LR h d f o (n - 1) 0).2 < 268435456 → lp (fun q a => mnN a (Mt n h d f (n - 1) (full n) q)) n 0 1000000 = 1000000) := by
  have o32 : ∀ a, a < n → o a < 32 := fun a ha => by have := S0.2.2.2 a ha; omega
  have eF : Sx o (n - 1 + 1) 0 = full n := hb_ext fun b _ => Bool.eq_iff_iff.mpr (by
    rw [hb_Sx fun a ha => o32 a (by omega), hb_full h8]
    refine ⟨fun ⟨a, _, a2, a3⟩ => decide_eq_true (by rw [← a3]; exact S0.2.2.2 a (by omega)), fun q => ?_⟩
    obtain ⟨a, a1, a2⟩ := S0.2.1 b (of_decide_eq_true q)
    exact ⟨a, by omega, by omega, a2⟩)
  have hbF : ∀ q, q < n → hb (full n) q = true := fun q hq => by rw [hb_full h8]; exact decide_eq_true hq
  have f0 := fold_s (c := fun _ => true) (g := fun q => Mt n h d f (n - 1) (full n) q) (A := 1000000) n
  have ef : (fun q a => if (fun _ => true) q = true then mnN a ((fun q => Mt n h d f (n - 1) (full n) q) q) else a) = fun q a => mnN a (Mt n h d f (n - 1) (full n) q) := by
    funext q a
    exact if_pos rfl
  have ef2 : (fun (q a : Nat) => if (fun (_ : Nat) => true) q = true then mnN a (Mt n h d f (n - 1) (full n) q) else a) = fun q a => mnN a (Mt n h d f (n - 1) (full n) q) := by
    funext q a
    exact if_pos rfl
  obtain ⟨f1, f2, f3⟩ := f0
  simp only [↓reduceIte] at f1 f2 f3
  generalize eB : lp (fun q a => mnN a (Mt n h d f (n - 1) (full n) q)) n 0 1000000 = B at f1 f2 f3
  obtain ⟨P1, P2⟩ := LR_Pt (f := f) S0 h8 hd (n - 1) 0 (by omega)
  rw [eF] at P1 P2
  have low : B < 1000000 → mnN (LR h d f o (n - 1) 0).1 (LR h d f o (n - 1) 0).2 ≤ B := fun hB => by
    rcases f3 with f3 | ⟨q, q1, _, q3⟩
    · omega
    · have hP := Mt_Pt (h := h) (f := f) h8 hd (n - 1) (full n) q q1 (hbF q q1) (by rw [pc_fullm h8]; omega) sub.rf (by omega)
      obtain ⟨i, w, κ, a1, a2, a3, a4, a5, a6⟩ := Pt_LR S0 h8 (n - 1) (full n) q _ hP (fun b hb1 hb2 => by rw [hbF b hb1] at hb2; cases hb2)
      have b1 := a5 0 (by omega) (hbF _ (S0.2.2.2 0 (by omega)))
      have b2 := a5 (n - 1) (by omega) (hbF _ (S0.2.2.2 (n - 1) (by omega)))
      obtain rfl : i = 0 := by omega
      obtain rfl : w = n - 1 := by omega
      have m1 := mnN_l (a := (LR h d f o (n - 1) 0).1) (b := (LR h d f o (n - 1) 0).2)
      have m2 := mnN_r (a := (LR h d f o (n - 1) 0).1) (b := (LR h d f o (n - 1) 0).2)
      rcases a6 with a6 | a6 <;> omega
  have up : mnN (LR h d f o (n - 1) 0).1 (LR h d f o (n - 1) 0).2 < 268435456 → B ≤ mnN (LR h d f o (n - 1) 0).1 (LR h d f o (n - 1) 0).2 ∧ mnN (LR h d f o (n - 1) 0).1 (LR h d f o (n - 1) 0).2 < 256 := fun hx => by
    have dle : ∀ {k S l t}, Pt n h d f k S l t → t < 256 := fun {k S l t} hP => by
      match k, hP with
      | 0, ⟨q1, _, _, q4⟩ => have := hd l q1; omega
      | k + 1, ⟨q1, _, _, _, _, _, _, _, q4⟩ => have := hd l q1; omega
    rcases mnN_or (a := (LR h d f o (n - 1) 0).1) (b := (LR h d f o (n - 1) 0).2) with e | e
    · rw [e] at hx ⊢
      have p := P1 hx
      have := Pt_Mt h8 _ _ _ _ p
      have := f2 (o 0) (S0.2.2.2 0 (by omega)) trivial
      have := dle p
      omega
    · rw [e] at hx ⊢
      have p := P2 hx
      have := Pt_Mt h8 _ _ _ _ p
      have := f2 (o (0 + (n - 1))) (S0.2.2.2 _ (by omega)) trivial
      have := dle p
      omega
  refine ⟨fun hx => ?_, fun hx => ?_⟩
  · obtain ⟨u1, u2⟩ := up hx
    have := low (by omega)
    omega
  · have : ¬ B < 1000000 := fun hB => by
      have := low hB
      omega
    omega
end
