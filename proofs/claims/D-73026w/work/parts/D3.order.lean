/-! THE PLAIN LAW: inOrder -/
set_option maxRecDepth 100000
theorem pcN_diff {A S : Int32} (h : sub S A) : ∀ r, r ≤ 32 → pcN (A &&& (S ^^^ (-1))) r + pcN S r = pcN A r
  | 0, _ => rfl
  | r + 1, hr => by
    have ih := pcN_diff h r (by omega)
    show (pcN (A &&& (S ^^^ (-1))) r + (hb (A &&& (S ^^^ (-1))) r).toNat) + (pcN S r + (hb S r).toNat) = pcN A r + (hb A r).toNat
    rw [hb_and, hb_not, decide_eq_true (show r < 32 by omega), Bool.true_and]
    cases c : hb S r with
    | false =>
      rw [Bool.not_false, Bool.and_true]
      show _ + _ + (_ + 0) = _
      omega
    | true =>
      rw [h r c]
      show _ + 0 + (_ + 1) = _ + 1
      omega
theorem pc_diff {A S : Int32} (h : sub S A) : pc (A &&& (S ^^^ (-1))) + pc S = pc A := pcN_diff h 16 (by decide)
/-- friends among those of X -/
def NA (N : Nat → Int32) (X : Int32) (a : Nat) : Int32 := N a &&& X
theorem NA_mono {N : Nat → Int32} {X Y : Int32} (h : sub X Y) (a : Nat) : sub (NA N X a) (NA N Y a) := fun k hk => by
  unfold NA at hk ⊢
  rw [hb_and, Bool.and_eq_true] at hk ⊢
  exact ⟨hk.1, h k hk.2⟩
theorem grpN_mono {N M : Nat → Int32} (hN : ∀ a, a < 16 → s16 (N a)) (hM : ∀ a, a < 16 → s16 (M a)) (h : ∀ a, a < 16 → sub (N a) (M a)) {p : Nat} (hp : p < 16) : sub (grp N p) (grp M p) := by
  have Gf := grp_is hN hp
  have Gg := grp_is hM hp
  exact Gf.2.2.2 _ Gg.2.1 fun a b ha h1 h2 => Gg.2.2.1 a b ha h1 (h a ha b h2)
theorem hb_dif {t S : Int32} {k : Nat} : hb (t &&& (S ^^^ (-1))) k = (hb t k && !hb S k) := by
  rw [hb_and, hb_not]
  by_cases h32 : k < 32
  · simp [h32]
  · rw [hb_ge (s := t) (by omega)]; rfl
section
variable {t A : Int32} {N : Nat → Int32}
/-- each one outside hangs together with one that stays -/
def CC (t A : Int32) (N : Nat → Int32) (S : Int32) : Prop := ∀ a, hb t a = true → hb S a = false → ∃ b, hb (grp (NA N (t &&& (S ^^^ (-1)))) a) b = true ∧ hb t b = true ∧ hb A b = false
theorem NA16 (ht : s16 t) (S : Int32) : ∀ a, a < 16 → s16 (NA N (t &&& (S ^^^ (-1))) a) := fun a _ => s16_ar (s16_al ht)
theorem CC_to (ht : s16 t) (hA : sub A t) (hN : ∀ a, a < 16 → ∀ b, hb (N a) b = true → hb t b = true ∧ b ≠ a) : ∀ (k : Nat) (S : Int32), sub S A → P A N k S A ≠ 0 → CC t A N S
  | 0, S, hS, h => by
    have e : S = A := Classical.byContradiction fun hn => h (if_neg hn)
    intro a ta sa
    refine ⟨a, (grp_is (NA16 ht S) (s16_lt ht ta)).2.1, ta, ?_⟩
    rw [← e]
    exact sa
  | k + 1, S, hS, h => by
    obtain ⟨p, hp, h2⟩ := sm_pos h
    have c : okp A N S p = true := Classical.byContradiction fun hn => h2 (if_neg hn)
    have h2 : (if okp A N S p = true then P A N k (S ||| bt p) A else 0) ≠ 0 := h2
    rw [if_pos c] at h2
    unfold okp at c
    rw [Bool.and_eq_true, Bool.and_eq_true] at c
    have hs : hb S p = false := by simpa using c.2.1
    have hsub : sub (S ||| bt p) A := sub_or hS fun q hq => by
      rw [hb_bt (by omega)] at hq
      rw [of_decide_eq_true hq]
      exact c.1
    have ih := CC_to ht hA hN k (S ||| bt p) hsub h2
    have hX : sub (t &&& ((S ||| bt p) ^^^ (-1))) (t &&& (S ^^^ (-1))) := fun q hq => by
      rw [hb_dif, hb_or] at hq
      rw [hb_dif]
      cases a : hb t q <;> cases b : hb S q <;> rw [a, b] at hq <;> simp at hq ⊢
    have hmono := fun {a} ha => grpN_mono (N := NA N (t &&& ((S ||| bt p) ^^^ (-1)))) (M := NA N (t &&& (S ^^^ (-1)))) (NA16 ht _) (NA16 ht _) (fun a _ => NA_mono hX a) (p := a) ha
    intro a ta sa
    have ha16 := s16_lt ht ta
    by_cases e : a = p
    · subst e
      obtain ⟨u, hu1, hu2⟩ := Classical.byContradiction (p := ∃ u, hb (N a) u = true ∧ hb S u = false) fun hn => by
        refine absurd ?_ (of_decide_eq_true c.2.2)
        refine and_not0.mpr fun q hq => ?_
        cases d : hb S q with
        | true => rfl
        | false => exact absurd ⟨q, hq, d⟩ hn
      have hu := hN a ha16 u hu1
      obtain ⟨b, b1, b2, b3⟩ := ih u hu.1 (by rw [hb_or, hu2, hb_bt (by omega)]; simp [hu.2])
      have hu16 := s16_lt ht hu.1
      refine ⟨b, ?_, b2, b3⟩
      have G := grp_is (NA16 (N := N) ht S) ha16
      have Gu := grp_is (NA16 (N := N) ht S) hu16
      have inu : hb (grp (NA N (t &&& (S ^^^ (-1)))) a) u = true := G.2.2.1 a u ha16 G.2.1 (by
        unfold NA
        rw [hb_and, hb_dif, hu1, hu.1, hu2]
        rfl)
      exact Gu.2.2.2 _ inu G.2.2.1 b (hmono hu16 b b1)
    · obtain ⟨b, b1, b2, b3⟩ := ih a ta (by rw [hb_or, sa, hb_bt (by omega)]; simp [e])
      exact ⟨b, hmono ha16 b b1, b2, b3⟩
theorem CC_up (ht : s16 t) (hA : sub A t) (hN : ∀ a, a < 16 → ∀ b, hb (N a) b = true → hb t b = true ∧ b ≠ a) {S0 : Int32} (h0 : CC t A N S0) : ∀ (d k : Nat) (S : Int32), pc S = pc S0 + d → sub S0 S → sub S A → P A N k S A ≠ 0 → P A N (k + d) S0 A ≠ 0
  | 0, k, S, h1, h2, h3, h4 => by
    have hS16 : s16 S := sub16 h3 (sub16 hA ht)
    have e := pc_eq (sub16 h2 hS16) hS16 h2 h1.symm
    subst e
    exact h4
  | d + 1, k, S, h1, h2, h3, h4 => by
    have hS16 : s16 S := sub16 h3 (sub16 hA ht)
    have hS0 : s16 S0 := sub16 h2 hS16
    have ⟨v, v1, v2, u, v3, v4, v5⟩ : ∃ v, hb S v = true ∧ hb S0 v = false ∧ ∃ u, hb (N v) u = true ∧ hb t u = true ∧ hb S u = false := by
      refine Classical.byContradiction fun hn => ?_
      have hlt : pc (S &&& (S0 ^^^ (-1))) ≠ 0 := by
        have := pc_diff h2
        omega
      obtain ⟨a, a1, a2⟩ := s16_ne (s16_al (b := S0 ^^^ (-1)) hS16) (fun e => hlt (by rw [e, pc_0]))
      rw [hb_dif, Bool.and_eq_true] at a2
      have sa : hb S0 a = false := by simpa using a2.2
      obtain ⟨b, b1, b2, b3⟩ := h0 a (hA a (h3 a a2.1)) sa
      have G := grp_is (NA16 (N := N) ht S0) a1
      have := G.2.2.2 (S &&& (S0 ^^^ (-1))) (by rw [hb_dif, a2.1, sa]; rfl) (fun x y hx x1 x2 => by
        rw [hb_dif, Bool.and_eq_true] at x1 ⊢
        unfold NA at x2
        rw [hb_and, hb_dif, Bool.and_eq_true, Bool.and_eq_true] at x2
        refine ⟨?_, x2.2.2⟩
        cases e : hb S y with
        | true => rfl
        | false => exact absurd ⟨x, x1.1, by simpa using x1.2, y, x2.1, x2.2.1, e⟩ hn) b b1
      rw [hb_dif, Bool.and_eq_true] at this
      rw [h3 b this.1] at b3
      cases b3
    have v16 := s16_lt hS16 v1
    have e := out_or (T := S) (by omega) v1
    have hpc := pc_out v16 v1
    have key : P A N (k + 1) (S &&& (bt v ^^^ (-1))) A ≠ 0 := by
      refine pos_sm (p := v) ?_ v16
      have ho : okp A N (S &&& (bt v ^^^ (-1))) v = true := by
        unfold okp
        rw [h3 v v1, hb_out (by omega)]
        refine (Bool.and_eq_true _ _).mpr ⟨rfl, (Bool.and_eq_true _ _).mpr ⟨by simp, decide_eq_true fun e0 => ?_⟩⟩
        have := and_not0.mp e0 u v3
        rw [hb_out (by omega), v5] at this
        cases this
      show (if okp A N (S &&& (bt v ^^^ (-1))) v = true then P A N k ((S &&& (bt v ^^^ (-1))) ||| bt v) A else 0) ≠ 0
      rw [if_pos ho, e]
      exact h4
    have r := CC_up ht hA hN h0 d (k + 1) (S &&& (bt v ^^^ (-1))) (by omega) (fun q hq => by
      rw [hb_out (by omega), h2 q hq]
      have : q ≠ v := fun e => by rw [e, v2] at hq; cases hq
      simp [this]) (fun q hq => by
      rw [hb_out (by omega), Bool.and_eq_true] at hq
      exact h3 q hq.1) key
    rw [show k + (d + 1) = k + 1 + d by omega]
    exact r
theorem CC_iff (ht : s16 t) (hA : sub A t) (hN : ∀ a, a < 16 → ∀ b, hb (N a) b = true → hb t b = true ∧ b ≠ a) {S : Int32} (hS : sub S A) : P A N (pc A - pc S) S A ≠ 0 ↔ CC t A N S := by
  refine ⟨CC_to ht hA hN _ S hS, fun h => ?_⟩
  have := pc_mono hS
  have r := CC_up ht hA hN h (pc A - pc S) 0 A (by omega) hS sub.rf (by show (if A = A then 1 else 0) ≠ 0; rw [if_pos rfl]; decide)
  rw [Nat.zero_add] at r
  exact r
end
