/-! THE PLAIN LAW: who must stay out -/
set_option maxRecDepth 100000
def gF (N : Nat → Int32) : Nat → Int32 → Int32 → Option Int32
  | 0, _, _ => none
  | k + 1, prev, more => if more = prev then some prev else gF N k more (stp N more)
def grp (N : Nat → Int32) (p : Nat) : Int32 := (gF N 20 0 (bt p)).getD 0
theorem grp_is {N : Nat → Int32} {p : Nat} (hN : ∀ a, a < 16 → s16 (N a)) (hp : p < 16) : isG N p (grp N p) := by
  obtain ⟨R, h1, h2⟩ := grp_loop (N := N) (c := 0) (G := gF N) hN hp (fun n prev more _ => rfl) (n := 20) (by omega)
  unfold grp
  rw [h1]
  exact h2
/-- friends of the told, for any roll -/
def frd (t : Int32) (f : Nat → Int32) (p : Nat) : Int32 := (t &&& (f p ^^^ (-1))) &&& (bt p ^^^ (-1))
/-- quarrels are of two -/
def sym (t : Int32) (f : Nat → Int32) : Prop := s16 t ∧ ∀ a b, a < 16 → b < 16 → hb t a = true → hb t b = true → hb (f a) b = true → hb (f b) a = true
theorem hb_frd {t : Int32} {f : Nat → Int32} {p k : Nat} (hk : p < 16) : hb (frd t f p) k = (hb t k && (!hb (f p) k && decide (k ≠ p))) := by
  unfold frd
  rw [hb_and, hb_and, hb_not, hb_not, hb_bt (by omega)]
  by_cases h : k < 32
  · by_cases h2 : k = p <;> simp [h, h2]
  · rw [hb_ge (s := t) (Nat.not_lt.mp h)]
    rfl
theorem s16_frd {t : Int32} {f : Nat → Int32} {p : Nat} (h : s16 t) : s16 (frd t f p) := s16_al (s16_al h)
theorem frd_sym {t : Int32} {f : Nat → Int32} (h : sym t f) {a b : Nat} (ha : a < 16) (hb' : b < 16) (ta : hb t a = true) (hab : hb (frd t f a) b = true) : hb (frd t f b) a = true := by
  rw [hb_frd ha, Bool.and_eq_true, Bool.and_eq_true] at hab
  obtain ⟨h1, h2, h3⟩ := hab
  rw [hb_frd hb', ta]
  have h4 : hb (f b) a = false := by
    cases e : hb (f b) a with
    | false => rfl
    | true =>
      rw [h.2 b a hb' ha h1 ta e] at h2
      cases h2
  rw [h4]
  have : a ≠ b := fun e => (of_decide_eq_true h3) e.symm
  simp [this]
section
variable {t : Int32} {f : Nat → Int32} {p q : Nat}
theorem grp_told (h : s16 t) (hp : hb t p = true) : sub (grp (frd t f) p) t := by
  have hp16 := s16_lt h hp
  refine (grp_is (N := frd t f) (fun a _ => s16_frd h) hp16).2.2.2 t hp fun a b ha _ hab => ?_
  rw [hb_frd ha, Bool.and_eq_true] at hab
  exact hab.1
theorem grp_back (h : sym t f) (hp : hb t p = true) (hq : hb (grp (frd t f) p) q = true) : hb (grp (frd t f) q) p = true := by
  have hp16 := s16_lt h.1 hp
  have tq := grp_told (f := f) h.1 hp q hq
  have hq16 := s16_lt h.1 tq
  have Gp := grp_is (N := frd t f) (fun a _ => s16_frd h.1) hp16
  have Gq := grp_is (N := frd t f) (fun a _ => s16_frd h.1) hq16
  refine Classical.byContradiction fun hn => ?_
  have hn : hb (grp (frd t f) q) p = false := by simpa using hn
  have hs := Gp.2.2.2 (grp (frd t f) p &&& (grp (frd t f) q ^^^ (-1))) (by rw [hb_and, hb_not, Gp.2.1, hn]; simp; omega) (fun a b ha h1 h2 => ?_) q hq
  · rw [hb_and, hb_not, Gq.2.1] at hs
    simp at hs
  · rw [hb_and, Bool.and_eq_true] at h1
    have hbp := Gp.2.2.1 a b ha h1.1 h2
    have hb16 := s16_lt Gp.1 hbp
    rw [hb_and, hb_not, hbp]
    have hbq : hb (grp (frd t f) q) b = false := by
      cases e : hb (grp (frd t f) q) b with
      | false => rfl
      | true =>
        have ta := grp_told (f := f) h.1 hp a h1.1
        have := Gq.2.2.1 b a hb16 e (frd_sym h ha hb16 ta h2)
        rw [hb_not, this] at h1
        simp at h1
    rw [hbq]
    simp
    omega
theorem grp_eq (h : sym t f) (hp : hb t p = true) (hq : hb (grp (frd t f) p) q = true) : grp (frd t f) q = grp (frd t f) p := by
  have hp16 := s16_lt h.1 hp
  have tq := grp_told (f := f) h.1 hp q hq
  have hq16 := s16_lt h.1 tq
  have Gp := grp_is (N := frd t f) (fun a _ => s16_frd h.1) hp16
  have Gq := grp_is (N := frd t f) (fun a _ => s16_frd h.1) hq16
  have hb1 := grp_back h hp hq
  refine s16_ext Gq.1 Gp.1 fun k _ => ?_
  have a := Gq.2.2.2 _ hq Gp.2.2.1 k
  have b := Gp.2.2.2 _ hb1 Gq.2.2.1 k
  cases c : hb (grp (frd t f) q) k <;> cases d : hb (grp (frd t f) p) k
  · rfl
  · rw [c] at b; cases b d
  · rw [d] at a; cases a c
  · rfl
end
