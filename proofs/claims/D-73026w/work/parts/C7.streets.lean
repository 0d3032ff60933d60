/-! THE PLAIN LAW: two streets -/
set_option maxRecDepth 100000
theorem sub.rf {s : Int32} : sub s s := fun _ h => h
theorem sub.tr {a b c : Int32} (h1 : sub a b) (h2 : sub b c) : sub a c := fun k h => h2 k (h1 k h)
theorem sub_l {a b : Int32} : sub a (a ||| b) := fun k h => by rw [hb_or, h]; rfl
theorem sub_r {a b : Int32} : sub b (a ||| b) := fun k h => by rw [hb_or, h, Bool.or_true]
theorem sub_or {a b c : Int32} (h1 : sub a c) (h2 : sub b c) : sub (a ||| b) c := fun k h => by
  rw [hb_or, Bool.or_eq_true] at h
  exact h.elim (h1 k) (h2 k)
theorem sub_as {a b : Int32} (h1 : sub a b) (h2 : sub b a) : a = b := hb_ext fun k _ => by
  have x := h1 k
  have y := h2 k
  cases c : hb a k <;> cases d : hb b k
  · rfl
  · rw [c] at y; cases y d
  · rw [d] at x; cases x c
  · rfl
theorem or_sub {a b : Int32} (h : sub b a) : a ||| b = a := sub_as (sub_or sub.rf h) sub_l
theorem hb_lpor (N : Nat → Int32) (s t : Int32) (k : Nat) : ∀ (r : Nat), hb (lp (fun a t => if hb s a = true then t ||| N a else t) r 0 t) k = true ↔ (hb t k = true ∨ ∃ a, a < r ∧ hb s a = true ∧ hb (N a) k = true)
  | 0 => ⟨fun h => Or.inl h, fun h => h.elim id fun ⟨a, h, _⟩ => absurd h (by omega)⟩
  | r + 1 => by
    rw [lp_s, Nat.zero_add]
    have ih := hb_lpor N s t k r
    by_cases c : hb s r = true
    · rw [if_pos c, hb_or, Bool.or_eq_true, ih]
      refine ⟨fun h => ?_, fun h => ?_⟩
      · rcases h with (h | ⟨a, h1, h2⟩) | h
        · exact Or.inl h
        · exact Or.inr ⟨a, by omega, h2⟩
        · exact Or.inr ⟨r, by omega, c, h⟩
      · rcases h with h | ⟨a, h1, h2, h3⟩
        · exact Or.inl (Or.inl h)
        · by_cases e : a = r
          · subst e; exact Or.inr h3
          · exact Or.inl (Or.inr ⟨a, by omega, h2, h3⟩)
    · rw [if_neg c, ih]
      refine ⟨fun h => ?_, fun h => ?_⟩
      · rcases h with h | ⟨a, h1, h2⟩
        · exact Or.inl h
        · exact Or.inr ⟨a, by omega, h2⟩
      · rcases h with h | ⟨a, h1, h2, h3⟩
        · exact Or.inl h
        · by_cases e : a = r
          · subst e; exact absurd h2 c
          · exact Or.inr ⟨a, by omega, h2, h3⟩
/-- all the N of those of s -/
def uni (N : Nat → Int32) (s : Int32) : Int32 := lp (fun a t => if hb s a = true then t ||| N a else t) 16 0 0
theorem hb_uni {N : Nat → Int32} {s : Int32} {k : Nat} : hb (uni N s) k = true ↔ ∃ a, a < 16 ∧ hb s a = true ∧ hb (N a) k = true := by
  unfold uni
  rw [hb_lpor, hb_0]
  exact ⟨fun h => h.elim (fun e => nomatch e) id, Or.inr⟩
theorem s16_uni {N : Nat → Int32} {s : Int32} (hN : ∀ a, a < 16 → s16 (N a)) : s16 (uni N s) := fun k hk => by
  cases e : hb (uni N s) k with
  | false => rfl
  | true =>
    obtain ⟨a, h1, _, h3⟩ := hb_uni.mp e
    rw [hN a h1 k hk] at h3
    cases h3
theorem uni_sub {N : Nat → Int32} {s t : Int32} (h : ∀ a, a < 16 → hb s a = true → sub (N a) t) : sub (uni N s) t := fun k hk => by
  obtain ⟨a, h1, h2, h3⟩ := hb_uni.mp hk
  exact h a h1 h2 k h3
theorem sub_uni {N : Nat → Int32} {s t : Int32} (h : sub (uni N s) t) {a : Nat} (h1 : a < 16) (h2 : hb s a = true) : sub (N a) t := fun k hk => h k (hb_uni.mpr ⟨a, h1, h2, hk⟩)
abbrev P2 := Int32 × Int32
def cls (N : Nat → Int32) (q : P2) : Prop := ∀ a, a < 16 → (hb q.1 a = true → sub (N a) q.2) ∧ (hb q.2 a = true → sub (N a) q.1)
def le2 (p q : P2) : Prop := sub p.1 q.1 ∧ sub p.2 q.2
def S2 (q : P2) : Prop := s16 q.1 ∧ s16 q.2
theorem le2.rf {p : P2} : le2 p p := ⟨sub.rf, sub.rf⟩
theorem le2_b {q : P2} {b : Int32} : le2 q (q.1 ||| b, q.2) := ⟨sub_l, sub.rf⟩
theorem le2.tr {a b c : P2} (h1 : le2 a b) (h2 : le2 b c) : le2 a c := ⟨h1.1.tr h2.1, h1.2.tr h2.2⟩
theorem le2.as {a b : P2} (h1 : le2 a b) (h2 : le2 b a) : a = b := Prod.ext (sub_as h1.1 h2.1) (sub_as h1.2 h2.2)
theorem le2.ov {a b : P2} (h : le2 a b) (hv : a.1 &&& a.2 ≠ 0) : b.1 &&& b.2 ≠ 0 := fun e => hv (hb_ext fun k _ => by
  have e2 := congrArg (fun q => hb q k) e
  rw [hb_and, hb_0] at e2
  rw [hb_and, hb_0]
  have x := h.1 k
  have y := h.2 k
  cases c : hb a.1 k <;> cases d : hb a.2 k <;> first | rfl | skip
  rw [x c, y d] at e2
  cases e2)
theorem lp_fx {α : Type} {f : Nat → α → α} {a : α} (h : ∀ j, f j a = a) : ∀ (r k : Nat), lp f r k a = a
  | 0, _ => rfl
  | r + 1, k => by
    show lp f r (k + 1) (f k a) = a
    rw [h k]
    exact lp_fx h r (k + 1)
/-- one round of the component -/
def xr (N : Nat → Int32) (q : P2) : P2 := (q.1 ||| uni N (q.2 ||| uni N q.1), q.2 ||| uni N q.1)
theorem xr_le {N : Nat → Int32} {q : P2} : le2 q (xr N q) := ⟨sub_l, sub_l⟩
theorem xr_in {N : Nat → Int32} {q C : P2} (hC : cls N C) (h : le2 q C) : le2 (xr N q) C := by
  have h2 : sub (q.2 ||| uni N q.1) C.2 := sub_or h.2 (uni_sub fun a h1 h2 => (hC a h1).1 (h.1 a h2))
  exact ⟨sub_or h.1 (uni_sub fun a h1 h3 => (hC a h1).2 (h2 a h3)), h2⟩
theorem S2_xr {N : Nat → Int32} (hN : ∀ a, a < 16 → s16 (N a)) {q : P2} (h : S2 q) : S2 (xr N q) := ⟨s16_or h.1 (s16_uni hN), s16_or h.2 (s16_uni hN)⟩
theorem xr_all {N : Nat → Int32} (hN : ∀ a, a < 16 → s16 (N a)) : ∀ (r k : Nat) (q : P2), S2 q → sub (uni N q.2) q.1 → 16 ≤ pc q.2 + r → S2 (lp (fun _ a => xr N a) r k q) ∧ cls N (lp (fun _ a => xr N a) r k q) ∧ le2 q (lp (fun _ a => xr N a) r k q) ∧ ∀ C, cls N C → le2 q C → le2 (lp (fun _ a => xr N a) r k q) C
  | 0, k, q, h, h1, h2 => ⟨h, fun a ha => ⟨fun _ j hj => pc_full h.2 (by omega) (s16_lt (hN a ha) hj), fun h3 => sub_uni h1 ha h3⟩, le2.rf, fun C _ h => h⟩
  | r + 1, k, q, h, h1, h2 => by
    show S2 (lp (fun _ a => xr N a) r (k + 1) (xr N q)) ∧ cls N (lp (fun _ a => xr N a) r (k + 1) (xr N q)) ∧ le2 q (lp (fun _ a => xr N a) r (k + 1) (xr N q)) ∧ ∀ C, cls N C → le2 q C → le2 (lp (fun _ a => xr N a) r (k + 1) (xr N q)) C
    by_cases e : q.2 ||| uni N q.1 = q.2
    · have e2 : xr N q = q := by
        unfold xr
        rw [e, or_sub h1]
      have e3 : sub (uni N q.1) q.2 := by rw [← e]; exact sub_r
      rw [e2, lp_fx (fun _ => e2)]
      exact ⟨h, fun a ha => ⟨fun h3 => sub_uni e3 ha h3, fun h3 => sub_uni h1 ha h3⟩, le2.rf, fun C _ h => h⟩
    · have hp : pc q.2 < pc (xr N q).2 := by
        have a := pc_mono (show sub q.2 (xr N q).2 from sub_l)
        have b : pc q.2 ≠ pc (xr N q).2 := fun x => e (pc_eq h.2 (S2_xr hN h).2 (show sub q.2 (xr N q).2 from sub_l) x).symm
        omega
      obtain ⟨a1, a2, a3, a4⟩ := xr_all hN r (k + 1) (xr N q) (S2_xr hN h) sub_r (by omega)
      exact ⟨a1, a2, xr_le.tr a3, fun C c1 c2 => a4 C c1 (xr_in c1 c2)⟩
/-- one pass of the model -/
def ps (N : Nat → Int32) (k : Nat) (q : P2) : P2 := (if hb (if hb q.1 k = true then q.2 ||| N k else q.2) k = true then q.1 ||| N k else q.1, if hb q.1 k = true then q.2 ||| N k else q.2)
def pass (N : Nat → Int32) (q : P2) : P2 := lp (ps N) 16 0 q
def I_ps (N : Nat → Int32) (q : P2) (k : Nat) (a : P2) : Prop := S2 a ∧ le2 q a ∧ (∀ C, cls N C → le2 q C → le2 a C) ∧ ∀ j, j < k → (hb q.1 j = true → sub (N j) a.2) ∧ (hb q.2 j = true → sub (N j) a.1)
theorem ps_2 {N : Nat → Int32} {k : Nat} {a : P2} : (ps N k a).2 = if hb a.1 k = true then a.2 ||| N k else a.2 := rfl
theorem ps_1 {N : Nat → Int32} {k : Nat} {a : P2} : (ps N k a).1 = if hb (ps N k a).2 k = true then a.1 ||| N k else a.1 := rfl
theorem ps_i {N : Nat → Int32} (hN : ∀ a, a < 16 → s16 (N a)) {q : P2} {k : Nat} {a : P2} (hk : k < 16) (I : I_ps N q k a) : I_ps N q (k + 1) (ps N k a) := by
  obtain ⟨i1, i2, i3, i4⟩ := I
  have e2 : sub a.2 (ps N k a).2 ∧ (hb a.1 k = true → sub (N k) (ps N k a).2) ∧ s16 (ps N k a).2 := by
    rw [ps_2]
    by_cases c : hb a.1 k = true
    · rw [if_pos c]; exact ⟨sub_l, fun _ => sub_r, s16_or i1.2 (hN k hk)⟩
    · rw [if_neg c]; exact ⟨sub.rf, fun x => absurd x c, i1.2⟩
  have e1 : sub a.1 (ps N k a).1 ∧ (hb (ps N k a).2 k = true → sub (N k) (ps N k a).1) ∧ s16 (ps N k a).1 := by
    rw [ps_1]
    by_cases c : hb (ps N k a).2 k = true
    · rw [if_pos c]; exact ⟨sub_l, fun _ => sub_r, s16_or i1.1 (hN k hk)⟩
    · rw [if_neg c]; exact ⟨sub.rf, fun x => absurd x c, i1.1⟩
  refine ⟨⟨e1.2.2, e2.2.2⟩, ⟨i2.1.tr e1.1, i2.2.tr e2.1⟩, fun C c1 c2 => ?_, fun j hj => ?_⟩
  · have h := i3 C c1 c2
    have h2 : sub (ps N k a).2 C.2 := by
      rw [ps_2]
      by_cases c : hb a.1 k = true
      · rw [if_pos c]; exact sub_or h.2 ((c1 k hk).1 (h.1 k c))
      · rw [if_neg c]; exact h.2
    refine ⟨?_, h2⟩
    rw [ps_1]
    by_cases c : hb (ps N k a).2 k = true
    · rw [if_pos c]; exact sub_or h.1 ((c1 k hk).2 (h2 k c))
    · rw [if_neg c]; exact h.1
  · by_cases e : j = k
    · subst e
      exact ⟨fun x => e2.2.1 (i2.1 j x), fun x => e1.2.1 (e2.1 j (i2.2 j x))⟩
    · have := i4 j (by omega)
      exact ⟨fun x => (this.1 x).tr e2.1, fun x => (this.2 x).tr e1.1⟩
theorem ps_all {N : Nat → Int32} (hN : ∀ a, a < 16 → s16 (N a)) {q : P2} (h : S2 q) : I_ps N q 16 (pass N q) :=
  lp_inv (f := ps N) (N := 16) (I := I_ps N q) (fun k a hk I => ps_i hN hk I) 16 0 q rfl ⟨h, le2.rf, fun C _ h => h, fun j hj => absurd hj (by omega)⟩
section
variable {L : Nat} {xs : Nat → Int32} {z : z_T}
theorem x_foes' {s : Int32} {n : Nat} (hn : 0 + 16 + 1 ≤ n) : L_X0_foesOf_4 n 7 s 0 0 (hp L xs z) = some (lp (fun a t => if hb s a = true then t ||| z.1 10 a else t) 16 0 0) :=
  lp_r (G := fun n k a => L_X0_foesOf_4 n 7 s a (ii k) (hp L xs z)) (fun a t => if hb s a = true then t ||| z.1 10 a else t) (N := 16) (c := 0) (fin := some)
    (fun n k a hk hc => by
      have hk32 : k < 32 := by omega
      show L_X0_foesOf_4 (n + 1) 7 s a (ii k) (hp L xs z) = _
      rw [L_X0_foesOf_4, if_pos (by rw [show (16 : Int32) = ii 16 from rfl, ii_lt (by omega) (by decide)]; exact hk)]
      simp only [zr_0, zr_1, zr_2, zr_3, zr_4, zr_5, zr_6, za_0, za_1, za_2, za_3, za_4, za_5, hk, e_has hk32, b01, ii_s, btd, or0, Option.bind_some, po_s, po_n, one_ne0, Bool.false_eq_true, not_true, not_false_eq_true, Classical.not_not, ↓reduceIte]
      by_cases c1 : hb s k = true <;> simp [c1])
    (fun n a _ => by
      show L_X0_foesOf_4 (n + 1) 7 s a (ii 16) (hp L xs z) = _
      rw [L_X0_foesOf_4, if_neg (by decide)]) (Nat.zero_add _) (by omega)
theorem foe16 (J : I_foe z) : ∀ a, a < 16 → s16 (z.1 10 a) := fun a ha k hk => by
  cases e : hb (z.1 10 a) k with
  | false => rfl
  | true => exact absurd ((J a ha).2 k e).1 (by omega)
theorem x_foes {s : Int32} {n : Nat} (J : I_foe z) (hn : 17 ≤ n) : F_X0_foesOf n (hp L xs z) 7 s = some (uni (z.1 10) s) := by
  unfold F_X0_foesOf
  rw [show L_X0_foesOf_4 n 7 s 0 0 (hp L xs z) = _ from x_foes' (by omega)]
  simp only [zr_0, zr_1, zr_2, zr_3, zr_4, zr_5, zr_6, Option.bind_some, po_s, po_n]
  refine congrArg some (hb_ext fun k _ => ?_)
  rw [hb_and]
  show (hb (uni (z.1 10) s) k && hb (tld z) k) = hb (uni (z.1 10) s) k
  cases e : hb (uni (z.1 10) s) k with
  | false => rfl
  | true =>
    obtain ⟨a, h1, _, h3⟩ := hb_uni.mp e
    rw [((J a h1).2 k h3).2.2.1]
    rfl
theorem x_rnd {q : P2} (J : I_foe z) {n : Nat} (hn : 17 + 16 + 1 ≤ n) : L_X0_twoStreets_45 n 7 (q).1 (q).2 0 (hp L xs z) = some (lp (fun _ a => xr (z.1 10) a) 16 0 q) :=
  lp_r (G := fun n k a => L_X0_twoStreets_45 n 7 (a).1 (a).2 (ii k) (hp L xs z)) (fun _ a => xr (z.1 10) a) (N := 16) (c := 17) (fin := some)
    (fun n k a hk hc => by
      have hk32 : k < 32 := by omega
      show L_X0_twoStreets_45 (n + 1) 7 (a).1 (a).2 (ii k) (hp L xs z) = _
      rw [L_X0_twoStreets_45, if_pos (by rw [show (16 : Int32) = ii 16 from rfl, ii_lt (by omega) (by decide)]; exact hk)]
      simp only [zr_0, zr_1, zr_2, zr_3, zr_4, zr_5, zr_6, x_foes J (show 17 ≤ n by omega), ii_s, btd, or0, Option.bind_some, po_s, po_n, one_ne0, Bool.false_eq_true, not_true, not_false_eq_true, Classical.not_not, ↓reduceIte]
      rfl)
    (fun n a _ => by
      show L_X0_twoStreets_45 (n + 1) 7 (a).1 (a).2 (ii 16) (hp L xs z) = _
      rw [L_X0_twoStreets_45, if_neg (by decide)]) (Nat.zero_add _) (by omega)
theorem m_pass {q : P2} (J : I_foe z) {n : Nat} (hn : 0 + 16 + 1 ≤ n) : L_X6_twoStreets_58 n 105 (q).1 (q).2 0 (hp L xs z) = some (lp (ps (z.1 10)) 16 0 q) :=
  lp_r (G := fun n k a => L_X6_twoStreets_58 n 105 (a).1 (a).2 (ii k) (hp L xs z)) (ps (z.1 10)) (N := 16) (c := 0) (fin := some)
    (fun n k a hk hc => by
      have hk32 : k < 32 := by omega
      show L_X6_twoStreets_58 (n + 1) 105 (a).1 (a).2 (ii k) (hp L xs z) = _
      rw [L_X6_twoStreets_58, if_pos (by rw [show (16 : Int32) = ii 16 from rfl, ii_lt (by omega) (by decide)]; exact hk)]
      simp only [zr_0, zr_1, zr_2, zr_3, zr_4, zr_5, zr_6, za_0, za_1, za_2, za_3, za_4, za_5, hk, m_has hk32, b01, (J k hk).1, ii_s, btd, or0, Option.bind_some, po_s, po_n, one_ne0, Bool.false_eq_true, not_true, not_false_eq_true, Classical.not_not, ↓reduceIte]
      unfold ps
      by_cases c1 : hb a.1 k = true
      · by_cases c2 : hb (a.2 ||| z.1 10 k) k = true <;> simp only [c1, c2, one_ne0, Bool.false_eq_true, not_true, not_false_eq_true, Classical.not_not, ↓reduceIte, Option.bind_some, po_s, po_n]
      · by_cases c2 : hb a.2 k = true <;> simp only [c1, c2, one_ne0, Bool.false_eq_true, not_true, not_false_eq_true, Classical.not_not, ↓reduceIte, Option.bind_some, po_s, po_n])
    (fun n a _ => by
      show L_X6_twoStreets_58 (n + 1) 105 (a).1 (a).2 (ii 16) (hp L xs z) = _
      rw [L_X6_twoStreets_58, if_neg (by decide)]) (Nat.zero_add _) (by omega)
theorem m_cl (J : I_foe z) : ∀ (d n : Nat) (q : P2) (b : Int32), S2 q → 17 ≤ pc (q.1 ||| q.2) + d → d + 20 ≤ n → b ≠ q.1 ||| q.2 → ∃ R : P2, L_X6_twoStreets_42 n 105 q.1 q.2 b (hp L xs z) = some R ∧ S2 R ∧ le2 q R ∧ (∀ C, cls (z.1 10) C → le2 q C → le2 R C) ∧ (cls (z.1 10) R ∨ R.1 &&& R.2 ≠ 0)
  | 0, n, q, b, h1, h2, h3, h4 => by
    have := pc_le (q.1 ||| q.2)
    omega
  | d + 1, n, q, b, h1, h2, h3, h4 => by
    obtain ⟨m, rfl⟩ : ∃ m, n = m + 1 := ⟨n - 1, by omega⟩
    have hN := foe16 J
    obtain ⟨p1, p2, p3, p4⟩ := ps_all hN h1
    rw [L_X6_twoStreets_42, if_neg h4, show L_X6_twoStreets_58 m 105 q.1 q.2 0 (hp L xs z) = _ from m_pass J (by omega), Option.bind_some]
    show ∃ R : P2, L_X6_twoStreets_42 m 105 (pass (z.1 10) q).1 (pass (z.1 10) q).2 (q.1 ||| q.2) (hp L xs z) = some R ∧ _
    generalize pass (z.1 10) q = R at p1 p2 p3 p4
    have hs : sub (q.1 ||| q.2) (R.1 ||| R.2) := sub_or (p2.1.tr sub_l) (p2.2.tr sub_r)
    by_cases e : q.1 ||| q.2 = R.1 ||| R.2
    · obtain ⟨j, rfl⟩ : ∃ j, m = j + 1 := ⟨m - 1, by omega⟩
      rw [L_X6_twoStreets_42, if_pos e]
      refine ⟨R, rfl, p1, p2, p3, ?_⟩
      by_cases o : R.1 &&& R.2 = 0
      · have no : ∀ j, hb R.1 j = true → hb R.2 j = true → False := fun j a b => by
          have := congrArg (fun q => hb q j) o
          rw [hb_and, hb_0, a, b] at this
          cases this
        have eq : R = q := le2.as ⟨fun j hj => by
            have : hb (q.1 ||| q.2) j = true := by rw [e]; exact sub_l j hj
            rw [hb_or, Bool.or_eq_true] at this
            exact this.elim id fun x => (no j hj (p2.2 j x)).elim, fun j hj => by
            have : hb (q.1 ||| q.2) j = true := by rw [e]; exact sub_r j hj
            rw [hb_or, Bool.or_eq_true] at this
            exact this.elim (fun x => (no j (p2.1 j x) hj).elim) id⟩ p2
        subst eq
        exact Or.inl fun a ha => p4 a ha
      · exact Or.inr o
    · have hp2 : pc (q.1 ||| q.2) < pc (R.1 ||| R.2) := by
        have a := pc_mono hs
        have b : pc (q.1 ||| q.2) ≠ pc (R.1 ||| R.2) := fun x => e (pc_eq (s16_or h1.1 h1.2) (s16_or p1.1 p1.2) hs x)
        omega
      obtain ⟨S, s1, s2, s3, s4, s5⟩ := m_cl J d m R (q.1 ||| q.2) p1 (by omega) (by omega) e
      exact ⟨S, s1, s2, p2.tr s3, fun C c1 c2 => s4 C c1 (p3 C c1 c2), s5⟩
theorem x_one (J : I_foe z) {k n : Nat} (hk : k < 16) (hn : 40 ≤ n) (X : P2) (hX : S2 X) : ∃ R : P2, L_X0_twoStreets_6 (n + 1) 7 X.1 X.2 (ii k) (hp L xs z) = L_X0_twoStreets_6 n 7 R.1 R.2 (ii (k + 1)) (hp L xs z) ∧ S2 R ∧ le2 X R ∧
    (¬ (hb (tld z) k = true ∧ ¬ hb (X.1 ||| X.2) k = true) → R = X) ∧ (hb (tld z) k = true ∧ ¬ hb (X.1 ||| X.2) k = true → sub (uni (z.1 10) X.2) X.1 → cls (z.1 10) R ∧ le2 (X.1 ||| bt k, X.2) R ∧ ∀ C, cls (z.1 10) C → le2 (X.1 ||| bt k, X.2) C → le2 R C) := by
  rw [L_X0_twoStreets_6, if_pos (lt16 hk)]
  simp only [zr_0, zr_1, zr_2, zr_3, zr_4, zr_5, zr_6, Option.bind_some, po_s, po_n, x_told, isT_ii hk, b01, e_has (show k < 32 by omega), ii_s, btd]
  by_cases c1 : hb (tld z) k = true
  · by_cases c2 : hb (X.1 ||| X.2) k = true
    · simp only [c1, c2, one_ne0, Bool.false_eq_true, not_true, not_false_eq_true, Classical.not_not, ↓reduceIte]
      exact ⟨X, rfl, hX, le2.rf, fun _ => rfl, fun h => h.2.elim⟩
    · have c2' : hb (X.1 ||| X.2) k = false := by simpa using c2
      simp only [c1, c2', one_ne0, Bool.false_eq_true, not_true, not_false_eq_true, Classical.not_not, ↓reduceIte]
      have x1 : L_X0_twoStreets_45 n 7 (X.1 ||| bt k) X.2 0 (hp L xs z) = _ := x_rnd (L := L) (xs := xs) (q := (X.1 ||| bt k, X.2)) J (n := n) (by omega)
      rw [x1, Option.bind_some]
      have hS : S2 (X.1 ||| bt k, X.2) := ⟨s16_or hX.1 (s16_bt hk), hX.2⟩
      have hl : ∀ r j q, S2 q → S2 (lp (fun _ a => xr (z.1 10) a) r j q) ∧ le2 q (lp (fun _ a => xr (z.1 10) a) r j q) := by
        intro r
        induction r with
        | zero => exact fun j q h => ⟨h, le2.rf⟩
        | succ r ih =>
          intro j q h
          have := ih (j + 1) (xr (z.1 10) q) (S2_xr (foe16 J) h)
          exact ⟨this.1, xr_le.tr this.2⟩
      refine ⟨_, rfl, (hl 16 0 _ hS).1, le2_b.tr (hl 16 0 _ hS).2, fun h => absurd (by simp) h, fun _ h => ?_⟩
      obtain ⟨a1, a2, a3, a4⟩ := xr_all (foe16 J) 16 0 (X.1 ||| bt k, X.2) hS (h.tr sub_l) (by omega)
      exact ⟨a2, a3, a4⟩
  · have c1' : hb (tld z) k = false := by simpa using c1
    simp only [c1', one_ne0, Bool.false_eq_true, not_true, not_false_eq_true, Classical.not_not, ↓reduceIte]
    exact ⟨X, rfl, hX, le2.rf, fun _ => rfl, fun h => absurd h.1 (by simp)⟩
theorem m_one (W : I_who z) (J : I_foe z) {k n : Nat} (hk : k < 16) (hn : 40 ≤ n) (X : P2) (hX : S2 X) : ∃ R : P2, L_X6_twoStreets_6 (n + 1) 105 X.1 X.2 (ii k) (hp L xs z) = L_X6_twoStreets_6 n 105 R.1 R.2 (ii (k + 1)) (hp L xs z) ∧ S2 R ∧ le2 X R ∧
    (¬ (hb (tld z) k = true ∧ ¬ hb (X.1 ||| X.2) k = true) → R = X) ∧ (hb (tld z) k = true ∧ ¬ hb (X.1 ||| X.2) k = true → le2 (X.1 ||| bt k, X.2) R ∧ (∀ C, cls (z.1 10) C → le2 (X.1 ||| bt k, X.2) C → le2 R C) ∧ (cls (z.1 10) R ∨ R.1 &&& R.2 ≠ 0)) := by
  rw [L_X6_twoStreets_6, if_pos (lt16 hk)]
  simp only [zr_0, zr_1, zr_2, zr_3, zr_4, zr_5, zr_6, Option.bind_some, po_s, po_n, m_told W, isT_ii hk, b01, m_has (show k < 32 by omega), ii_s, btd]
  by_cases c1 : hb (tld z) k = true
  · by_cases c2 : hb (X.1 ||| X.2) k = true
    · simp only [c1, c2, one_ne0, Bool.false_eq_true, not_true, not_false_eq_true, Classical.not_not, ↓reduceIte]
      exact ⟨X, rfl, hX, le2.rf, fun _ => rfl, fun h => h.2.elim⟩
    · have c2' : hb (X.1 ||| X.2) k = false := by simpa using c2
      simp only [c1, c2', one_ne0, Bool.false_eq_true, not_true, not_false_eq_true, Classical.not_not, ↓reduceIte]
      have hS : S2 (X.1 ||| bt k, X.2) := ⟨s16_or hX.1 (s16_bt hk), hX.2⟩
      have hm : (-1 : Int32) ≠ (X.1 ||| bt k) ||| X.2 := fun e => by
        have := s16_or hS.1 hS.2 20 (by omega)
        rw [← e] at this
        cases this
      obtain ⟨R, r1, r2, r3, r4, r5⟩ := m_cl (L := L) (xs := xs) J 17 n (X.1 ||| bt k, X.2) (-1) hS (by omega) (by omega) hm
      have r1 : L_X6_twoStreets_42 n 105 (X.1 ||| bt k) X.2 (-1) (hp L xs z) = some R := r1
      rw [r1, Option.bind_some]
      exact ⟨R, rfl, r2, le2_b.tr r3, fun h => absurd (by simp) h, fun _ => ⟨r3, r4, r5⟩⟩
  · have c1' : hb (tld z) k = false := by simpa using c1
    simp only [c1', one_ne0, Bool.false_eq_true, not_true, not_false_eq_true, Classical.not_not, ↓reduceIte]
    exact ⟨X, rfl, hX, le2.rf, fun _ => rfl, fun h => absurd h.1 (by simp)⟩
theorem two_all (W : I_who z) (J : I_foe z) : ∀ (d k n : Nat) (X M : P2), k + d = 16 → d + 60 ≤ n → S2 X → S2 M → (M = X ∧ cls (z.1 10) X ∨ X.1 &&& X.2 ≠ 0 ∧ M.1 &&& M.2 ≠ 0) → ∃ X' M' : P2, L_X0_twoStreets_6 n 7 X.1 X.2 (ii k) (hp L xs z) = some X' ∧ L_X6_twoStreets_6 n 105 M.1 M.2 (ii k) (hp L xs z) = some M' ∧ (M' = X' ∨ X'.1 &&& X'.2 ≠ 0 ∧ M'.1 &&& M'.2 ≠ 0)
  | 0, k, n, X, M, h1, h2, h3, h4, h5 => by
    obtain ⟨m, rfl⟩ : ∃ m, n = m + 1 := ⟨n - 1, by omega⟩
    obtain rfl : k = 16 := by omega
    rw [L_X0_twoStreets_6, if_neg (by decide), L_X6_twoStreets_6, if_neg (by decide)]
    exact ⟨X, M, rfl, rfl, h5.imp (fun h => h.1) id⟩
  | d + 1, k, n, X, M, h1, h2, h3, h4, h5 => by
    obtain ⟨m, rfl⟩ : ∃ m, n = m + 1 := ⟨n - 1, by omega⟩
    have hk : k < 16 := by omega
    obtain ⟨R, r1, r2, r3, r4, r5⟩ := x_one (L := L) (xs := xs) J hk (show 40 ≤ m by omega) X h3
    obtain ⟨S, s1, s2, s3, s4, s5⟩ := m_one (L := L) (xs := xs) W J hk (show 40 ≤ m by omega) M h4
    rw [r1, s1]
    refine two_all W J d (k + 1) m R S (by omega) (by omega) r2 s2 ?_
    rcases h5 with ⟨rfl, hc⟩ | ⟨o1, o2⟩
    · by_cases c : hb (tld z) k = true ∧ ¬ hb (M.1 ||| M.2) k = true
      · obtain ⟨a1, a2, a3⟩ := r5 c (uni_sub fun a ha hb' => (hc a ha).2 hb')
        obtain ⟨b1, b2, b3⟩ := s5 c
        have hl := b2 R a1 a2
        rcases b3 with b3 | b3
        · exact Or.inl ⟨hl.as (a3 S b3 b1), a1⟩
        · exact Or.inr ⟨hl.ov b3, b3⟩
      · rw [r4 c, s4 c]
        exact Or.inl ⟨rfl, hc⟩
    · exact Or.inr ⟨r3.ov o1, s3.ov o2⟩
theorem o_twoStreets {n : Nat} (I : Inv z) (hn : 80 ≤ n) : Op L xs z (rd fun h => F_X0_twoStreets n h 7) (rd fun h => F_X6_twoStreets n h 105) := by
  have h0 : ∀ a, ¬ hb (0 : Int32) a = true := fun a => by rw [hb_0]; decide
  obtain ⟨X, M, h1, h2, h3⟩ := two_all (L := L) (xs := xs) I.1 I.2.2.1 16 0 n (0, 0) (0, 0) rfl (by omega) ⟨s16_0, s16_0⟩ ⟨s16_0, s16_0⟩ (Or.inl ⟨rfl, fun a _ => ⟨fun h => absurd h (h0 a), fun h => absurd h (h0 a)⟩⟩)
  have h1 : L_X0_twoStreets_6 n 7 0 0 0 (hp L xs z) = some X := h1
  have h2 : L_X6_twoStreets_6 n 105 0 0 0 (hp L xs z) = some M := h2
  refine Op.rd I (r := if X.1 &&& X.2 = 0 then X.2 else -2) ?_ ?_
  · unfold F_X0_twoStreets
    rw [h1, Option.bind_some]
    split <;> rfl
  · unfold F_X6_twoStreets
    rw [h2, Option.bind_some]
    rcases h3 with rfl | ⟨o1, o2⟩
    · split <;> rfl
    · rw [if_neg o1, if_neg o2]
end
