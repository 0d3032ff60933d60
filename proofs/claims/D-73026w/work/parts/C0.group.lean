/-! THE PLAIN LAW: who hangs together -/
set_option maxRecDepth 100000
def sub (s t : Int32) : Prop := ∀ k, hb s k = true → hb t k = true
def stp (N : Nat → Int32) (s : Int32) : Int32 := lp (fun a t => if hb s a = true then t ||| N a else t) 16 0 s
theorem hb_stp' (N : Nat → Int32) (s : Int32) (k : Nat) : ∀ (r : Nat), hb (lp (fun a t => if hb s a = true then t ||| N a else t) r 0 s) k = true ↔ (hb s k = true ∨ ∃ a, a < r ∧ hb s a = true ∧ hb (N a) k = true)
  | 0 => ⟨fun h => Or.inl h, fun h => h.elim id fun ⟨a, h, _⟩ => absurd h (by omega)⟩
  | r + 1 => by
    rw [lp_s, Nat.zero_add]
    have ih := hb_stp' N s k r
    by_cases c : hb s r = true
    · rw [if_pos c, hb_or, Bool.or_eq_true, ih]
      refine ⟨fun h => ?_, fun h => ?_⟩
      · rcases h with (h | ⟨a, h1, h2⟩) | h
        · exact Or.inl h
        · exact Or.inr ⟨a, by omega, h2⟩
        · exact Or.inr ⟨r, by omega, c, h⟩
      · rcases h with h | ⟨a, h1, h2, h3⟩
        · exact Or.inl (Or.inl h)
        · by_cases e : a = r
          · subst e; exact Or.inr h3
          · exact Or.inl (Or.inr ⟨a, by omega, h2, h3⟩)
    · rw [if_neg c, ih]
      refine ⟨fun h => ?_, fun h => ?_⟩
      · rcases h with h | ⟨a, h1, h2⟩
        · exact Or.inl h
        · exact Or.inr ⟨a, by omega, h2⟩
      · rcases h with h | ⟨a, h1, h2, h3⟩
        · exact Or.inl h
        · by_cases e : a = r
          · subst e; exact absurd h2 c
          · exact Or.inr ⟨a, by omega, h2, h3⟩
theorem hb_stp {N : Nat → Int32} {s : Int32} {k : Nat} : hb (stp N s) k = true ↔ (hb s k = true ∨ ∃ a, a < 16 ∧ hb s a = true ∧ hb (N a) k = true) := hb_stp' N s k 16
theorem s16_lt {s : Int32} {k : Nat} (h : s16 s) (hk : hb s k = true) : k < 16 := Classical.byContradiction fun hn => by
  rw [h k (by omega)] at hk
  cases hk
theorem s16_stp {N : Nat → Int32} {s : Int32} (hN : ∀ a, a < 16 → s16 (N a)) (h : s16 s) : s16 (stp N s) := fun k hk => by
  cases e : hb (stp N s) k with
  | false => rfl
  | true =>
    rcases hb_stp.mp e with h1 | ⟨a, h1, h2, h3⟩
    · rw [h k hk] at h1; cases h1
    · rw [hN a h1 k hk] at h3; cases h3
theorem pcN_mono {s t : Int32} (h : sub s t) : ∀ r, pcN s r ≤ pcN t r ∧ (pcN s r = pcN t r → ∀ k, k < r → hb s k = hb t k)
  | 0 => ⟨Nat.le_refl _, fun _ k hk => absurd hk (by omega)⟩
  | r + 1 => by
    obtain ⟨h1, h2⟩ := pcN_mono h r
    have h3 : (hb s r).toNat ≤ (hb t r).toNat := by
      cases e : hb s r with
      | false => exact Nat.zero_le _
      | true => rw [h r e]; exact Nat.le_refl _
    refine ⟨Nat.add_le_add h1 h3, fun e k hk => ?_⟩
    have e : pcN s r + (hb s r).toNat = pcN t r + (hb t r).toNat := e
    by_cases hr : k = r
    · subst hr
      have : (hb s k).toNat = (hb t k).toNat := by omega
      cases a : hb s k <;> cases b : hb t k <;> rw [a, b] at this <;> first | rfl | cases this
    · exact h2 (by omega) k (by omega)
theorem pc_mono {s t : Int32} (h : sub s t) : pc s ≤ pc t := (pcN_mono h 16).1
theorem pc_eq {s t : Int32} (hs : s16 s) (ht : s16 t) (h : sub s t) (e : pc s = pc t) : s = t := s16_ext hs ht fun k hk => (pcN_mono h 16).2 e k hk
/-- the least set with p that is closed -/
def clo (N : Nat → Int32) (T : Int32) : Prop := ∀ a b, a < 16 → hb T a = true → hb (N a) b = true → hb T b = true
def isG (N : Nat → Int32) (p : Nat) (R : Int32) : Prop := s16 R ∧ hb R p = true ∧ clo N R ∧ ∀ T, hb T p = true → clo N T → sub R T
theorem isG_u {N : Nat → Int32} {p : Nat} {R S : Int32} (h1 : isG N p R) (h2 : isG N p S) : R = S := s16_ext h1.1 h2.1 fun k _ => by
  have a := h1.2.2.2 S h2.2.1 h2.2.2.1 k
  have b := h2.2.2.2 R h1.2.1 h1.2.2.1 k
  cases c : hb R k <;> cases d : hb S k
  · rfl
  · rw [c] at b; cases b d
  · rw [d] at a; cases a c
  · rfl
theorem grp_loop {N : Nat → Int32} {p c : Nat} {G : Nat → Int32 → Int32 → Option Int32} (hN : ∀ a, a < 16 → s16 (N a)) (hp : p < 16)
    (step : ∀ n prev more, c ≤ n → G (n + 1) prev more = if more = prev then some prev else G n more (stp N more)) {n : Nat} (hn : c + 20 ≤ n) : ∃ R, G n 0 (bt p) = some R ∧ isG N p R := by
  have main : ∀ (d n : Nat) (s : Int32), s16 s → 16 - pc s ≤ d → c + d + 1 ≤ n → hb s p = true → (∀ T, hb T p = true → clo N T → sub s T) → ∃ R, G n s (stp N s) = some R ∧ isG N p R := by
    intro d
    induction d with
    | zero =>
      intro n s h1 h2 h3 h4 h5
      obtain ⟨m, rfl⟩ : ∃ m, n = m + 1 := ⟨n - 1, by omega⟩
      have hs : sub s (stp N s) := fun k hk => hb_stp.mpr (Or.inl hk)
      have e : s = stp N s := pc_eq h1 (s16_stp hN h1) hs (by have := pc_mono hs; have := pc_le (stp N s); omega)
      rw [step m s _ (by omega), if_pos e.symm]
      exact ⟨s, rfl, h1, h4, fun a b ha h6 h7 => by rw [e]; exact hb_stp.mpr (Or.inr ⟨a, ha, h6, h7⟩), h5⟩
    | succ d ih =>
      intro n s h1 h2 h3 h4 h5
      obtain ⟨m, rfl⟩ : ∃ m, n = m + 1 := ⟨n - 1, by omega⟩
      have hs : sub s (stp N s) := fun k hk => hb_stp.mpr (Or.inl hk)
      rw [step m s _ (by omega)]
      by_cases e : stp N s = s
      · rw [if_pos e]
        exact ⟨s, rfl, h1, h4, fun a b ha h6 h7 => by rw [← e]; exact hb_stp.mpr (Or.inr ⟨a, ha, h6, h7⟩), h5⟩
      · rw [if_neg e]
        refine ih m (stp N s) (s16_stp hN h1) ?_ (by omega) (hs p h4) (fun T t1 t2 k hk => ?_)
        · have a := pc_mono hs
          have b : pc s ≠ pc (stp N s) := fun q => e (pc_eq h1 (s16_stp hN h1) hs q).symm
          omega
        · rcases hb_stp.mp hk with h6 | ⟨a, h6, h7, h8⟩
          · exact h5 T t1 t2 k h6
          · exact t2 a k h6 (h5 T t1 t2 a h7) h8
  obtain ⟨m, rfl⟩ : ∃ m, n = m + 1 := ⟨n - 1, by omega⟩
  have hb0 : hb (bt p) p = true := by rw [hb_bt (by omega)]; exact decide_eq_true rfl
  rw [step m 0 _ (by omega), if_neg (fun e => by rw [e, hb_0] at hb0; cases hb0)]
  refine main 16 m (bt p) (s16_bt hp) (by omega) (by omega) hb0 (fun T t1 t2 k hk => ?_)
  rw [hb_bt (by omega)] at hk
  rw [of_decide_eq_true hk]
  exact t1
section
variable {L : Nat} {xs : Nat → Int32} {z : z_T}
theorem x_grp' {s t : Int32} {n : Nat} (hn : 0 + 16 + 1 ≤ n) : L_X0_groupOf_16 n 8 s t 0 (hp L xs z) = some (lp (fun a t => if hb s a = true then t ||| fr z a else t) 16 0 t) :=
  lp_r (G := fun n k a => L_X0_groupOf_16 n 8 s a (ii k) (hp L xs z)) (fun a t => if hb s a = true then t ||| fr z a else t) (N := 16) (c := 0) (fin := some)
    (fun n k a hk hc => by
      have hk32 : k < 32 := by omega
      show L_X0_groupOf_16 (n + 1) 8 s a (ii k) (hp L xs z) = _
      rw [L_X0_groupOf_16, if_pos (by rw [show (16 : Int32) = ii 16 from rfl, ii_lt (by omega) (by decide)]; exact hk)]
      simp only [zr_0, zr_1, zr_2, zr_3, zr_4, zr_5, zr_6, e_has hk32, b01, x_fr hk, ii_s, btd, or0, Option.bind_some, po_s, po_n, one_ne0, Bool.false_eq_true, not_true, not_false_eq_true, Classical.not_not, ↓reduceIte]
      by_cases c1 : hb s k = true <;> simp [c1])
    (fun n a _ => by
      show L_X0_groupOf_16 (n + 1) 8 s a (ii 16) (hp L xs z) = _
      rw [L_X0_groupOf_16, if_neg (by decide)]) (Nat.zero_add _) (by omega)
theorem m_grp' {s t : Int32} (W : I_who z) (J : I_foe z) {A : Int32} {n : Nat} (hn : 0 + 16 + 1 ≤ n) : L_X6_groupOf_19 n 105 A t s 0 (hp L xs z) = some (lp (fun a t => if hb s a = true then t ||| (fr z a &&& A) else t) 16 0 t) :=
  lp_r (G := fun n k a => L_X6_groupOf_19 n 105 A a s (ii k) (hp L xs z)) (fun a t => if hb s a = true then t ||| (fr z a &&& A) else t) (N := 16) (c := 0) (fin := some)
    (fun n k a hk hc => by
      have hk32 : k < 32 := by omega
      show L_X6_groupOf_19 (n + 1) 105 A a s (ii k) (hp L xs z) = _
      rw [L_X6_groupOf_19, if_pos (by rw [show (16 : Int32) = ii 16 from rfl, ii_lt (by omega) (by decide)]; exact hk)]
      simp only [zr_0, zr_1, zr_2, zr_3, zr_4, zr_5, zr_6, m_has hk32, b01, m_fr W J hk, ii_s, btd, or0, Option.bind_some, po_s, po_n, one_ne0, Bool.false_eq_true, not_true, not_false_eq_true, Classical.not_not, ↓reduceIte]
      by_cases c1 : hb s k = true <;> simp [c1])
    (fun n a _ => by
      show L_X6_groupOf_19 (n + 1) 105 A a s (ii 16) (hp L xs z) = _
      rw [L_X6_groupOf_19, if_neg (by decide)]) (Nat.zero_add _) (by omega)
theorem x_grp {p n : Nat} (W : I_who z) (h : p < 16) (hn : 40 ≤ n) : ∃ R, F_X0_groupOf n (hp L xs z) 8 (ii p) = some R ∧ isG (fr z) p R := by
  obtain ⟨R, h1, h2⟩ := grp_loop (N := fr z) (c := 18) (G := fun n prev more => L_X0_groupOf_6 n 8 prev more (hp L xs z)) (fun a _ => s16_fr W) h (fun n prev more hc => by
    show L_X0_groupOf_6 (n + 1) 8 prev more (hp L xs z) = _
    rw [L_X0_groupOf_6]
    by_cases e : more = prev
    · rw [if_pos e, if_pos e]
    · rw [if_neg e, if_neg e, x_grp' (by omega)]
      rfl) (n := n) (by omega)
  refine ⟨R, ?_, h2⟩
  unfold F_X0_groupOf
  rw [btd, show L_X0_groupOf_6 n 8 0 (bt p) (hp L xs z) = some R from h1]
  rfl
theorem m_grp {p n : Nat} {A : Int32} (W : I_who z) (J : I_foe z) (h : p < 16) (hn : 40 ≤ n) : ∃ R, F_X6_groupOf n (hp L xs z) 105 (ii p) A = some R ∧ isG (fun a => fr z a &&& A) p R := by
  obtain ⟨R, h1, h2⟩ := grp_loop (N := fun a => fr z a &&& A) (c := 18) (G := fun n prev more => L_X6_groupOf_7 n 105 A more prev (hp L xs z)) (fun a _ => s16_al (s16_fr W)) h (fun n prev more hc => by
    show L_X6_groupOf_7 (n + 1) 105 A more prev (hp L xs z) = _
    rw [L_X6_groupOf_7]
    by_cases e : more = prev
    · rw [if_pos e, if_pos e, e]
    · rw [if_neg e, if_neg e, m_grp' W J (by omega)]
      rfl) (n := n) (by omega)
  refine ⟨R, ?_, h2⟩
  unfold F_X6_groupOf
  rw [btd, show L_X6_groupOf_7 n 105 A (bt p) 0 (hp L xs z) = some R from h1]
  rfl
end
