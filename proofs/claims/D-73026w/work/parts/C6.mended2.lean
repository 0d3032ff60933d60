/-! THE PLAIN LAW: mended, joined -/
set_option maxRecDepth 100000
def sb {α β γ : Type} (q : β ⊕ α) (g : α → β ⊕ γ) : β ⊕ γ := match q with | .inl b => .inl b | .inr a => g a
theorem le_1 {α β : Type} (f : Nat → α → β ⊕ α) (r k : Nat) (a : α) : le f (r + 1) k a = sb (f k a) (fun a => le f r (k + 1) a) := by
  rw [le]
  cases f k a <;> rfl
theorem le_s {α β : Type} (f : Nat → α → β ⊕ α) : ∀ (r k : Nat) (a : α), le f (r + 1) k a = sb (le f r k a) (fun a => f (k + r) a)
  | 0, k, a => by
    rw [le_1]
    show sb (f k a) (fun a => Sum.inr a) = f k a
    cases f k a <;> rfl
  | r + 1, k, a => by
    rw [le_1, le_1 f r k a]
    cases f k a with
    | inl b => rfl
    | inr a =>
      show le f (r + 1) (k + 1) a = sb (le f r (k + 1) a) _
      rw [le_s f r (k + 1) a, show k + 1 + r = k + (r + 1) by omega]
section
variable {L : Nat} {xs : Nat → Int32} {z : z_T}
def s_gx (z : z_T) (k : Nat) (a : Int32) : Int32 := if hb (tld z) k = true then (if lw (grp (frd (tld z) (z.1 10)) k) = k then a + 1 else a) else a
theorem x_gx (W : I_who z) {n : Nat} (hn : 40 + 16 + 1 ≤ n) : L_X0_groups_4 n 7 0 0 (hp L xs z) = some (lp (s_gx z) 16 0 0) :=
  lp_r (G := fun n k a => L_X0_groups_4 n 7 a (ii k) (hp L xs z)) (s_gx z) (N := 16) (c := 40) (fin := some)
    (fun n k a hk hc => by
      have hk32 : k < 32 := by omega
      show L_X0_groups_4 (n + 1) 7 a (ii k) (hp L xs z) = _
      rw [L_X0_groups_4, if_pos (by rw [show (16 : Int32) = ii 16 from rfl, ii_lt (by omega) (by decide)]; exact hk)]
      simp only [zr_0, zr_1, zr_2, zr_3, zr_4, zr_5, zr_6, x_told, isT_ii hk, b01, x_grpE W hk (show 40 ≤ n by omega), add0, ii_s, btd, or0, Option.bind_some, po_s, po_n, one_ne0, Bool.false_eq_true, not_true, not_false_eq_true, Classical.not_not, ↓reduceIte]
      have G := grp_is (N := frd (tld z) (z.1 10)) (fun a _ => s16_frd W.1) hk
      have hl := (lw_spec G.1 (grp_ne W.1 hk)).1
      unfold s_gx
      by_cases c1 : hb (tld z) k = true
      · simp only [c1, one_ne0, Bool.false_eq_true, not_true, not_false_eq_true, Classical.not_not, ↓reduceIte, Option.bind_some, po_s, po_n, e_low G.1, ii_eq (a := lw (grp (frd (tld z) (z.1 10)) k)) (b := k) (by omega) (by omega)]
        by_cases c2 : lw (grp (frd (tld z) (z.1 10)) k) = k <;> simp only [c2, ↓reduceIte]
      · simp only [c1, one_ne0, Bool.false_eq_true, not_true, not_false_eq_true, Classical.not_not, ↓reduceIte, Option.bind_some, po_s, po_n])
    (fun n a _ => by
      show L_X0_groups_4 (n + 1) 7 a (ii 16) (hp L xs z) = _
      rw [L_X0_groups_4, if_neg (by decide)]) (Nat.zero_add _) (by omega)
theorem mx_ne : ∀ (r k : Nat) (b : Int32), k + r ≤ 16 → le (s_mx z) r k () = .inl b → b ≠ -2
  | 0, _, _, _, h => nomatch h
  | r + 1, k, b, hk, h => by
    rw [le_1] at h
    unfold s_mx at h
    by_cases c1 : hb (tld z) k = true
    · by_cases c2 : lwN (dif z k) (15 - k) (k + 1) = 32
      · rw [if_pos c1, if_pos c2] at h
        exact mx_ne r (k + 1) b (by omega) h
      · rw [if_pos c1, if_neg c2] at h
        cases h
        rcases lwN_ge (dif z k) (15 - k) (k + 1) with e | ⟨_, e, _⟩
        · exact absurd e c2
        · exact ii_ne2 (by omega)
    · rw [if_neg c1] at h
      exact mx_ne r (k + 1) b (by omega) h
def chu (r : Int32 ⊕ Unit) : Int32 := match r with | .inl b => b | .inr _ => -2
def I_mm (z : z_T) (k : Nat) (a : Int32 × Int32 × Int32) : Prop := a.1 = lp (s_gx z) k 0 0 ∧ (∀ j, hb a.2.1 j = true ↔ ∃ q, q < k ∧ hb (tld z) q = true ∧ hb (grp (frd (tld z) (z.1 10)) q) j = true) ∧ a.2.2 = chu (le (s_mx z) k 0 ())
theorem mm_step (W : I_who z) (J : I_foe z) {k : Nat} {a : Int32 × Int32 × Int32} (hk : k < 16) (I : I_mm z k a) : I_mm z (k + 1) (s_mm z k a) := by
  have h := sym_I W J
  unfold I_mm
  obtain ⟨i1, i2, i3⟩ := I
  have G := grp_is (N := frd (tld z) (z.1 10)) (fun a _ => s16_frd h.1) hk
  obtain ⟨l1, l2, l3⟩ := lw_spec G.1 (grp_ne h.1 hk)
  rw [lp_s, Nat.zero_add, ← i1, le_s]
  have hfirst : (if hb (tld z) k = true then (if a.2.2 = -2 then men z k k else a.2.2) else a.2.2) = chu (sb (le (s_mx z) k 0 ()) (fun a => s_mx z (0 + k) a)) := by
    rw [i3, Nat.zero_add]
    have hne := mx_ne (z := z) k 0
    cases e : le (s_mx z) k 0 () with
    | inl b =>
      have hb2 := hne b (by omega) e
      show (if hb (tld z) k = true then (if b = -2 then men z k k else b) else b) = b
      rw [if_neg hb2]
      split <;> rfl
    | inr u =>
      show (if hb (tld z) k = true then (if (-2 : Int32) = -2 then men z k k else -2) else -2) = chu (s_mx z k u)
      rw [if_pos rfl]
      unfold s_mx men
      by_cases c1 : hb (tld z) k = true
      · by_cases c2 : lwN (dif z k) (15 - k) (k + 1) = 32
        · simp only [c1, c2, ↓reduceIte]; rfl
        · simp only [c1, c2, ↓reduceIte]; rfl
      · simp only [c1, ↓reduceIte]; rfl
  by_cases c1 : hb (tld z) k = true
  · rw [if_pos c1] at hfirst
    have le1 : lw (grp (frd (tld z) (z.1 10)) k) ≤ k := Classical.byContradiction fun hn => by
      have g := G.2.1
      rw [l3 k (by omega)] at g
      cases g
    have hS : s_mm z k a = (if hb a.2.1 k = true then a.1 else a.1 + 1, a.2.1 ||| grp (frd (tld z) (z.1 10)) k, if a.2.2 = -2 then men z k k else a.2.2) := if_pos c1
    have hG : s_gx z k a.1 = if lw (grp (frd (tld z) (z.1 10)) k) = k then a.1 + 1 else a.1 := if_pos c1
    rw [hS, hG]
    refine ⟨?_, fun j => ?_, hfirst⟩
    · show (if hb a.2.1 k = true then a.1 else a.1 + 1) = _
      by_cases c2 : hb a.2.1 k = true
      · obtain ⟨q, h1, h2, h3⟩ := (i2 k).mp c2
        have hb1 := grp_back h h2 h3
        have hne : lw (grp (frd (tld z) (z.1 10)) k) ≠ k := fun e => by
          rw [l3 q (by omega)] at hb1
          cases hb1
        rw [if_pos c2, if_neg hne]
      · have hlw : lw (grp (frd (tld z) (z.1 10)) k) = k := Classical.byContradiction fun hn => c2 ((i2 k).mpr ⟨lw (grp (frd (tld z) (z.1 10)) k), by omega, grp_told h.1 c1 _ l2, grp_back h c1 l2⟩)
        rw [if_neg c2, if_pos hlw]
    · show hb (a.2.1 ||| grp (frd (tld z) (z.1 10)) k) j = true ↔ _
      rw [hb_or, Bool.or_eq_true, i2]
      refine ⟨fun e => ?_, fun ⟨q, a1, a2, a3⟩ => ?_⟩
      · rcases e with ⟨q, a1, a2⟩ | e
        · exact ⟨q, by omega, a2⟩
        · exact ⟨k, by omega, c1, e⟩
      · by_cases e : q = k
        · subst e; exact Or.inr a3
        · exact Or.inl ⟨q, by omega, a2, a3⟩
  · rw [if_neg c1] at hfirst
    have hS : s_mm z k a = a := if_neg c1
    have hG : s_gx z k a.1 = a.1 := if_neg c1
    rw [hS, hG]
    refine ⟨rfl, fun j => (i2 j).trans ⟨fun ⟨q, a1, a2⟩ => ⟨q, by omega, a2⟩, fun ⟨q, a1, a2, a3⟩ => ?_⟩, hfirst⟩
    by_cases e : q = k
    · subst e; exact absurd a2 c1
    · exact ⟨q, by omega, a2, a3⟩
theorem mm_eq (W : I_who z) (J : I_foe z) : (lp (s_mm z) 16 0 ((0, 0, -2) : Int32 × Int32 × Int32)).1 = lp (s_gx z) 16 0 0 ∧ (lp (s_mm z) 16 0 ((0, 0, -2) : Int32 × Int32 × Int32)).2.2 = chu (le (s_mx z) 16 0 ()) := by
  have h := sym_I W J
  have ba : ((0, 0, -2) : Int32 × Int32 × Int32).1 = lp (s_gx z) 0 0 0 ∧ (∀ j, hb ((0, 0, -2) : Int32 × Int32 × Int32).2.1 j = true ↔ ∃ q, q < 0 ∧ hb (tld z) q = true ∧ hb (grp (frd (tld z) (z.1 10)) q) j = true) ∧ ((0, 0, -2) : Int32 × Int32 × Int32).2.2 = chu (le (s_mx z) 0 0 ()) := by
    refine ⟨rfl, fun j => ?_, rfl⟩
    rw [show hb ((0, 0, -2) : Int32 × Int32 × Int32).2.1 j = hb 0 j from rfl, hb_0]
    exact ⟨fun e => (nomatch e), fun ⟨q, h1, _⟩ => absurd h1 (by omega)⟩
  have key : I_mm z 16 (lp (s_mm z) 16 0 ((0, 0, -2) : Int32 × Int32 × Int32)) := lp_inv (f := s_mm z) (N := 16) (I := I_mm z) (fun k a hk I => mm_step W J hk I) 16 0 ((0, 0, -2) : Int32 × Int32 × Int32) rfl ba
  exact ⟨key.1, key.2.2⟩
theorem o_mended {w : Int32} {n : Nat} (I : Inv z) (hn : 120 ≤ n) : Op L xs z (rd fun h => F_X0_mended n h 7 w) (rd fun h => F_X6_mended n h 105 w) := by
  have hm : L_X6_mended_22 n 105 0 0 (-2) 0 (hp L xs z) = _ := m_mm (L := L) (xs := xs) I.1 I.2.2.1 hn
  rw [(mm_eq I.1 I.2.2.1).1, (mm_eq I.1 I.2.2.1).2] at hm
  by_cases hw : ¬ w < 0 ∧ ¬ (1 : Int32) < w
  · by_cases h0 : w = 0
    · subst h0
      refine Op.rd I (r := mx 0 (lp (s_gx z) 16 0 0 - 1)) ?_ ?_
      · unfold F_X0_mended F_X0_groups
        rw [e_in]
        simp only [zr_0, zr_1, zr_2, zr_3, zr_4, zr_5, zr_6, Option.bind_some, po_s, po_n, n01, hw, b01, one_ne0, Bool.false_eq_true, not_true, not_false_eq_true, Classical.not_not, ↓reduceIte, and_self, eq_self, x_gx I.1 (show 40 + 16 + 1 ≤ n by omega), e_max]
      · unfold F_X6_mended
        rw [m_in, hm]
        simp only [Option.bind_some, po_s, po_n, hw, b01, one_ne0, Bool.false_eq_true, not_true, not_false_eq_true, Classical.not_not, ↓reduceIte, and_self, show ¬ (0 : Int32) = 1 by decide, m_max]
    · obtain rfl : w = 1 := by
        obtain ⟨k, a1, a2, rfl⟩ := in_of 0 1 (by decide) (by decide) hw
        obtain rfl | rfl : k = 0 ∨ k = 1 := by omega
        · exact absurd rfl h0
        · rfl
      refine Op.rd I (r := chu (le (s_mx z) 16 0 ())) ?_ ?_
      · unfold F_X0_mended
        rw [e_in]
        simp only [zr_0, zr_1, zr_2, zr_3, zr_4, zr_5, zr_6, n01, hw, h0, b01, one_ne0, Bool.false_eq_true, not_true, not_false_eq_true, Classical.not_not, ↓reduceIte, and_self, Option.bind_some, x_mx I.1 (show 60 + 16 + 1 ≤ n by omega)]
        cases le (s_mx z) 16 0 () <;> rfl
      · unfold F_X6_mended
        rw [m_in, hm]
        simp only [Option.bind_some, po_s, po_n, hw, b01, one_ne0, Bool.false_eq_true, not_true, not_false_eq_true, Classical.not_not, ↓reduceIte, and_self, eq_self]
  · refine Op.rd I (r := -1) ?_ ?_
    · unfold F_X0_mended
      rw [e_in]
      simp only [Option.bind_some, po_s, po_n, n01, hw, b01, one_ne0, Bool.false_eq_true, not_true, not_false_eq_true, Classical.not_not, ↓reduceIte]
    · unfold F_X6_mended
      rw [m_in]
      simp only [Option.bind_some, po_s, po_n, hw, b01, one_ne0, Bool.false_eq_true, not_true, not_false_eq_true, Classical.not_not, ↓reduceIte]
end
