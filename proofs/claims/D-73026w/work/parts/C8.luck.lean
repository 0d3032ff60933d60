/-! THE PLAIN LAW: luckless -/
set_option maxRecDepth 100000
def o4 (o : Option Nat) : Int32 := match o with | none => -4 | some j => ii j
def s_lk (v : Nat → Int32) (A : Int32) (k : Nat) (o : Option Nat) : Option Nat := if hb A k = true then (match o with | none => some k | some j => if v j < v k then some k else some j) else o
def bst (v : Nat → Int32) (A : Int32) : Option Nat := lp (s_lk v A) 16 0 none
theorem ii_ne4 {k : Nat} (h : k < 2147483648) : ¬ ii k = -4 := fun e => by
  have := ii_nn h
  rw [e] at this
  exact this (by decide)
theorem lk_i {v : Nat → Int32} {A : Int32} {k : Nat} {o : Option Nat} (hk : k < 16) (I : (∀ j, o = some j → j < 16 ∧ hb A j = true) ∧ (o = none → ∀ j, j < k → hb A j = false)) : (∀ j, s_lk v A k o = some j → j < 16 ∧ hb A j = true) ∧ (s_lk v A k o = none → ∀ j, j < k + 1 → hb A j = false) := by
  unfold s_lk
  by_cases c : hb A k = true
  · rw [if_pos c]
    cases o with
    | none => exact ⟨fun j h => by cases h; exact ⟨hk, c⟩, fun h => nomatch h⟩
    | some i =>
      show (∀ j, (if v i < v k then some k else some i) = some j → _) ∧ ((if v i < v k then some k else some i) = none → _)
      by_cases c2 : v i < v k
      · rw [if_pos c2]
        exact ⟨fun j h => by cases h; exact ⟨hk, c⟩, fun h => nomatch h⟩
      · rw [if_neg c2]
        exact ⟨I.1, fun h => nomatch h⟩
  · rw [if_neg c]
    refine ⟨I.1, fun h j hj => ?_⟩
    by_cases e : j = k
    · subst e; simpa using c
    · exact I.2 h j (by omega)
theorem bst_i (v : Nat → Int32) (A : Int32) : (∀ j, bst v A = some j → j < 16 ∧ hb A j = true) ∧ (bst v A = none → ∀ j, j < 16 → hb A j = false) :=
  lp_inv (f := s_lk v A) (N := 16) (I := fun k o => (∀ j, o = some j → j < 16 ∧ hb A j = true) ∧ (o = none → ∀ j, j < k → hb A j = false)) (fun k a hk I => lk_i hk I) 16 0 none rfl ⟨fun j h => (nomatch h), fun _ j hj => absurd hj (by omega)⟩
theorem bst_lw {v : Nat → Int32} {A : Int32} (h : s16 A) (hA : A ≠ 0) : lp (s_lk v A) (16 - lw A) (lw A) (some (lw A)) = bst v A := by
  obtain ⟨h1, h2, h3⟩ := lw_spec h hA
  unfold bst
  generalize lw A = l at h1 h2 h3 ⊢
  have e1 : lp (s_lk v A) 16 0 none = lp (s_lk v A) (16 - l) l none := by
    have : (16 : Nat) = l + (16 - l) := by omega
    rw [show lp (s_lk v A) 16 0 none = lp (s_lk v A) (l + (16 - l)) 0 none by rw [← this], lp_add, Nat.zero_add]
    rw [lp_id (N := l) l 0 none (by omega) fun j a _ hj => by unfold s_lk; rw [if_neg]; rw [h3 j hj]; decide]
  rw [e1, show 16 - l = (15 - l) + 1 by omega]
  show lp (s_lk v A) (15 - l) (l + 1) (s_lk v A l (some l)) = lp (s_lk v A) (15 - l) (l + 1) (s_lk v A l none)
  have a1 : s_lk v A l (some l) = some l := by
    unfold s_lk
    rw [if_pos h2]
    show (if v l < v l then some l else some l) = some l
    split <;> rfl
  have a2 : s_lk v A l none = some l := by
    unfold s_lk
    rw [if_pos h2]
  rw [a1, a2]
theorem pcN_out {A : Int32} {j : Nat} (hj : j < 32) (h : hb A j = true) : ∀ r, pcN (A &&& (bt j ^^^ (-1))) r + (if j < r then 1 else 0) = pcN A r
  | 0 => rfl
  | r + 1 => by
    have ih := pcN_out hj h r
    have e : hb (A &&& (bt j ^^^ (-1))) r = (hb A r && !decide (r = j)) := by
      rw [hb_and, hb_not, hb_bt hj]
      by_cases h32 : r < 32
      · simp [h32]
      · rw [hb_ge (s := A) (by omega)]; simp
    show pcN (A &&& (bt j ^^^ (-1))) r + (hb (A &&& (bt j ^^^ (-1))) r).toNat + _ = pcN A r + (hb A r).toNat
    rw [e]
    by_cases c : r = j
    · subst c
      rw [if_neg (by omega)] at ih
      rw [if_pos (by omega), h, decide_eq_true rfl]
      show pcN (A &&& (bt r ^^^ (-1))) r + 0 + 1 = pcN A r + 1
      omega
    · have : (j < r + 1) = (j < r) := by apply propext; omega
      simp only [this]
      simp only [c, decide_false, Bool.not_false, Bool.and_true]
      omega
theorem pc_out {A : Int32} {j : Nat} (hj : j < 16) (h : hb A j = true) : pc (A &&& (bt j ^^^ (-1))) + 1 = pc A := by
  have := pcN_out (by omega) h 16
  rw [if_pos hj] at this
  exact this
theorem pc_0 : pc 0 = 0 := rfl
def nxA (v : Nat → Int32) (A : Int32) : Int32 := match bst v A with | none => A | some j => A &&& (bt j ^^^ (-1))
def itA (v : Nat → Int32) : Nat → Int32 → Int32
  | 0, A => A
  | d + 1, A => itA v d (nxA v A)
theorem s16_nxA {v : Nat → Int32} {A : Int32} (h : s16 A) : s16 (nxA v A) := by
  unfold nxA
  split
  · exact h
  · exact s16_al h
theorem bst_0 {v : Nat → Int32} {A : Int32} (h : s16 A) (h0 : bst v A = none) : A = 0 := s16_ext h s16_0 fun j hj => by rw [(bst_i v A).2 h0 j hj, hb_0]
theorem pc_nxA {v : Nat → Int32} {A : Int32} (h : s16 A) : pc A ≤ pc (nxA v A) + 1 := by
  unfold nxA
  split
  · omega
  · next j hj =>
    have := (bst_i v A).1 j hj
    rw [pc_out this.1 this.2]
    exact Nat.le_refl _
theorem itA_0 {v : Nat → Int32} : ∀ (d : Nat) {A : Int32}, s16 A → pc A ≤ d → itA v d A = 0
  | 0, A, h, hd => by
    refine s16_ext h s16_0 fun j hj => ?_
    rw [hb_0]
    have hm : sub 0 A := fun k hk => by rw [hb_0] at hk; cases hk
    rw [← pc_eq s16_0 h hm (by rw [pc_0]; omega)]
    exact hb_0 j
  | d + 1, A, h, hd => by
    refine itA_0 d (s16_nxA h) ?_
    unfold nxA
    split
    · next e => rw [bst_0 h e, pc_0]; omega
    · next j hj =>
      have a := (bst_i v A).1 j hj
      have := pc_out a.1 a.2
      omega
section
variable {L : Nat} {xs : Nat → Int32} {z : z_T}
theorem x_lk1 {g : Int32} {n : Nat} (hn : 20 ≤ n) : L_X0_luckless_31 n 7 g (-4) 0 (hp L xs z) = some (o4 (bst (z.1 33) (tld z &&& (g ^^^ (-1))))) :=
  (lp_rule (G := fun n k o => L_X0_luckless_31 n 7 g (o4 o) (ii k) (hp L xs z)) (f := s_lk (z.1 33) (tld z &&& (g ^^^ (-1)))) (N := 16) (c := 0) (fin := fun o => some (o4 o)) (fun k o => (∀ j, o = some j → j < 16 ∧ hb (tld z &&& (g ^^^ (-1))) j = true) ∧ (o = none → ∀ j, j < k → hb (tld z &&& (g ^^^ (-1))) j = false))
    (fun n k o hk hc I => by
      refine ⟨?_, lk_i hk I⟩
      show L_X0_luckless_31 (n + 1) 7 g (o4 o) (ii k) (hp L xs z) = _
      rw [L_X0_luckless_31, if_pos (lt16 hk)]
      simp only [zr_0, zr_1, zr_2, zr_3, zr_4, zr_5, zr_6, Option.bind_some, po_s, po_n, e_has (show k < 32 by omega), b01, ii_s]
      unfold s_lk
      by_cases c1 : hb (tld z &&& (g ^^^ (-1))) k = true
      · cases o with
        | none => simp only [c1, o4, eq_self, one_ne0, Bool.false_eq_true, not_true, not_false_eq_true, Classical.not_not, ↓reduceIte, Option.bind_some, po_s, po_n]
        | some j =>
          have hj := (I.1 j rfl).1
          simp only [c1, o4, ii_ne4 (show j < 2147483648 by omega), zr_0, zr_1, zr_2, zr_3, zr_4, zr_5, zr_6, za_0, za_1, za_2, za_3, za_4, za_5, hj, hk, Option.bind_some, po_s, po_n, one_ne0, Bool.false_eq_true, not_true, not_false_eq_true, Classical.not_not, ↓reduceIte]
          by_cases c2 : z.1 33 j < z.1 33 k <;> simp only [c2, one_ne0, Bool.false_eq_true, not_true, not_false_eq_true, Classical.not_not, ↓reduceIte]
      · simp only [c1, one_ne0, Bool.false_eq_true, not_true, not_false_eq_true, Classical.not_not, ↓reduceIte])
    (fun n o _ _ => by
      show L_X0_luckless_31 (n + 1) 7 g (o4 o) (ii 16) (hp L xs z) = _
      rw [L_X0_luckless_31, if_neg (by decide)]) 16 0 n none rfl (by omega) ⟨fun j h => (nomatch h), fun _ j hj => absurd hj (by omega)⟩).1
theorem m_lk1 {A : Int32} {n : Nat} (T : I_twn z 17 33 15 106) (h : s16 A) (hA : A ≠ 0) (hn : 20 ≤ n) : L_X6_luckless_50 n 105 A (ii (lw A)) (ii (lw A)) (hp L xs z) = some (o4 (bst (z.1 33) A)) := by
  obtain ⟨h1, h2, h3⟩ := lw_spec h hA
  rw [← bst_lw h hA]
  exact (lp_rule (G := fun n k o => L_X6_luckless_50 n 105 A (o4 o) (ii k) (hp L xs z)) (f := s_lk (z.1 33) A) (N := 16) (c := 0) (fin := fun o => some (o4 o)) (fun k o => ∃ j, o = some j ∧ j < 16)
    (fun n k o hk hc I => by
      obtain ⟨j, rfl, hj⟩ := I
      refine ⟨?_, ?_⟩
      · show L_X6_luckless_50 (n + 1) 105 A (ii j) (ii k) (hp L xs z) = _
        rw [L_X6_luckless_50, if_pos (lt16 hk)]
        simp only [zr_0, zr_1, zr_2, zr_3, zr_4, zr_5, zr_6, Option.bind_some, po_s, po_n, m_has (show k < 32 by omega), b01, ii_s, Int32.zero_add]
        unfold s_lk
        by_cases c1 : hb A k = true
        · simp only [c1, zr_0, zr_1, zr_2, zr_3, zr_4, zr_5, zr_6, za_0, za_1, za_2, za_3, za_4, za_5, show j < 274 by omega, show k < 274 by omega, (T.1 j hj).1, (T.1 k hk).1, Option.bind_some, po_s, po_n, one_ne0, Bool.false_eq_true, not_true, not_false_eq_true, Classical.not_not, ↓reduceIte]
          by_cases c2 : z.1 33 j < z.1 33 k <;> simp only [c2, o4, one_ne0, Bool.false_eq_true, not_true, not_false_eq_true, Classical.not_not, ↓reduceIte]
        · simp only [c1, o4, one_ne0, Bool.false_eq_true, not_true, not_false_eq_true, Classical.not_not, ↓reduceIte]
      · unfold s_lk
        by_cases c1 : hb A k = true
        · rw [if_pos c1]
          show ∃ i, (if z.1 33 j < z.1 33 k then some k else some j) = some i ∧ i < 16
          split
          · exact ⟨k, rfl, hk⟩
          · exact ⟨j, rfl, hj⟩
        · rw [if_neg c1]
          exact ⟨j, rfl, hj⟩)
    (fun n o _ _ => by
      show L_X6_luckless_50 (n + 1) 105 A (o4 o) (ii 16) (hp L xs z) = _
      rw [L_X6_luckless_50, if_neg (by decide)]) (16 - lw A) (lw A) n (some (lw A)) (by omega) (by omega) ⟨_, rfl, h1⟩).1
theorem x_lk {i : Nat} (hi : i < 16) : ∀ (d k n : Nat) (g b : Int32), k + d = i → d + 40 ≤ n → L_X0_luckless_19 n 7 (ii i) g b (ii k) (hp L xs z) = some (o4 (bst (z.1 33) (itA (z.1 33) d (tld z &&& (g ^^^ (-1))))))
  | d, k, n, g, b, h1, h2 => by
    obtain ⟨m, rfl⟩ : ∃ m, n = m + 1 := ⟨n - 1, by omega⟩
    rw [L_X0_luckless_19, if_neg (by rw [ii_lt (by omega) (by omega)]; omega), x_lk1 (by omega), Option.bind_some]
    have next : ∃ g2, (if o4 (bst (z.1 33) (tld z &&& (g ^^^ (-1)))) = -4 then L_X0_luckless_19 m 7 (ii i) (g ||| 0) (o4 (bst (z.1 33) (tld z &&& (g ^^^ (-1))))) (ii k + 1) (hp L xs z) else L_X0_luckless_19 m 7 (ii i) (g ||| pm_shl 1 (o4 (bst (z.1 33) (tld z &&& (g ^^^ (-1)))))) (o4 (bst (z.1 33) (tld z &&& (g ^^^ (-1))))) (ii k + 1) (hp L xs z)) = L_X0_luckless_19 m 7 (ii i) g2 (o4 (bst (z.1 33) (tld z &&& (g ^^^ (-1))))) (ii (k + 1)) (hp L xs z) ∧ tld z &&& (g2 ^^^ (-1)) = nxA (z.1 33) (tld z &&& (g ^^^ (-1))) := by
      unfold nxA
      have hb1 := (bst_i (z.1 33) (tld z &&& (g ^^^ (-1)))).1
      cases e : bst (z.1 33) (tld z &&& (g ^^^ (-1))) with
      | none =>
        refine ⟨g, ?_, rfl⟩
        rw [if_pos (show o4 none = -4 from rfl), or0, ii_s]
      | some j =>
        have hj := (hb1 j e).1
        refine ⟨g ||| bt j, ?_, ?_⟩
        · rw [if_neg (show ¬ o4 (some j) = -4 from ii_ne4 (by omega)), ii_s]
          rfl
        · refine hb_ext fun q hq => ?_
          rw [hb_and, hb_not, hb_or, hb_and, hb_and, hb_not, hb_not]
          cases hb (tld z) q <;> cases hb g q <;> cases hb (bt j) q <;> simp [hq]
    obtain ⟨g2, e1, e2⟩ := next
    rw [e1]
    match d, h1, h2 with
    | 0, h1, h2 =>
      obtain ⟨j, rfl⟩ : ∃ j, m = j + 1 := ⟨m - 1, by omega⟩
      rw [L_X0_luckless_19, if_pos (by rw [ii_lt (by omega) (by omega)]; omega)]
      rfl
    | d + 1, h1, h2 =>
      rw [x_lk hi d (k + 1) m g2 _ (by omega) (by omega), e2]
      rfl
theorem m_lk {i : Nat} (T : I_twn z 17 33 15 106) (hi : i < 16) : ∀ (d k n : Nat) (A b : Int32), s16 A → d < pc A → k + d = i → d + 40 ≤ n → L_X6_luckless_36 n 105 (ii i) A b (ii k) (hp L xs z) = some (o4 (bst (z.1 33) (itA (z.1 33) d A)))
  | d, k, n, A, b, hA, hd, h1, h2 => by
    have hA0 : A ≠ 0 := fun e => by rw [e, pc_0] at hd; omega
    obtain ⟨m, rfl⟩ : ∃ m, n = m + 1 := ⟨n - 1, by omega⟩
    rw [L_X6_luckless_36, if_neg (by rw [ii_lt (by omega) (by omega)]; omega), m_low hA hA0 (by omega), Option.bind_some, m_lk1 T hA hA0 (by omega), Option.bind_some, ii_s]
    have e2 : A &&& (pm_shl 1 (o4 (bst (z.1 33) A)) ^^^ (-1)) = nxA (z.1 33) A := by
      unfold nxA
      cases e : bst (z.1 33) A with
      | none => exact absurd (bst_0 hA e) hA0
      | some j => rfl
    rw [e2]
    match d, hd, h1, h2 with
    | 0, hd, h1, h2 =>
      obtain ⟨j, rfl⟩ : ∃ j, m = j + 1 := ⟨m - 1, by omega⟩
      rw [L_X6_luckless_36, if_pos (by rw [ii_lt (by omega) (by omega)]; omega)]
      rfl
    | d + 1, hd, h1, h2 =>
      rw [m_lk T hi d (k + 1) m (nxA (z.1 33) A) _ (s16_nxA hA) (by have := pc_nxA (v := z.1 33) hA; omega) (by omega) (by omega)]
      rfl
theorem o_luckless {w : Int32} {n : Nat} (I : Inv z) (hn : 80 ≤ n) : Op L xs z (rd fun h => F_X0_luckless n h 7 w) (rd fun h => F_X6_luckless n h 105 w) := by
  rcases in16 w with ⟨i, hi, rfl⟩ | hw
  · have hA : tld z &&& ((0 : Int32) ^^^ (-1)) = tld z := hb_ext fun k hk => by
      rw [hb_and, hb_not, hb_0]
      simp [hk]
    have h15 : ¬ (15 : Int32) < ii i := by
      rw [show (15 : Int32) = ii 15 from rfl, ii_lt (by decide) (by omega)]
      omega
    have hx := x_lk (L := L) (xs := xs) (z := z) hi i 0 n 0 (-4) (by omega) (by omega)
    rw [hA] at hx
    have hx : L_X0_luckless_19 n 7 (ii i) 0 (-4) 0 (hp L xs z) = _ := hx
    refine Op.rd I (r := o4 (bst (z.1 33) (itA (z.1 33) i (tld z)))) ?_ ?_
    · unfold F_X0_luckless
      rw [e_in, hx]
      simp only [nn16 hi, lt16 hi, not_false_eq_true, and_self, ↓reduceIte, one_ne0, Option.bind_some, po_s, po_n]
    · unfold F_X6_luckless
      rw [m_in]
      simp only [nn16 hi, h15, not_false_eq_true, and_self, ↓reduceIte, one_ne0, zr_0, zr_1, zr_2, zr_3, zr_4, zr_5, zr_6, Option.bind_some, po_s, po_n, I.1.2.1, m_bits (show 17 ≤ n by omega), ii_lt (show i < 2147483648 by omega) (show pc (tld z) < 2147483648 by have := pc_le (tld z); omega)]
      by_cases c : i < pc (tld z)
      · have hm : L_X6_luckless_36 n 105 (ii i) (tld z) (-1) 0 (hp L xs z) = _ := m_lk (L := L) (xs := xs) (z := z) I.2.2.2.1 hi i 0 n (tld z) (-1) I.1.1 c (by omega) (by omega)
        rw [if_pos c, hm]
        rfl
      · rw [if_neg c, itA_0 i I.1.1 (by omega)]
        refine congrArg some ?_
        cases e : bst (z.1 33) 0 with
        | none => rfl
        | some j =>
          have := ((bst_i (z.1 33) 0).1 j e).2
          rw [hb_0] at this
          cases this
  · refine Op.rd I (r := -1) ?_ ?_
    · unfold F_X0_luckless
      rw [e_in, if_neg (fun h => hw.elim (fun a => h.1 a) (fun a => a h.2))]
      rfl
    · unfold F_X6_luckless
      rw [m_in, if_neg]
      · rfl
      · rcases hw with h1 | h1
        · exact fun h => h.1 h1
        · intro h
          by_cases h0 : w < 0
          · exact h.1 h0
          · obtain ⟨k, hk, rfl⟩ := ii_of h0
            rw [show (16 : Int32) = ii 16 from rfl, ii_lt hk (by decide)] at h1
            have h2 := h.2
            rw [show (15 : Int32) = ii 15 from rfl, ii_lt (by decide) hk] at h2
            omega
end
