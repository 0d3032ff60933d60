/-! THE PLAIN LAW: orders, copies and answers -/
set_option maxRecDepth 100000
theorem lnS_by {z z' : z_T} (h : hr z = hr z') : lnS z = lnS z' := by
  funext N a l r
  unfold lnS hsS otS
  rw [h]
theorem rdS_by {z z' : z_T} (h : hr z = hr z') (N : Nat) : ∀ k, rdS z N k = rdS z' N k
  | 0 => rfl
  | k + 1 => by
    funext a l r
    unfold rdS
    rw [h, lnS_by h, rdS_by h N k]
theorem rd0_by {z z' : z_T} (h : hr z = hr z') (N : Nat) (r : RL) : rd0 z N r = rd0 z' N r := by
  unfold rd0
  rw [lnS_by h, rdS_by h]
theorem hr_by {z z' : z_T} (h : by_ z = by_ z') : hr z = hr z' := by
  funext N a
  unfold hr
  rw [h]
theorem neg_c {c : Int32} {m a : Nat} (hc : c.toInt = -(m : Int)) (hm : m < 100000) (hm0 : 0 < m) (ha : a < 100000) : c - ii a < 0 := by
  have e0 : (0 : Int32).toInt = 0 := rfl
  rw [i_lt, e0, Int32.toInt_sub, hc, ii_toInt (by omega)]
  show (if (-(m : Int) - a) % 4294967296 < (4294967296 + 1) / 2 then (-(m : Int) - a) % 4294967296 else (-(m : Int) - a) % 4294967296 - 4294967296) < 0
  split <;> omega
theorem neg_1 {a : Nat} (ha : a < 100000) : -1000 * 1 - ii a < 0 := neg_c (m := 1000) rfl (by omega) (by omega) ha
theorem neg_2 {a : Nat} (ha : a < 100000) : -1000 * 2 - ii a < 0 := neg_c (m := 2000) rfl (by omega) (by omega) ha
theorem neg_4 {a : Nat} (ha : a < 100000) : -1000 * 4 - ii a < 0 := neg_c (m := 4000) rfl (by omega) (by omega) ha
theorem neg_6 {a : Nat} (ha : a < 100000) : -1000 * 6 - ii a < 0 := neg_c (m := 6000) rfl (by omega) (by omega) ha
theorem neg_7 {a : Nat} (ha : a < 100000) : -1000 * 7 - ii a < 0 := neg_c (m := 7000) rfl (by omega) (by omega) ha
theorem lnS_neg {z : z_T} {N a l : Nat} {r : RL} {v : Int32} (ha : a < 90000) (h : lnS z N a l r = .inl v) : v < 0 := by
  unfold lnS at h
  split at h
  · split at h
    · rw [← Sum.inl.inj h]; exact neg_4 (by omega)
    · split at h
      · split at h
        · unfold hsS at h
          split at h
          · split at h
            · split at h
              · rw [← Sum.inl.inj h]; exact neg_2 (by omega)
              · cases h
            · cases h
          · rw [← Sum.inl.inj h]; exact neg_1 (by omega)
        · split at h
          · split at h
            · cases h
            · split at h
              · cases h
              · unfold otS at h
                split at h
                · split at h
                  · rw [← Sum.inl.inj h]; exact neg_6 (by omega)
                  · split at h
                    · cases h
                    · rw [← Sum.inl.inj h]; exact neg_7 (by omega)
                · rw [← Sum.inl.inj h]; exact neg_1 (by omega)
          · rw [← Sum.inl.inj h]; exact neg_7 (by omega)
      · rw [← Sum.inl.inj h]; exact neg_1 (by omega)
  · rw [← Sum.inl.inj h]; exact neg_1 (by omega)
theorem rdS_neg {z : z_T} {N : Nat} : ∀ (k a l : Nat) (r : RL) (v : Int32), a + 6 * k < 90000 → rdS z N k a l r = .inl v → v < 0
  | 0, a, l, r, v, _, h => by cases h
  | k + 1, a, l, r, v, hl, h => by
    unfold rdS at h
    by_cases c1 : a < N
    · rw [if_pos c1] at h
      by_cases c2 : hr z N a = 59
      · rw [if_pos c2] at h
        cases eo : lnS z N (a + 1) l r with
        | inl w =>
          rw [eo] at h
          cases h
          exact lnS_neg (by omega) eo
        | inr o =>
          obtain ⟨a2, r2⟩ := o
          have := lnS_le eo
          rw [eo] at h
          exact rdS_neg k a2 (l + 1) r2 v (by omega) h
      · rw [if_neg c2] at h
        rw [← Sum.inl.inj h]
        exact neg_1 (by omega)
    · rw [if_neg c1] at h
      cases h
theorem rd0_neg {z : z_T} {N : Nat} {r : RL} {v : Int32} (h : rd0 z N r = .inl v) : v < 0 := by
  unfold rd0 at h
  cases eo : lnS z N 0 0 r with
  | inl w =>
    rw [eo] at h
    cases h
    exact lnS_neg (by omega) eo
  | inr o =>
    obtain ⟨a2, r2⟩ := o
    have := lnS_le eo
    rw [eo] at h
    exact rdS_neg 25 a2 1 r2 v (by omega) h
/-- two rows are copied -/
def cp2 (a b c d k : Nat) (y : z_T) : z_T := ui (ui y b k (y.1 a k)) d k ((ui y b k (y.1 a k)).1 c k)
theorem cp2_s {a b c d : Nat} (h1 : a ≠ b) (h2 : c ≠ d) (h3 : c ≠ b) (h4 : b ≠ d) (h5 : a ≠ d) {y : z_T} : ∀ r, (lp (cp2 a b c d) r 0 y).2 = y.2 ∧ (∀ i k, i ≠ b → i ≠ d → (lp (cp2 a b c d) r 0 y).1 i k = y.1 i k) ∧ ∀ j, j < r → (lp (cp2 a b c d) r 0 y).1 b j = y.1 a j ∧ (lp (cp2 a b c d) r 0 y).1 d j = y.1 c j
  | 0 => ⟨rfl, fun _ _ _ _ => rfl, fun j hj => absurd hj (by omega)⟩
  | r + 1 => by
    obtain ⟨i1, i2, i3⟩ := cp2_s h1 h2 h3 h4 h5 (y := y) r
    rw [lp_s, Nat.zero_add]
    generalize lp (cp2 a b c d) r 0 y = A at i1 i2 i3 ⊢
    refine ⟨i1, fun i k n1 n2 => ?_, fun j hj => ?_⟩
    · unfold cp2
      rw [ui_o n2, ui_o n1]
      exact i2 i k n1 n2
    · unfold cp2
      rw [ui_o h4, ui_i, ui_i, ui_o (fun e => h4 e.symm), ui_o h3, upd, upd]
      by_cases e : j = r
      · rw [if_pos e, if_pos e, e]
        exact ⟨i2 a r h1 h5, i2 c r h3 h2⟩
      · rw [if_neg e, if_neg e]
        exact i3 j (by omega)
section
variable {L : Nat} {xs : Nat → Int32} {z : z_T}
theorem x_tkB  {n : Nat} (hn : 0 + 16 + 1 ≤ n) : L_X1_takes_2 n 8 11 0 (hp L xs (z)) = (hpf L xs) (lp (cp2 12 9 13 10) 16 0 z) :=
  lp_r (G := fun n k a => L_X1_takes_2 n 8 11 (ii k) (hp L xs (a))) (cp2 12 9 13 10) (N := 16) (c := 0) (fin := (hpf L xs))
    (fun n k a hk hc => by
      have hk32 : k < 32 := by omega
      show L_X1_takes_2 (n + 1) 8 11 (ii k) (hp L xs (a)) = _
      rw [L_X1_takes_2, if_pos (by rw [show (16 : Int32) = ii 16 from rfl, ii_lt (by omega) (by decide)]; exact hk)]
      simp only [zr_0, zr_1, zr_2, zr_3, zr_4, zr_5, zr_6, za_0, za_1, za_2, za_3, za_4, za_5, hk, ii_s, btd, or0, Option.bind_some, po_s, po_n, one_ne0, Bool.false_eq_true, not_true, not_false_eq_true, Classical.not_not, ↓reduceIte]
      rfl)
    (fun n a _ => by
      show L_X1_takes_2 (n + 1) 8 11 (ii 16) (hp L xs (a)) = _
      rw [L_X1_takes_2, if_neg (by decide)]; rfl) (Nat.zero_add _) (by omega)
theorem m_lays  {n : Nat} (hn : 0 + 16 + 1 ≤ n) : L_X6_laysAside_18 n 105 0 (hp L xs (z)) = (hpf L xs) (lp (cp2 109 111 110 112) 16 0 z) :=
  lp_r (G := fun n k a => L_X6_laysAside_18 n 105 (ii k) (hp L xs (a))) (cp2 109 111 110 112) (N := 16) (c := 0) (fin := (hpf L xs))
    (fun n k a hk hc => by
      have hk32 : k < 32 := by omega
      show L_X6_laysAside_18 (n + 1) 105 (ii k) (hp L xs (a)) = _
      rw [L_X6_laysAside_18, if_pos (by rw [show (16 : Int32) = ii 16 from rfl, ii_lt (by omega) (by decide)]; exact hk)]
      simp only [zr_0, zr_1, zr_2, zr_3, zr_4, zr_5, zr_6, za_0, za_1, za_2, za_3, za_4, za_5, hk, ii_s, btd, or0, Option.bind_some, po_s, po_n, one_ne0, Bool.false_eq_true, not_true, not_false_eq_true, Classical.not_not, ↓reduceIte]
      rfl)
    (fun n a _ => by
      show L_X6_laysAside_18 (n + 1) 105 (ii 16) (hp L xs (a)) = _
      rw [L_X6_laysAside_18, if_neg (by decide)]; rfl) (Nat.zero_add _) (by omega)
theorem m_puts  {n : Nat} (hn : 0 + 16 + 1 ≤ n) : L_X6_putsBack_18 n 105 0 (hp L xs (z)) = (hpf L xs) (lp (cp2 111 109 112 110) 16 0 z) :=
  lp_r (G := fun n k a => L_X6_putsBack_18 n 105 (ii k) (hp L xs (a))) (cp2 111 109 112 110) (N := 16) (c := 0) (fin := (hpf L xs))
    (fun n k a hk hc => by
      have hk32 : k < 32 := by omega
      show L_X6_putsBack_18 (n + 1) 105 (ii k) (hp L xs (a)) = _
      rw [L_X6_putsBack_18, if_pos (by rw [show (16 : Int32) = ii 16 from rfl, ii_lt (by omega) (by decide)]; exact hk)]
      simp only [zr_0, zr_1, zr_2, zr_3, zr_4, zr_5, zr_6, za_0, za_1, za_2, za_3, za_4, za_5, hk, ii_s, btd, or0, Option.bind_some, po_s, po_n, one_ne0, Bool.false_eq_true, not_true, not_false_eq_true, Classical.not_not, ↓reduceIte]
      rfl)
    (fun n a _ => by
      show L_X6_putsBack_18 (n + 1) 105 (ii 16) (hp L xs (a)) = _
      rw [L_X6_putsBack_18, if_neg (by decide)]; rfl) (Nat.zero_add _) (by omega)
theorem x_takesB {n : Nat} (hn : 17 ≤ n) : ∃ y, F_X1_takes n (hp L xs z) 8 11 = some (hp L xs y) ∧ y.2 = z.2 ∧ (∀ i k, i ≠ 8 → i ≠ 9 → i ≠ 10 → y.1 i k = z.1 i k) ∧ (∀ j, j < 16 → y.1 9 j = z.1 12 j ∧ y.1 10 j = z.1 13 j) ∧ y.1 8 2 = z.1 11 2 ∧ y.1 8 3 = z.1 11 3 := by
  obtain ⟨h1, h2, h3⟩ := cp2_s (a := 12) (b := 9) (c := 13) (d := 10) (by decide) (by decide) (by decide) (by decide) (by decide) (y := z) 16
  have e : L_X1_takes_2 n 8 11 0 (hp L xs z) = some (hp L xs (lp (cp2 12 9 13 10) 16 0 z)) := x_tkB (by omega)
  generalize lp (cp2 12 9 13 10) 16 0 z = A at h1 h2 h3 e
  refine ⟨ui (ui A 8 2 (A.1 11 2)) 8 3 ((ui A 8 2 (A.1 11 2)).1 11 3), ?_, h1, fun i k n1 n2 n3 => ?_, fun j hj => ?_, ?_, ?_⟩
  · unfold F_X1_takes
    rw [e]
    simp only [zr_0, zr_1, zr_2, zr_3, zr_4, zr_5, zr_6, zw_0, zw_1, Option.bind_some, po_s, po_n]
  · rw [ui_o n1, ui_o n1]
    exact h2 i k n2 n3
  · rw [ui_o (by omega), ui_o (by omega), ui_o (by omega), ui_o (by omega)]
    exact h3 j hj
  · rw [ui_b (by decide), ui_a]
    exact h2 11 2 (by decide) (by decide)
  · rw [ui_a, ui_o (by decide)]
    exact h2 11 3 (by decide) (by decide)
theorem m_aside {n : Nat} (hn : 17 ≤ n) : ∃ y, F_X6_laysAside n (hp L xs z) 105 = some (hp L xs y) ∧ y.2 = z.2 ∧ (∀ i k, ¬ (i = 105 ∧ (k = 9 ∨ k = 10)) → i ≠ 111 → i ≠ 112 → y.1 i k = z.1 i k) ∧ (∀ j, j < 16 → y.1 111 j = z.1 109 j ∧ y.1 112 j = z.1 110 j) ∧ y.1 105 9 = z.1 105 7 ∧ y.1 105 10 = z.1 105 8 := by
  have b : ∃ z1, z1 = ui (ui z 105 9 (z.1 105 7)) 105 10 ((ui z 105 9 (z.1 105 7)).1 105 8) := ⟨_, rfl⟩
  obtain ⟨z1, ez⟩ := b
  obtain ⟨h1, h2, h3⟩ := cp2_s (a := 109) (b := 111) (c := 110) (d := 112) (by decide) (by decide) (by decide) (by decide) (by decide) (y := z1) 16
  have e : L_X6_laysAside_18 n 105 0 (hp L xs z1) = some (hp L xs (lp (cp2 109 111 110 112) 16 0 z1)) := m_lays (by omega)
  generalize lp (cp2 109 111 110 112) 16 0 z1 = A at h1 h2 h3 e
  subst ez
  refine ⟨A, ?_, h1, fun i k n1 n2 n3 => ?_, fun j hj => h3 j hj, ?_, ?_⟩
  · unfold F_X6_laysAside
    simp only [zr_0, zr_1, zr_2, zr_3, zr_4, zr_5, zr_6, zw_0, zw_1, Option.bind_some, po_s, po_n]
    rw [e]
    rfl
  · rw [h2 i k n2 n3]
    by_cases e : i = 105
    · subst e
      rw [ui_b (fun x => n1 ⟨rfl, Or.inr x⟩), ui_b (fun x => n1 ⟨rfl, Or.inl x⟩)]
    · rw [ui_o e, ui_o e]
  · exact h2 105 9 (by decide) (by decide)
  · exact (h2 105 10 (by decide) (by decide)).trans rfl
theorem m_back {n : Nat} (hn : 17 ≤ n) : ∃ y, F_X6_putsBack n (hp L xs z) 105 = some (hp L xs y) ∧ y.2 = z.2 ∧ (∀ i k, ¬ (i = 105 ∧ (k = 7 ∨ k = 8)) → i ≠ 109 → i ≠ 110 → y.1 i k = z.1 i k) ∧ (∀ j, j < 16 → y.1 109 j = z.1 111 j ∧ y.1 110 j = z.1 112 j) ∧ y.1 105 7 = z.1 105 9 ∧ y.1 105 8 = z.1 105 10 := by
  have b : ∃ z1, z1 = ui (ui z 105 7 (z.1 105 9)) 105 8 ((ui z 105 7 (z.1 105 9)).1 105 10) := ⟨_, rfl⟩
  obtain ⟨z1, ez⟩ := b
  obtain ⟨h1, h2, h3⟩ := cp2_s (a := 111) (b := 109) (c := 112) (d := 110) (by decide) (by decide) (by decide) (by decide) (by decide) (y := z1) 16
  have e : L_X6_putsBack_18 n 105 0 (hp L xs z1) = some (hp L xs (lp (cp2 111 109 112 110) 16 0 z1)) := m_puts (by omega)
  generalize lp (cp2 111 109 112 110) 16 0 z1 = A at h1 h2 h3 e
  subst ez
  refine ⟨A, ?_, h1, fun i k n1 n2 n3 => ?_, fun j hj => h3 j hj, ?_, ?_⟩
  · unfold F_X6_putsBack
    simp only [zr_0, zr_1, zr_2, zr_3, zr_4, zr_5, zr_6, zw_0, zw_1, Option.bind_some, po_s, po_n]
    rw [e]
    rfl
  · rw [h2 i k n2 n3]
    by_cases e : i = 105
    · subst e
      rw [ui_b (fun x => n1 ⟨rfl, Or.inr x⟩), ui_b (fun x => n1 ⟨rfl, Or.inl x⟩)]
    · rw [ui_o e, ui_o e]
  · exact h2 105 7 (by decide) (by decide)
  · exact (h2 105 8 (by decide) (by decide)).trans rfl
end
