/-! THE PLAIN LAW: parties, the call -/
set_option maxRecDepth 100000
section
variable {L : Nat} {xs : Nat → Int32} {z : z_T}
/-- the search with M parties -/
def sM (z : z_T) (M : Nat) : Option (Nat → Nat) := srch (tld z) (z.1 10) M 16 0 0 (fun _ => 0)
theorem sM_16 (J : I_foe z) : sM z 16 ≠ none := srch_16 (fun p q hp1 h => foe_t J p q hp1 h) 16 0 (fun _ => 0) rfl (Nat.le_refl _)
theorem x_21 (J : I_foe z) : ∀ (d M n : Nat) (y : z_T), M + d = 16 → d + 140 ≤ n → kp z y → ∃ N c' y', M ≤ N ∧ N ≤ 16 ∧ sM z N = some c' ∧ (∀ j, M ≤ j → j < N → sM z j = none) ∧ L_X0_parties_21 n 7 (ii M) (hp L xs y) = some (ii N, hp L xs y') ∧ kp z y' ∧ clr z 81 y' c' 16
  | d, M, n, y, h1, h2, h3 => by
    obtain ⟨m, rfl⟩ : ∃ m, n = m + 1 := ⟨n - 1, by omega⟩
    obtain ⟨y1, k1, e⟩ := x_cp (L := L) (xs := xs) (z := z) (M := M) J (by omega) 16 0 20 m y (fun _ => 0) rfl (by omega) (by omega) h3 (fun q hq => absurd hq (by omega))
    rcases e with ⟨c', s1, s2, s3⟩ | ⟨s1, s2, _⟩
    · have s2 : K_X0_canParty 20 m (hp L xs y) 7 0 0 (ii M) = some (1, hp L xs y1) := s2
      refine ⟨M, c', y1, Nat.le_refl _, by omega, s1, fun j a b => absurd a (by omega), ?_, k1, s3⟩
      rw [L_X0_parties_21]
      unfold G_X0_canParty
      simp only [zr_0, zr_1, zr_2, zr_3, zr_4, zr_5, zr_6, Option.bind_some, po_s, po_n, ↓reduceIte, s2, one_ne]
    · have s2 : K_X0_canParty 20 m (hp L xs y) 7 0 0 (ii M) = some (0, hp L xs y1) := s2
      have st : L_X0_parties_21 (m + 1) 7 (ii M) (hp L xs y) = L_X0_parties_21 m 7 (ii (M + 1)) (hp L xs y1) := by
        rw [L_X0_parties_21]
        unfold G_X0_canParty
        simp only [zr_0, zr_1, zr_2, zr_3, zr_4, zr_5, zr_6, Option.bind_some, po_s, po_n, ↓reduceIte, s2, ii_s]
      rw [st]
      match d, h1, h2 with
      | 0, h1, h2 =>
        obtain rfl : M = 16 := by omega
        exact absurd s1 (sM_16 J)
      | d + 1, h1, h2 =>
        obtain ⟨N, c', y', a1, a2, a3, a4, a5⟩ := x_21 J d (M + 1) m y1 (by omega) (by omega) k1
        refine ⟨N, c', y', by omega, a2, a3, fun j b1 b2 => ?_, a5⟩
        by_cases e : j = M
        · rw [e]; exact s1
        · exact a4 j (by omega) b2
theorem m_27p (W : I_who z) (J : I_foe z) : ∀ (d M n : Nat) (y : z_T), 1 ≤ M → M + d = 16 → d + cst 16 + 10 ≤ n → kp z y → ∃ N c' y', M ≤ N ∧ N ≤ 16 ∧ sM z N = some c' ∧ (∀ j, M ≤ j → j < N → sM z j = none) ∧ L_X6_parties_27 n 105 (ii M) (hp L xs y) = some (ii N, hp L xs y') ∧ kp z y' ∧ clr z 130 y' c' 16
  | d, M, n, y, h0, h1, h2, h3 => by
    obtain ⟨m, rfl⟩ : ∃ m, n = m + 1 := ⟨n - 1, by omega⟩
    have e := m_sub (L := L) (xs := xs) (z := z) (M := M) W J (by omega) h0 16 0 m (ui y 130 0 (-1)) (fun _ => 0) rfl (by omega) (h3.ui rfl) (fun q hq => absurd hq (by omega)) (fun _ => ui_a)
    have e130 : pm_si 0 (hp L xs y) 130 0 (-1) = some (hp L xs (ui y 130 0 (-1))) := by
      have h : ∀ k, k < 16 → pm_si 0 (hp L xs y) 130 (ii k) (-1) = some (hp L xs (ui y 130 k (-1))) := by intro k hk; simp only [za_0, za_1, za_2, za_3, za_4, za_5, hk]
      exact h 0 (by omega)
    rcases e with ⟨c', y1, s1, s2, k1, s3⟩ | ⟨n', y1, s1, s0, s2, k1, _⟩
    · have s2 : L_X6_fits_9 m 105 (ii M) 0 (hp L xs (ui y 130 0 (-1))) = some (16, hp L xs y1) := s2
      refine ⟨M, c', y1, Nat.le_refl _, by omega, s1, fun j a b => absurd a (by omega), ?_, k1, s3⟩
      rw [L_X6_parties_27]
      unfold F_X6_fits
      simp only [zr_0, zr_1, zr_2, zr_3, zr_4, zr_5, zr_6, Option.bind_some, po_s, po_n, ↓reduceIte, e130, s2, one_ne]
    · obtain ⟨q, rfl⟩ : ∃ q, n' = q + 1 := ⟨n' - 1, by omega⟩
      have s2 : L_X6_fits_9 m 105 (ii M) 0 (hp L xs (ui y 130 0 (-1))) = some (-1, hp L xs y1) := by
        refine (show L_X6_fits_9 m 105 (ii M) 0 (hp L xs (ui y 130 0 (-1))) = _ from s2).trans ?_
        rw [L_X6_fits_9, if_pos (by decide)]
        rfl
      have st : L_X6_parties_27 (m + 1) 105 (ii M) (hp L xs y) = L_X6_parties_27 m 105 (ii (M + 1)) (hp L xs y1) := by
        rw [L_X6_parties_27]
        unfold F_X6_fits
        simp only [zr_0, zr_1, zr_2, zr_3, zr_4, zr_5, zr_6, Option.bind_some, po_s, po_n, ↓reduceIte, e130, s2, show ¬ (-1 : Int32) = 16 by decide, ii_s]
      rw [st]
      match d, h1, h2 with
      | 0, h1, h2 =>
        obtain rfl : M = 16 := by omega
        exact absurd s1 (sM_16 J)
      | d + 1, h1, h2 =>
        obtain ⟨N, c', y', a1, a2, a3, a4, a5⟩ := m_27p W J d (M + 1) m y1 (by omega) (by omega) (by omega) k1
        refine ⟨N, c', y', by omega, a2, a3, fun j b1 b2 => ?_, a5⟩
        by_cases e : j = M
        · rw [e]; exact s1
        · exact a4 j (by omega) b2
theorem sM_0 (h : tld z = 0) (M : Nat) : sM z M ≠ none := by
  have : ∀ d p u c, srch (tld z) (z.1 10) M d p u c ≠ none := by
    intro d
    induction d with
    | zero => exact fun _ _ _ h => nomatch h
    | succ d ih =>
      intro p u c
      unfold srch
      rw [h, hb_0, if_neg (by decide), ← h]
      exact ih _ _ _
  exact this 16 0 0 _
theorem sM_no (h : ∃ p, p < 16 ∧ hb (tld z) p = true) : sM z 0 = none := by
  obtain ⟨p, hp1, ht⟩ := h
  have : ∀ d q u c, q ≤ p → p < q + d → srch (tld z) (z.1 10) 0 d q u c = none := by
    intro d
    induction d with
    | zero => intro q u c a b; omega
    | succ d ih =>
      intro q u c a b
      unfold srch
      by_cases e : hb (tld z) q = true
      · rw [if_pos e]
        unfold lim
        rw [if_pos (by omega)]
        rfl
      · rw [if_neg e]
        have : q ≠ p := fun x => by subst x; exact e ht
        exact ih _ _ _ (by omega) (by omega)
  exact this 16 0 0 _ (by omega) (by omega)
theorem ai16 {k : Nat} (hk : k < 16) : pm_ai 0 (hp L xs z) 81 (ii k) = some (z.1 81 k) ∧ pm_ai 0 (hp L xs z) 130 (ii k) = some (z.1 130 k) := by
  simp only [za_0, za_1, za_2, za_3, za_4, za_5, hk, and_self]
theorem o_parties {w : Int32} {n : Nat} (I : Inv z) (hn : cst 16 + 1000 ≤ n) : Op L xs z (fun h => F_X0_parties n h 7 w) (fun h => F_X6_parties n h 105 w) := by
  have W := I.1
  have J := I.2.2.1
  by_cases h0 : tld z = 0
  · by_cases hw : w = 100
    · obtain ⟨N, c', y, a1, a2, a3, a4, a5, a6, _⟩ := x_21 (L := L) (xs := xs) (z := z) J 16 0 n z rfl (by omega) kp.rf
      have hN : N = 0 := Classical.byContradiction fun e => sM_0 h0 0 (a4 0 (by omega) (by omega))
      subst hN
      have a5 : L_X0_parties_21 n 7 0 (hp L xs z) = some (0, hp L xs y) := a5
      refine Op.kp I (r := 0) (z1 := y) (z2 := y) ?_ ?_ a6
      · show F_X0_parties n (hp L xs z) 7 w = _
        unfold F_X0_parties
        rw [if_pos hw, a5, Option.bind_some, if_pos hw]
      · show F_X6_parties n (hp L xs y) 105 w = _
        unfold F_X6_parties
        rw [if_pos hw]
        simp only [zr_0, zr_1, zr_2, zr_3, zr_4, zr_5, zr_6, Option.bind_some, po_s, po_n, show y.1 105 7 = 0 from ((a6.2 105 7 rfl).trans W.2.1).trans h0, ↓reduceIte]
    · have hT : isT (tld z) w = false := by
        cases e : isT (tld z) w with
        | false => rfl
        | true =>
          obtain ⟨k, hk, _, h⟩ := isT_of e
          rw [h0, hb_0] at h
          cases h
      refine Op.kp I (r := -1) (z1 := z) (z2 := z) ?_ ?_ kp.rf
      · show F_X0_parties n (hp L xs z) 7 w = _
        unfold F_X0_parties
        rw [if_neg hw]
        simp only [zr_0, zr_1, zr_2, zr_3, zr_4, zr_5, zr_6, Option.bind_some, po_s, po_n, x_told, hT, b01, one_ne0, Bool.false_eq_true, not_true, not_false_eq_true, Classical.not_not, ↓reduceIte]
      · show F_X6_parties n (hp L xs z) 105 w = _
        unfold F_X6_parties
        rw [if_neg hw]
        simp only [zr_0, zr_1, zr_2, zr_3, zr_4, zr_5, zr_6, Option.bind_some, po_s, po_n, m_told W, hT, b01, one_ne0, Bool.false_eq_true, not_true, not_false_eq_true, Classical.not_not, ↓reduceIte]
  · by_cases hw : w = 100 ∨ isT (tld z) w = true
    · obtain ⟨N, c', y, a1, a2, a3, a4, a5, a6, a7⟩ := x_21 (L := L) (xs := xs) (z := z) J 16 0 n z rfl (by omega) kp.rf
      obtain ⟨N2, c2, y2, b1, b2, b3, b4, b5, b6, b7⟩ := m_27p (L := L) (xs := xs) (z := z) W J 15 1 n y (by omega) rfl (by omega) a6
      have hN0 : N ≠ 0 := fun e => by
        rw [e, sM_no (s16_ne W.1 h0)] at a3
        cases a3
      have hN : N = N2 := by
        by_cases c : N < N2
        · rw [b4 N (by omega) c] at a3
          cases a3
        · by_cases c1 : N2 < N
          · rw [a4 N2 (by omega) c1] at b3
            cases b3
          · omega
      subst hN
      have hc : c' = c2 := Option.some.inj (a3.symm.trans b3)
      subst hc
      have a5 : L_X0_parties_21 n 7 0 (hp L xs z) = some (ii N, hp L xs y) := a5
      have b5 : L_X6_parties_27 n 105 1 (hp L xs y) = some (ii N, hp L xs y2) := b5
      have e7 : y.1 105 7 = tld z := (a6.2 105 7 rfl).trans W.2.1
      have W2 : I_who y := (I.kp a6).1
      by_cases h100 : w = 100
      · refine Op.kp I (r := ii N) (z1 := y) (z2 := y2) ?_ ?_ b6
        · show F_X0_parties n (hp L xs z) 7 w = _
          unfold F_X0_parties
          rw [if_pos h100, a5, Option.bind_some, if_pos h100]
        · show F_X6_parties n (hp L xs y) 105 w = _
          unfold F_X6_parties
          rw [if_pos h100]
          simp only [zr_0, zr_1, zr_2, zr_3, zr_4, zr_5, zr_6, Option.bind_some, po_s, po_n, e7]
          rw [if_neg h0, b5, Option.bind_some, if_pos h100]
      · have hT : isT (tld z) w = true := hw.elim (fun e => absurd e h100) id
        obtain ⟨k, hk, rfl, ht⟩ := isT_of hT
        refine Op.kp I (r := ii (c' k)) (z1 := y) (z2 := y2) ?_ ?_ b6
        · show F_X0_parties n (hp L xs z) 7 (ii k) = _
          unfold F_X0_parties
          rw [if_neg h100]
          simp only [zr_0, zr_1, zr_2, zr_3, zr_4, zr_5, zr_6, Option.bind_some, po_s, po_n, x_told, hT, b01, one_ne0, Bool.false_eq_true, not_true, not_false_eq_true, Classical.not_not, ↓reduceIte, a5, h100, (ai16 hk).1, (a7 k hk ht).1]
        · show F_X6_parties n (hp L xs y) 105 (ii k) = _
          unfold F_X6_parties
          rw [if_neg h100]
          simp only [zr_0, zr_1, zr_2, zr_3, zr_4, zr_5, zr_6, Option.bind_some, po_s, po_n, m_told W2, show tld y = tld z from a6.2 8 2 rfl, hT, b01, one_ne0, Bool.false_eq_true, not_true, not_false_eq_true, Classical.not_not, ↓reduceIte, e7]
          rw [if_neg h0, b5, Option.bind_some, if_neg h100]
          simp only [zr_0, zr_1, zr_2, zr_3, zr_4, zr_5, zr_6, Option.bind_some, po_s, po_n, (ai16 hk).2, (b7 k hk ht).1]
    · have hw1 : ¬ w = 100 := fun e => hw (Or.inl e)
      have hT : isT (tld z) w = false := by
        cases e : isT (tld z) w with
        | false => rfl
        | true => exact absurd (Or.inr e) hw
      refine Op.kp I (r := -1) (z1 := z) (z2 := z) ?_ ?_ kp.rf
      · show F_X0_parties n (hp L xs z) 7 w = _
        unfold F_X0_parties
        rw [if_neg hw1]
        simp only [zr_0, zr_1, zr_2, zr_3, zr_4, zr_5, zr_6, Option.bind_some, po_s, po_n, x_told, hT, b01, one_ne0, Bool.false_eq_true, not_true, not_false_eq_true, Classical.not_not, ↓reduceIte]
      · show F_X6_parties n (hp L xs z) 105 w = _
        unfold F_X6_parties
        rw [if_neg hw1]
        simp only [zr_0, zr_1, zr_2, zr_3, zr_4, zr_5, zr_6, Option.bind_some, po_s, po_n, m_told W, hT, b01, one_ne0, Bool.false_eq_true, not_true, not_false_eq_true, Classical.not_not, ↓reduceIte]
end
