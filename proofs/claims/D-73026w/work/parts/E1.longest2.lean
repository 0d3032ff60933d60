/-! THE PLAIN LAW: longest, the walks -/
set_option maxRecDepth 100000
section
variable {L : Nat} {xs : Nat → Int32} {z : z_T}
theorem ai82 {s : Int32} (h : s16 s) : pm_ai 0 (hp L xs z) 82 s = some (z.1 82 (sn s)) := by
  have e := (show ∀ k, k < 65536 → pm_ai 0 (hp L xs z) 82 (ii k) = some (z.1 82 k) by intro k hk; simp only [za_0, za_1, za_2, za_3, za_4, za_5, hk]) (sn s) (sn_lt h)
  rw [ii_sn] at e
  exact e
theorem si82 {s : Int32} (h : s16 s) {v : Int32} : pm_si 0 (hp L xs z) 82 s v = some (hp L xs (ui z 82 (sn s) v)) := by
  have e := (show ∀ k, k < 65536 → pm_si 0 (hp L xs z) 82 (ii k) v = some (hp L xs (ui z 82 k v)) by intro k hk; simp only [za_0, za_1, za_2, za_3, za_4, za_5, hk]) (sn s) (sn_lt h)
  rw [ii_sn] at e
  exact e
theorem ai131 {s : Int32} (h : s16 s) : pm_ai 0 (hp L xs z) 131 s = some (z.1 131 (sn s)) := by
  have e := (show ∀ k, k < 65536 → pm_ai 0 (hp L xs z) 131 (ii k) = some (z.1 131 k) by intro k hk; simp only [za_0, za_1, za_2, za_3, za_4, za_5, hk]) (sn s) (sn_lt h)
  rw [ii_sn] at e
  exact e
theorem si131 {s : Int32} (h : s16 s) {v : Int32} : pm_si 0 (hp L xs z) 131 s v = some (hp L xs (ui z 131 (sn s) v)) := by
  have e := (show ∀ k, k < 65536 → pm_si 0 (hp L xs z) 131 (ii k) v = some (hp L xs (ui z 131 k v)) by intro k hk; simp only [za_0, za_1, za_2, za_3, za_4, za_5, hk]) (sn s) (sn_lt h)
  rw [ii_sn] at e
  exact e
theorem ui_a {i k : Nat} {v : Int32} : (ui z i k v).1 i k = v := by
  rw [ui_i]
  exact if_pos rfl
theorem ui_b {i k j : Nat} {v : Int32} (h : j ≠ k) : (ui z i k v).1 i j = z.1 i j := by
  rw [ui_i]
  exact if_neg h
/-- one round of the inner loops -/
def cX (z : z_T) (t : Nat → Int32) (S : Int32) (p : Nat) : Bool := (hb S p && hb (tld z) p) && decide (t (sn (S &&& (bt p ^^^ (-1)))) &&& fr z p ≠ 0)
def cM (z : z_T) (t : Nat → Int32) (S : Int32) (p : Nat) : Bool := hb S p && (decide (S &&& (bt p ^^^ (-1)) = 0) || decide (t (sn (S &&& (bt p ^^^ (-1)))) &&& fr z p ≠ 0))
theorem out_ne {S : Int32} {p : Nat} (hp1 : p < 32) (h : hb S p = true) : sn (S &&& (bt p ^^^ (-1))) ≠ sn S := fun e => by
  have := congrArg (fun q => hb q p) (sn_inj e)
  rw [hb_out hp1, h] at this
  simp at this
theorem x_lg1 {S : Int32} (hS : s16 S) {t : Nat → Int32} : ∀ (d p n : Nat) (y : z_T), p + d = 16 → d + 1 ≤ n → kp z y → (∀ j, j ≠ sn S → y.1 82 j = t j) →
    ∃ y', kp z y' ∧ L_X0_longest_61 n 7 S (ii p) (hp L xs y) = some (hp L xs y') ∧ (∀ j, j ≠ sn S → y'.1 82 j = t j) ∧ y'.1 82 (sn S) = lp (fun p a => if cX z t S p = true then a ||| bt p else a) d p (y.1 82 (sn S))
  | 0, p, n, y, h1, h2, h3, h4 => by
    obtain ⟨m, rfl⟩ : ∃ m, n = m + 1 := ⟨n - 1, by omega⟩
    obtain rfl : p = 16 := by omega
    rw [L_X0_longest_61, if_neg (by decide)]
    exact ⟨y, h3, rfl, h4, rfl⟩
  | d + 1, p, n, y, h1, h2, h3, h4 => by
    obtain ⟨m, rfl⟩ : ∃ m, n = m + 1 := ⟨n - 1, by omega⟩
    have hp1 : p < 16 := by omega
    have et : tld y = tld z := h3.2 8 2 rfl
    have e1 : hb (S &&& tld z) p = (hb S p && hb (tld z) p) := hb_and _ _ _
    have hS2 : s16 (S &&& (bt p ^^^ (-1))) := s16_al hS
    show ∃ y', kp z y' ∧ _ = some (hp L xs y') ∧ (∀ j, j ≠ sn S → y'.1 82 j = t j) ∧ y'.1 82 (sn S) = lp (fun p a => if cX z t S p = true then a ||| bt p else a) d (p + 1) (if cX z t S p = true then y.1 82 (sn S) ||| bt p else y.1 82 (sn S))
    rw [L_X0_longest_61, if_pos (lt16 hp1)]
    simp only [zr_0, zr_1, zr_2, zr_3, zr_4, zr_5, zr_6, Option.bind_some, po_s, po_n, et, e_has (show p < 32 by omega), b01, e1, ii_s, btd]
    by_cases c1 : (hb S p && hb (tld z) p) = true
    · have c1' := c1
      rw [Bool.and_eq_true] at c1'
      have hne := out_ne (by omega) c1'.1
      by_cases c2 : t (sn (S &&& (bt p ^^^ (-1)))) &&& fr z p = 0
      · have hc : cX z t S p = false := by
          unfold cX
          rw [c2]
          simp
        simp only [c1, one_ne0, Bool.false_eq_true, not_true, not_false_eq_true, Classical.not_not, ↓reduceIte, Option.bind_some, po_s, po_n, zr_0, zr_1, zr_2, zr_3, zr_4, zr_5, zr_6, ai82 hS2, x_fr hp1, kp_fr h3, h4 _ hne, c2, hc]
        exact x_lg1 hS d (p + 1) m y (by omega) (by omega) h3 h4
      · have hc : cX z t S p = true := by
          unfold cX
          rw [c1, decide_eq_true c2]
          rfl
        simp only [c1, one_ne0, Bool.false_eq_true, not_true, not_false_eq_true, Classical.not_not, ↓reduceIte, Option.bind_some, po_s, po_n, zr_0, zr_1, zr_2, zr_3, zr_4, zr_5, zr_6, ai82 hS2, ai82 hS, x_fr hp1, kp_fr h3, h4 _ hne, c2, hc, si82 hS]
        obtain ⟨y', r1, r2, r3, r4⟩ := x_lg1 (t := t) hS d (p + 1) m (ui y 82 (sn S) (y.1 82 (sn S) ||| bt p)) (by omega) (by omega) (h3.ui rfl) (fun j hj => (ui_b hj).trans (h4 j hj))
        rw [ui_a] at r4
        exact ⟨y', r1, r2, r3, r4⟩
    · have c1' : (hb S p && hb (tld z) p) = false := by simpa using c1
      have hc : cX z t S p = false := by
        unfold cX
        rw [c1']
        rfl
      simp only [c1', one_ne0, Bool.false_eq_true, not_true, not_false_eq_true, Classical.not_not, ↓reduceIte, Option.bind_some, po_s, po_n, hc]
      exact x_lg1 hS d (p + 1) m y (by omega) (by omega) h3 h4
theorem m_lg1 {S : Int32} (W : I_who z) (J : I_foe z) (hS : s16 S) {t : Nat → Int32} : ∀ (d p n : Nat) (y : z_T), p + d = 16 → d + 1 ≤ n → kp z y → (∀ j, j ≠ sn S → y.1 131 j = t j) →
    ∃ y', kp z y' ∧ L_X6_longest_51 n 105 S (ii p) (hp L xs y) = some (hp L xs y') ∧ (∀ j, j ≠ sn S → y'.1 131 j = t j) ∧ y'.1 131 (sn S) = lp (fun p a => if cM z t S p = true then a ||| bt p else a) d p (y.1 131 (sn S))
  | 0, p, n, y, h1, h2, h3, h4 => by
    obtain ⟨m, rfl⟩ : ∃ m, n = m + 1 := ⟨n - 1, by omega⟩
    obtain rfl : p = 16 := by omega
    rw [L_X6_longest_51, if_neg (by decide)]
    exact ⟨y, h3, rfl, h4, rfl⟩
  | d + 1, p, n, y, h1, h2, h3, h4 => by
    obtain ⟨m, rfl⟩ : ∃ m, n = m + 1 := ⟨n - 1, by omega⟩
    have hp1 : p < 16 := by omega
    have hS2 : s16 (S &&& (bt p ^^^ (-1))) := s16_al hS
    have hf : F_X6_friendsOf (hp L xs y) 105 (ii p) = some (fr z p) := by
      unfold F_X6_friendsOf
      simp only [zr_0, zr_1, zr_2, zr_3, zr_4, zr_5, zr_6, Option.bind_some, po_s, po_n, za_0, za_1, za_2, za_3, za_4, za_5, hp1, show y.1 105 7 = tld z from (h3.2 105 7 rfl).trans W.2.1, show y.1 110 p = z.1 10 p from (h3.2 110 p rfl).trans (J p hp1).1]
      rfl
    show ∃ y', kp z y' ∧ _ = some (hp L xs y') ∧ (∀ j, j ≠ sn S → y'.1 131 j = t j) ∧ y'.1 131 (sn S) = lp (fun p a => if cM z t S p = true then a ||| bt p else a) d (p + 1) (if cM z t S p = true then y.1 131 (sn S) ||| bt p else y.1 131 (sn S))
    have next : cM z t S p = true → ∃ y', kp z y' ∧ L_X6_longest_51 m 105 S (ii (p + 1)) (hp L xs (ui y 131 (sn S) (y.1 131 (sn S) ||| bt p))) = some (hp L xs y') ∧ (∀ j, j ≠ sn S → y'.1 131 j = t j) ∧ y'.1 131 (sn S) = lp (fun p a => if cM z t S p = true then a ||| bt p else a) d (p + 1) (if cM z t S p = true then y.1 131 (sn S) ||| bt p else y.1 131 (sn S)) := fun hc => by
      obtain ⟨y', r1, r2, r3, r4⟩ := m_lg1 (t := t) W J hS d (p + 1) m (ui y 131 (sn S) (y.1 131 (sn S) ||| bt p)) (by omega) (by omega) (h3.ui rfl) (fun j hj => (ui_b hj).trans (h4 j hj))
      rw [ui_a] at r4
      rw [if_pos hc]
      exact ⟨y', r1, r2, r3, r4⟩
    have stay : cM z t S p = false → ∃ y', kp z y' ∧ L_X6_longest_51 m 105 S (ii (p + 1)) (hp L xs y) = some (hp L xs y') ∧ (∀ j, j ≠ sn S → y'.1 131 j = t j) ∧ y'.1 131 (sn S) = lp (fun p a => if cM z t S p = true then a ||| bt p else a) d (p + 1) (if cM z t S p = true then y.1 131 (sn S) ||| bt p else y.1 131 (sn S)) := fun hc => by
      rw [hc]
      exact m_lg1 W J hS d (p + 1) m y (by omega) (by omega) h3 h4
    rw [L_X6_longest_51, if_pos (lt16 hp1)]
    simp only [zr_0, zr_1, zr_2, zr_3, zr_4, zr_5, zr_6, Option.bind_some, po_s, po_n, m_has (show p < 32 by omega), b01, ii_s, btd]
    by_cases c1 : hb S p = true
    · have hne := out_ne (by omega) c1
      by_cases c3 : S &&& (bt p ^^^ (-1)) = 0
      · have hc : cM z t S p = true := by
          unfold cM
          rw [c1, decide_eq_true c3]
          rfl
        simp only [c1, c3, one_ne0, Bool.false_eq_true, not_true, not_false_eq_true, Classical.not_not, ↓reduceIte, Option.bind_some, po_s, po_n, zr_0, zr_1, zr_2, zr_3, zr_4, zr_5, zr_6, ai131 hS, si131 hS]
        exact next hc
      · by_cases c2 : t (sn (S &&& (bt p ^^^ (-1)))) &&& fr z p = 0
        · have hc : cM z t S p = false := by
            unfold cM
            rw [c2, decide_eq_false c3]
            simp
          simp only [c1, c3, one_ne0, Bool.false_eq_true, not_true, not_false_eq_true, Classical.not_not, ↓reduceIte, Option.bind_some, po_s, po_n, zr_0, zr_1, zr_2, zr_3, zr_4, zr_5, zr_6, ai131 hS2, hf, h4 _ hne, c2]
          exact stay hc
        · have hc : cM z t S p = true := by
            unfold cM
            rw [c1, decide_eq_true c2, Bool.or_true]
            rfl
          simp only [c1, c3, one_ne0, Bool.false_eq_true, not_true, not_false_eq_true, Classical.not_not, ↓reduceIte, Option.bind_some, po_s, po_n, zr_0, zr_1, zr_2, zr_3, zr_4, zr_5, zr_6, ai131 hS2, ai131 hS, hf, h4 _ hne, c2, si131 hS]
          exact next hc
    · have c1' : hb S p = false := by simpa using c1
      have hc : cM z t S p = false := by
        unfold cM
        rw [c1']
        rfl
      simp only [c1', one_ne0, Bool.false_eq_true, not_true, not_false_eq_true, Classical.not_not, ↓reduceIte, Option.bind_some, po_s, po_n]
      exact stay hc
/-- what the component's round lays -/
theorem x_lgv {S : Int32} (hS : s16 S) {t : Nat → Int32} (ht : ∀ T, s16 T → T ≠ 0 → sn T < sn S → t (sn T) = Hs z T) : lp (fun p a => if cX z t S p = true then a ||| bt p else a) 16 0 (if pc S = 1 ∧ S &&& (tld z ^^^ (-1)) = 0 then S else 0) = Hs z S := by
  refine hb_ext fun j _ => ?_
  refine Bool.eq_iff_iff.mpr ?_
  rw [hb_lpb (cX z t S) _ j 16 (by decide), hb_Hs hS]
  have tS : ∀ j, j < 16 → hb S j = true → S &&& (bt j ^^^ (-1)) ≠ 0 → t (sn (S &&& (bt j ^^^ (-1)))) = Hs z (S &&& (bt j ^^^ (-1))) := fun j h1 h2 h3 => by
    refine ht _ (s16_al hS) h3 ?_
    refine sn_lt2 (s16_al hS) (fun q hq => ?_) (fun e => out_ne (p := j) (by omega) h2 (by rw [e]))
    rw [hb_and, Bool.and_eq_true] at hq
    exact hq.1
  refine ⟨fun h => ?_, fun ⟨h1, h2, h3, h4⟩ => ?_⟩
  · rcases h with h | ⟨h1, h2⟩
    · by_cases c : pc S = 1 ∧ S &&& (tld z ^^^ (-1)) = 0
      · rw [if_pos c] at h
        have j16 := s16_lt hS h
        have hpo := pc_out j16 h
        exact ⟨and_not0.mp c.2, j16, h, Or.inl ((pc_z (s16_al hS)).mp (by omega))⟩
      · rw [if_neg c, hb_0] at h
        cases h
    · unfold cX at h2
      rw [Bool.and_eq_true, Bool.and_eq_true] at h2
      have hd := of_decide_eq_true h2.2
      have back : sub (S &&& (bt j ^^^ (-1))) (tld z) → sub S (tld z) := fun hh q hq => by
        by_cases e : q = j
        · rw [e]; exact h2.1.2
        · exact hh q (by rw [hb_out (by omega), hq]; simp [e])
      by_cases e : S &&& (bt j ^^^ (-1)) = 0
      · refine ⟨back (by rw [e]; intro q hq; rw [hb_0] at hq; cases hq), h1, h2.1.1, Or.inl e⟩
      · rw [tS j h1 h2.1.1 e] at hd
        refine ⟨back ?_, h1, h2.1.1, Or.inr hd⟩
        refine Classical.byContradiction fun hn => hd ?_
        unfold Hs
        rw [if_neg (fun x => hn (and_not0.mp x))]
        exact Int32.zero_and
  · by_cases e : S &&& (bt j ^^^ (-1)) = 0
    · refine Or.inl ?_
      have hpo := pc_out h2 h3
      rw [e, pc_0] at hpo
      rw [if_pos ⟨hpo.symm, and_not0.mpr h1⟩]
      exact h3
    · rcases h4 with h4 | h4
      · exact absurd h4 e
      · refine Or.inr ⟨h2, ?_⟩
        unfold cX
        rw [h3, h1 j h3, tS j h2 h3 e, decide_eq_true h4]
        rfl
theorem m_lgv {S : Int32} (hS : s16 S) (hs : sub S (tld z)) {t : Nat → Int32} (ht : ∀ T, s16 T → T ≠ 0 → sn T < sn S → t (sn T) = Hs z T) : lp (fun p a => if cM z t S p = true then a ||| bt p else a) 16 0 0 = Hs z S := by
  refine hb_ext fun j _ => ?_
  refine Bool.eq_iff_iff.mpr ?_
  rw [hb_lpb (cM z t S) _ j 16 (by decide), hb_Hs hS, hb_0]
  have tS : ∀ j, j < 16 → hb S j = true → S &&& (bt j ^^^ (-1)) ≠ 0 → t (sn (S &&& (bt j ^^^ (-1)))) = Hs z (S &&& (bt j ^^^ (-1))) := fun j h1 h2 h3 => by
    refine ht _ (s16_al hS) h3 ?_
    refine sn_lt2 (s16_al hS) (fun q hq => ?_) (fun e => out_ne (p := j) (by omega) h2 (by rw [e]))
    rw [hb_and, Bool.and_eq_true] at hq
    exact hq.1
  refine ⟨fun h => ?_, fun ⟨h1, h2, h3, h4⟩ => Or.inr ⟨h2, ?_⟩⟩
  · rcases h with h | ⟨h1, h2⟩
    · cases h
    · unfold cM at h2
      rw [Bool.and_eq_true, Bool.or_eq_true] at h2
      refine ⟨hs, h1, h2.1, ?_⟩
      by_cases e : S &&& (bt j ^^^ (-1)) = 0
      · exact Or.inl e
      · rcases h2.2 with h3 | h3
        · exact absurd (of_decide_eq_true h3) e
        · rw [tS j h1 h2.1 e] at h3
          exact Or.inr (of_decide_eq_true h3)
  · unfold cM
    rw [h3, Bool.true_and, Bool.or_eq_true]
    by_cases e : S &&& (bt j ^^^ (-1)) = 0
    · exact Or.inl (decide_eq_true e)
    · rcases h4 with h4 | h4
      · exact absurd h4 e
      · rw [tS j h2 h3 e]
        exact Or.inr (decide_eq_true h4)
end
