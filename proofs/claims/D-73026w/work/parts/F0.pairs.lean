/-! THE PLAIN LAW: rows of bits, each with one of its own -/
set_option maxRecDepth 100000
/-- in how many ways -/
def Cn (r : Nat → Int32) (m : Nat) : Nat → Int32 → Nat
  | 0, _ => 1
  | k + 1, S => sm (fun j => if (hb S j && hb (r k) j) = true then Cn r m k (S &&& (bt j ^^^ (-1))) else 0) m
def full (m : Nat) : Int32 := ii (2 ^ m - 1)
theorem hb_full {m j : Nat} (h : m ≤ 8) : hb (full m) j = decide (j < m) := by
  unfold full
  by_cases hj : j < 32
  · rw [hb_ii hj, Nat.testBit_two_pow_sub_one]
  · rw [hb_ge (by omega)]
    exact (decide_eq_false (by omega)).symm
theorem pc_fullm : ∀ {m}, m ≤ 8 → pc (full m) = m := by
  have : ∀ m, m < 9 → pcF (2 ^ m - 1) = m := by decide
  intro m h
  unfold full
  rw [pc_ii]
  exact this m (by omega)
theorem p2 : ∀ {m}, m ≤ 8 → 0 < 2 ^ m ∧ 2 ^ m ≤ 256 := by
  have : ∀ m, m < 9 → 0 < 2 ^ m ∧ 2 ^ m ≤ 256 := by decide
  intro m h
  exact this m (by omega)
theorem full16 {m : Nat} (h : m ≤ 8) : s16 (full m) := by
  have := p2 h
  exact ii_s16 (by omega)
theorem sn_full {m : Nat} (h : m ≤ 8) : sn (full m) = 2 ^ m - 1 := by
  have := p2 h
  exact sn_ii (by omega)
theorem full_sub {m : Nat} (h : m ≤ 8) {S : Int32} : sub S (full m) ↔ sn S < 2 ^ m := by
  have hp2 := p2 h
  refine ⟨fun e => ?_, fun e k hk => ?_⟩
  · have := sn_le (sub16 e (full16 h)) e
    rw [sn_full h] at this
    omega
  · rw [hb_full h]
    refine decide_eq_true (Classical.byContradiction fun hn => ?_)
    have h32 : k < 32 := Classical.byContradiction fun q => by rw [hb_ge (by omega)] at hk; cases hk
    rw [← ii_sn S, hb_ii h32] at hk
    rw [Nat.testBit_lt_two_pow (Nat.lt_of_lt_of_le e (Nat.pow_le_pow_right (n := 2) (by decide) (by omega)))] at hk
    cases hk
theorem pc_sub {m : Nat} (h : m ≤ 8) {S : Int32} (hs : sub S (full m)) : pc S ≤ m := by
  have := pc_mono hs
  rw [pc_fullm h] at this
  exact this
/-- one row's part -/
def Gn (r : Nat → Int32) (m : Nat) (S : Int32) (j : Nat) : Nat := if (hb S j && hb (r (pc S - 1)) j) = true then Cn r m (pc S - 1) (S &&& (bt j ^^^ (-1))) else 0
theorem Cn_s {r : Nat → Int32} {m : Nat} {S : Int32} (h : pc S ≠ 0) : Cn r m (pc S) S = sm (Gn r m S) m := by
  have e : pc S = (pc S - 1) + 1 := by omega
  rw [show Cn r m (pc S) S = Cn r m ((pc S - 1) + 1) S by rw [← e]]
  rfl
theorem Gn_0 {r : Nat → Int32} {m : Nat} {S : Int32} (h : S = 0) : sm (Gn r m S) m = 0 := by
  rw [← sm_0 m]
  refine sm_cong fun j _ => ?_
  unfold Gn
  rw [h, hb_0]
  rfl
theorem sub_out {S : Int32} {j : Nat} : sub (S &&& (bt j ^^^ (-1))) S := fun q hq => by
  rw [hb_and, Bool.and_eq_true] at hq
  exact hq.1
section
variable {L : Nat} {xs : Nat → Int32} {z : z_T}
theorem ai83 {s : Int32} (h : sn s < 256) : pm_ai 0 (hp L xs z) 83 s = some (z.1 83 (sn s)) := by
  have e := (show ∀ k, k < 256 → pm_ai 0 (hp L xs z) 83 (ii k) = some (z.1 83 k) by intro k hk; simp only [za_0, za_1, za_2, za_3, za_4, za_5, hk]) (sn s) h
  rw [ii_sn] at e
  exact e
theorem si83 {s : Int32} (h : sn s < 256) {v : Int32} : pm_si 0 (hp L xs z) 83 s v = some (hp L xs (ui z 83 (sn s) v)) := by
  have e := (show ∀ k, k < 256 → pm_si 0 (hp L xs z) 83 (ii k) v = some (hp L xs (ui z 83 k v)) by intro k hk; simp only [za_0, za_1, za_2, za_3, za_4, za_5, hk]) (sn s) h
  rw [ii_sn] at e
  exact e
theorem ai132 {s : Int32} (h : sn s < 256) : pm_ai 0 (hp L xs z) 132 s = some (z.1 132 (sn s)) := by
  have e := (show ∀ k, k < 256 → pm_ai 0 (hp L xs z) 132 (ii k) = some (z.1 132 k) by intro k hk; simp only [za_0, za_1, za_2, za_3, za_4, za_5, hk]) (sn s) h
  rw [ii_sn] at e
  exact e
theorem si132 {s : Int32} (h : sn s < 256) {v : Int32} : pm_si 0 (hp L xs z) 132 s v = some (hp L xs (ui z 132 (sn s) v)) := by
  have e := (show ∀ k, k < 256 → pm_si 0 (hp L xs z) 132 (ii k) v = some (hp L xs (ui z 132 k v)) by intro k hk; simp only [za_0, za_1, za_2, za_3, za_4, za_5, hk]) (sn s) h
  rw [ii_sn] at e
  exact e
theorem x_pr1 {r : Nat → Int32} {m : Nat} (hm : m ≤ 8) {S : Int32} (hS : sub S (full m)) {c : Nat} : ∀ (d k n : Nat) (y : z_T), k + d = m → d + 1 ≤ n → kp z y → (∀ k, k < 8 → y.1 84 k = r k) → (∀ T, sub T S → T ≠ S → y.1 83 (sn T) = ii (Cn r m (pc T) T)) → y.1 83 (sn S) = ii (c + sm (Gn r m S) k) →
    ∃ y', kp z y' ∧ L_X0_pairings_35 n 7 84 (ii m) S (ii (pc S) - 1) (ii k) (hp L xs y) = some (hp L xs y') ∧ (∀ k, k < 8 → y'.1 84 k = r k) ∧ (∀ j, j ≠ sn S → y'.1 83 j = y.1 83 j) ∧ y'.1 83 (sn S) = ii (c + sm (Gn r m S) m)
  | 0, k, n, y, h1, h2, h3, hr, h4, h5 => by
    obtain ⟨q, rfl⟩ : ∃ q, n = q + 1 := ⟨n - 1, by omega⟩
    obtain rfl : k = m := by omega
    rw [L_X0_pairings_35, if_neg (by rw [ii_lt (by omega) (by omega)]; omega)]
    exact ⟨y, h3, rfl, hr, fun _ _ => rfl, h5⟩
  | d + 1, k, n, y, h1, h2, h3, hr, h4, h5 => by
    obtain ⟨q, rfl⟩ : ∃ q, n = q + 1 := ⟨n - 1, by omega⟩
    have hk : k < 16 := by omega
    have h2m := p2 hm
    have hsn := (full_sub hm).mp hS
    have stay : Gn r m S k = 0 → ∃ y', kp z y' ∧ L_X0_pairings_35 q 7 84 (ii m) S (ii (pc S) - 1) (ii (k + 1)) (hp L xs y) = some (hp L xs y') ∧ (∀ k, k < 8 → y'.1 84 k = r k) ∧ (∀ j, j ≠ sn S → y'.1 83 j = y.1 83 j) ∧ y'.1 83 (sn S) = ii (c + sm (Gn r m S) m) := fun e => by
      refine x_pr1 hm hS d (k + 1) q y (by omega) (by omega) h3 hr h4 ?_
      rw [show sm (Gn r m S) (k + 1) = sm (Gn r m S) k + Gn r m S k from rfl, e]
      exact h5
    rw [L_X0_pairings_35, if_pos (by rw [ii_lt (by omega) (by omega)]; omega)]
    simp only [zr_0, zr_1, zr_2, zr_3, zr_4, zr_5, zr_6, Option.bind_some, po_s, po_n, e_has (show k < 32 by omega), b01, ii_s, btd]
    by_cases c1 : hb S k = true
    · have hpo := pc_out hk c1
      have hps := pc_sub hm hS
      have e4 : ii (pc S) - 1 = ii (pc S - 1) := by
        have : ∀ a, a < 9 → 0 < a → ii a - 1 = ii (a - 1) := by decide
        exact this _ (by omega) (by omega)
      have hi : pc S - 1 < 8 := by omega
      simp only [c1, one_ne0, Bool.false_eq_true, not_true, not_false_eq_true, Classical.not_not, ↓reduceIte, Option.bind_some, po_s, po_n, e4, za_0, za_1, za_2, za_3, za_4, za_5, hi, hr _ hi, e_has (show k < 32 by omega), b01]
      by_cases c2 : hb (r (pc S - 1)) k = true
      · have eF : Gn r m S k = Cn r m (pc S - 1) (S &&& (bt k ^^^ (-1))) := by
          unfold Gn
          rw [c1, c2]
          rfl
        have hne := out_ne (S := S) (p := k) (by omega) c1
        have hT := h4 _ (sub_out (S := S) (j := k)) (fun e => hne (by rw [e]))
        have hT2 : sn (S &&& (bt k ^^^ (-1))) < 256 := by
          have := sn_le (sub16 (sub_out (S := S) (j := k)) (sub16 hS (full16 hm))) (sub_out (S := S) (j := k))
          omega
        simp only [c2, one_ne0, Bool.false_eq_true, not_true, not_false_eq_true, Classical.not_not, ↓reduceIte, Option.bind_some, po_s, po_n, zr_0, zr_1, zr_2, zr_3, zr_4, zr_5, zr_6, ai83 (show sn S < 256 by omega), ai83 hT2, si83 (show sn S < 256 by omega)]
        obtain ⟨y', r1, r2, r3, r4, r5⟩ := x_pr1 (r := r) (c := c) hm hS d (k + 1) q (ui y 83 (sn S) (y.1 83 (sn S) + y.1 83 (sn (S &&& (bt k ^^^ (-1)))))) (by omega) (by omega) (h3.ui rfl) (fun k hk => by rw [ui_o (by decide)]; exact hr k hk) (fun T t1 t2 => by
          rw [ui_b (fun e => t2 (sn_inj e))]
          exact h4 T t1 t2) (by
          rw [ui_a, h5, hT, show pc (S &&& (bt k ^^^ (-1))) = pc S - 1 by omega, ← eF, ii_add, Nat.add_assoc]
          rfl)
        rw [e4] at r2
        exact ⟨y', r1, r2, r3, fun j hj => (r4 j hj).trans (ui_b hj), r5⟩
      · have c2' : hb (r (pc S - 1)) k = false := by simpa using c2
        simp only [c2', one_ne0, Bool.false_eq_true, not_true, not_false_eq_true, Classical.not_not, ↓reduceIte, Option.bind_some, po_s, po_n]
        rw [← e4]
        refine stay ?_
        unfold Gn
        rw [c2', Bool.and_false]
        rfl
    · have c1' : hb S k = false := by simpa using c1
      simp only [c1', one_ne0, Bool.false_eq_true, not_true, not_false_eq_true, Classical.not_not, ↓reduceIte, Option.bind_some, po_s, po_n]
      refine stay ?_
      unfold Gn
      rw [c1']
      rfl
theorem x_pr2 {r : Nat → Int32} {m : Nat} (hm : m ≤ 8) : ∀ (d s n : Nat) (y : z_T), s + d = 2 ^ m → d + 60 ≤ n → kp z y → (∀ k, k < 8 → y.1 84 k = r k) → (∀ T, sn T < s → y.1 83 (sn T) = ii (Cn r m (pc T) T)) →
    ∃ y', kp z y' ∧ L_X0_pairings_2 n 7 84 (ii m) (ii s) (hp L xs y) = some (hp L xs y') ∧ ∀ T, sn T < 2 ^ m → y'.1 83 (sn T) = ii (Cn r m (pc T) T)
  | 0, s, n, y, h1, h2, h3, hr, h4 => by
    obtain ⟨q, rfl⟩ : ∃ q, n = q + 1 := ⟨n - 1, by omega⟩
    have h2m := p2 hm
    obtain rfl : s = 2 ^ m := by omega
    rw [L_X0_pairings_2, if_neg (by rw [btd, bt_eq (by omega), ii_lt (by omega) (by omega)]; omega)]
    exact ⟨y, h3, rfl, h4⟩
  | d + 1, s, n, y, h1, h2, h3, hr, h4 => by
    obtain ⟨q, rfl⟩ : ∃ q, n = q + 1 := ⟨n - 1, by omega⟩
    have h2m := p2 hm
    have hsn : sn (ii s) = s := sn_ii (by omega)
    have hS : sub (ii s) (full m) := (full_sub hm).mpr (by omega)
    have hS16 := sub16 hS (full16 hm)
    rw [L_X0_pairings_2, if_pos (by rw [btd, bt_eq (by omega), ii_lt (by omega) (by omega)]; omega)]
    have e2 : ((if ii s = 0 then some 1 else some 0) : Option Int32) = some (ii (if ii s = 0 then 1 else 0)) := by
      by_cases c : ii s = 0
      · rw [if_pos c, if_pos c]; rfl
      · rw [if_neg c, if_neg c]; rfl
    obtain ⟨y1, k1, w1, w2, w3, w4⟩ := x_pr1 (L := L) (xs := xs) (z := z) (r := r) hm hS (c := if ii s = 0 then 1 else 0) m 0 q (ui y 83 (sn (ii s)) (ii (if ii s = 0 then 1 else 0))) (by omega) (by omega) (h3.ui rfl) (fun k hk => by rw [ui_o (by decide)]; exact hr k hk) (fun T t1 t2 => by
      rw [ui_b (fun e => t2 (sn_inj e))]
      have := sn_lt2 (sub16 t1 hS16) t1 t2
      exact h4 T (by omega)) ui_a
    have w1 : L_X0_pairings_35 q 7 84 (ii m) (ii s) (ii (pc (ii s)) - 1) 0 (hp L xs (ui y 83 (sn (ii s)) (ii (if ii s = 0 then 1 else 0)))) = some (hp L xs y1) := w1
    simp only [zr_0, zr_1, zr_2, zr_3, zr_4, zr_5, zr_6, Option.bind_some, po_s, po_n, e2, si83 (show sn (ii s) < 256 by omega), e_bits hS16, w1, ii_s]
    refine x_pr2 hm d (s + 1) q y1 (by omega) (by omega) k1 w2 fun T t => ?_
    by_cases e : sn T = sn (ii s)
    · rw [e, w4, sn_inj e]
      refine congrArg ii ?_
      by_cases c : ii s = 0
      · rw [if_pos c, Gn_0 c, c, pc_0]
        rfl
      · rw [if_neg c, Nat.zero_add, Cn_s fun e => c ((pc_z hS16).mp e)]
    · rw [w3 _ e, ui_b e]
      exact h4 T (by omega)
theorem x_prs {r : Nat → Int32} {m n : Nat} (hm : m ≤ 8) {y : z_T} (h3 : kp z y) (hr : ∀ k, k < 8 → y.1 84 k = r k) (hn : 400 ≤ n) : ∃ y', kp z y' ∧ F_X0_pairings n (hp L xs y) 7 84 (ii m) = some (ii (Cn r m m (full m)), hp L xs y') := by
  have h2m := p2 hm
  obtain ⟨y', r1, r2, r3⟩ := x_pr2 (L := L) (xs := xs) (r := r) hm (2 ^ m) 0 n y (by omega) (by omega) h3 hr (fun T t => absurd t (by omega))
  refine ⟨y', r1, ?_⟩
  have r2 : L_X0_pairings_2 n 7 84 (ii m) 0 (hp L xs y) = some (hp L xs y') := r2
  have ef : pm_shl 1 (ii m) - 1 = full m := by
    have : ∀ m, m < 9 → pm_shl 1 (ii m) - 1 = ii (2 ^ m - 1) := by decide
    exact this m (by omega)
  have hs := sn_full hm
  have hf := r3 (full m) (by omega)
  rw [pc_fullm hm] at hf
  unfold F_X0_pairings
  rw [r2, ef]
  simp only [zr_0, zr_1, zr_2, zr_3, zr_4, zr_5, zr_6, Option.bind_some, po_s, po_n, ai83 (show sn (full m) < 256 by omega), hf]
end
