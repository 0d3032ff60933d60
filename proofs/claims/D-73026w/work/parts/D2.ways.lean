/-! THE PLAIN LAW: ways -/
set_option maxRecDepth 100000
def jl (v : Nat) : Int64 := Int64.ofNat v
theorem jl_add (a b : Nat) : jl a + jl b = jl (a + b) := (Int64.ofNat_add a b).symm
section
variable {L : Nat} {xs : Nat → Int32} {z : z_T}
/-- ways from S to all -/
def gw (z : z_T) (A S : Int32) : Nat := P A (fr z) (pc A - pc S) S A
theorem al80 {s : Int32} (h : s16 s) : pm_al (hp L xs z) 80 s = some (z.2.1 80 (sn s)) := by
  have e := (show ∀ k, k < 65536 → pm_al (hp L xs z) 80 (ii k) = some (z.2.1 80 k) by intro k hk; simp only [za_0, za_1, za_2, za_3, za_4, za_5, hk]) (sn s) (sn_lt h)
  rw [ii_sn] at e
  exact e
theorem sl80 {s : Int32} (h : s16 s) {v : Int64} : pm_sl (hp L xs z) 80 s v = some (hp L xs (ul z 80 (sn s) v)) := by
  have e := (show ∀ k, k < 65536 → pm_sl (hp L xs z) 80 (ii k) v = some (hp L xs (ul z 80 k v)) by intro k hk; simp only [za_0, za_1, za_2, za_3, za_4, za_5, hk]) (sn s) (sn_lt h)
  rw [ii_sn] at e
  exact e
theorem ul_a {i k : Nat} {v : Int64} : (ul z i k v).2.1 i k = v := by
  rw [ul_i]
  exact if_pos rfl
theorem ul_b {i k j : Nat} {v : Int64} (h : j ≠ k) : (ul z i k v).2.1 i j = z.2.1 i j := by
  rw [ul_i]
  exact if_neg h
def Fx (z : z_T) (A S : Int32) (k p : Nat) : Nat := if okp A (fr z) S p = true then P A (fr z) k (S ||| bt p) A else 0
theorem x_lo1 {A S : Int32} (hA : s16 A) (hS : sub S A) {k : Nat} (hk : S ≠ A → pc A - pc S = k + 1) : ∀ (d p n : Nat) (c : Nat) (y : z_T), p + d = 16 → d + 1 ≤ n → kp z y → (∀ T, sub T A → sub S T → T ≠ S → y.2.1 80 (sn T) = jl (gw z A T)) → y.2.1 80 (sn S) = jl (c + sm (Fx z A S k) p) →
    ∃ y', kp z y' ∧ L_X0_laysOrders_35 n 7 A S (ii p) (hp L xs y) = some (hp L xs y') ∧ (∀ j, j ≠ sn S → y'.2.1 80 j = y.2.1 80 j) ∧ y'.2.1 80 (sn S) = jl (c + sm (Fx z A S k) 16)
  | 0, p, n, c, y, h1, h2, h3, h4, h5 => by
    obtain ⟨m, rfl⟩ : ∃ m, n = m + 1 := ⟨n - 1, by omega⟩
    obtain rfl : p = 16 := by omega
    rw [L_X0_laysOrders_35, if_neg (by decide)]
    exact ⟨y, h3, rfl, fun _ _ => rfl, h5⟩
  | d + 1, p, n, c, y, h1, h2, h3, h4, h5 => by
    obtain ⟨m, rfl⟩ : ∃ m, n = m + 1 := ⟨n - 1, by omega⟩
    have hp1 : p < 16 := by omega
    have hS16 : s16 S := sub16 hS hA
    have hT16 : s16 (S ||| bt p) := s16_or hS16 (s16_bt hp1)
    have e1 : hb (A &&& (S ^^^ (-1))) p = (hb A p && !hb S p) := by
      rw [hb_and, hb_not, decide_eq_true (show p < 32 by omega), Bool.true_and]
    rw [L_X0_laysOrders_35, if_pos (lt16 hp1)]
    simp only [zr_0, zr_1, zr_2, zr_3, zr_4, zr_5, zr_6, Option.bind_some, po_s, po_n, e_has (show p < 32 by omega), b01, e1, x_fr hp1, kp_fr h3, ii_s, btd]
    by_cases c1 : (hb A p && !hb S p) = true
    · by_cases c2 : fr z p &&& (S ^^^ (-1)) = 0
      · have eF : Fx z A S k p = 0 := by
          unfold Fx okp
          rw [c2]
          simp
        simp only [c1, c2, one_ne0, Bool.false_eq_true, not_true, not_false_eq_true, Classical.not_not, ↓reduceIte, Option.bind_some, po_s, po_n]
        refine x_lo1 hA hS hk d (p + 1) m c y (by omega) (by omega) h3 h4 ?_
        show _ = jl (c + (sm (Fx z A S k) p + Fx z A S k p))
        rw [eF]
        exact h5
      · have c1' := c1
        rw [Bool.and_eq_true] at c1'
        have hs : hb S p = false := by simpa using c1'.2
        have hsub : sub (S ||| bt p) A := sub_or hS fun q hq => by
          rw [hb_bt (by omega)] at hq
          rw [of_decide_eq_true hq]
          exact c1'.1
        have hne : S ||| bt p ≠ S := fun e => by
          have : hb (S ||| bt p) p = true := by rw [hb_or, hb_bt (by omega)]; simp
          rw [e, hs] at this
          cases this
        have hpc : pc (S ||| bt p) = pc S + 1 := by
          have := pc_out (A := S ||| bt p) hp1 (by rw [hb_or, hb_bt (by omega)]; simp)
          rw [or_out (by omega) hs] at this
          omega
        have hSA : S ≠ A := fun e => by rw [e, c1'.1] at hs; cases hs
        have hk2 := hk hSA
        have eF : Fx z A S k p = gw z A (S ||| bt p) := by
          unfold Fx gw okp
          rw [c1'.1, hs, decide_eq_true c2, hpc, show pc A - (pc S + 1) = k by omega]
          rfl
        simp only [c1, c2, one_ne0, Bool.false_eq_true, not_true, not_false_eq_true, Classical.not_not, ↓reduceIte, al80 hS16, al80 hT16, sl80 hS16, Option.bind_some, po_s, po_n]
        obtain ⟨y', r1, r2, r3, r4⟩ := x_lo1 hA hS hk d (p + 1) m c (ul y 80 (sn S) (y.2.1 80 (sn S) + y.2.1 80 (sn (S ||| bt p)))) (by omega) (by omega) h3.ul (fun T t1 t2 t3 => by
          rw [ul_b (fun e => t3 (sn_inj e))]
          exact h4 T t1 t2 t3) (by
          rw [ul_a, h5, h4 _ hsub sub_l hne, jl_add, Nat.add_assoc, ← eF]
          rfl)
        exact ⟨y', r1, r2, fun j hj => (r3 j hj).trans (ul_b hj), r4⟩
    · have c1' : (hb A p && !hb S p) = false := by simpa using c1
      have eF : Fx z A S k p = 0 := by
        unfold Fx okp
        rw [← Bool.and_assoc, c1']
        rfl
      simp only [c1', one_ne0, Bool.false_eq_true, not_true, not_false_eq_true, Classical.not_not, ↓reduceIte, Option.bind_some, po_s, po_n]
      refine x_lo1 hA hS hk d (p + 1) m c y (by omega) (by omega) h3 h4 ?_
      show _ = jl (c + (sm (Fx z A S k) p + Fx z A S k p))
      rw [eF]
      exact h5
theorem x_lo2 {A : Int32} (hA : s16 A) : ∀ (m n : Nat) (y : z_T), m < 65536 → m + 60 ≤ n → kp z y → (∀ T, sub T A → m < sn T → y.2.1 80 (sn T) = jl (gw z A T)) →
    ∃ y', kp z y' ∧ L_X0_laysOrders_2 n 7 A (ii m) (hp L xs y) = some (hp L xs y') ∧ ∀ T, sub T A → y'.2.1 80 (sn T) = jl (gw z A T)
  | m, n, y, h1, h2, h3, h4 => by
    obtain ⟨j, rfl⟩ : ∃ j, n = j + 1 := ⟨n - 1, by omega⟩
    have next : ∃ y1, kp z y1 ∧ L_X0_laysOrders_2 (j + 1) 7 A (ii m) (hp L xs y) = L_X0_laysOrders_2 j 7 A (ii m + -1) (hp L xs y1) ∧ ∀ T, sub T A → m ≤ sn T → y1.2.1 80 (sn T) = jl (gw z A T) := by
      rw [L_X0_laysOrders_2, if_neg (ii_nn (by omega))]
      by_cases c : ii m &&& (A ^^^ (-1)) = 0
      · have hS := and_not0.mp c
        have hS16 := ii_s16 h1
        rw [if_pos c]
        have gT : ∀ T, sub T A → sub (ii m) T → T ≠ ii m → ∀ v, (ul y 80 (sn (ii m)) v).2.1 80 (sn T) = jl (gw z A T) := fun T t1 t2 t3 v => by
          rw [ul_b (fun e => t3 (sn_inj e))]
          have := sn_lt2 hS16 t2 (fun e => t3 e.symm)
          rw [sn_ii h1] at this
          exact h4 T t1 this
        have hkk : ii m ≠ A → pc A - pc (ii m) = (pc A - pc (ii m) - 1) + 1 := fun hne => by
          have a := pc_mono hS
          have b : pc (ii m) ≠ pc A := fun e => hne (pc_eq hS16 hA hS e)
          omega
        obtain ⟨y', r1, r2, r3, r4⟩ := x_lo1 (L := L) (xs := xs) (z := z) hA hS hkk 16 0 j (if ii m = A then 1 else 0) (ul y 80 (sn (ii m)) (jl (if ii m = A then 1 else 0))) rfl (by omega) h3.ul (fun T t1 t2 t3 => gT T t1 t2 t3 _) ul_a
        refine ⟨y', r1, ?_, fun T t1 t2 => ?_⟩
        · have e2 : ((if ii m = A then some 1 else some 0) : Option Int64) = some (jl (if ii m = A then 1 else 0)) := by
            by_cases c2 : ii m = A
            · rw [if_pos c2, if_pos c2]; rfl
            · rw [if_neg c2, if_neg c2]; rfl
          have r2 : L_X0_laysOrders_35 j 7 A (ii m) 0 (hp L xs (ul y 80 (sn (ii m)) (jl (if ii m = A then 1 else 0)))) = some (hp L xs y') := r2
          simp only [zr_0, zr_1, zr_2, zr_3, zr_4, zr_5, zr_6, Option.bind_some, po_s, po_n, e2, sl80 hS16, r2]
        · by_cases e : sn T = sn (ii m)
          · have e' := sn_inj e
            subst e'
            rw [r4]
            refine congrArg jl ?_
            unfold gw
            by_cases c2 : ii m = A
            · rw [if_pos c2, c2, Nat.sub_self]
              have : sm (Fx z A A (pc A - pc A - 1)) 16 = 0 := by
                rw [← sm_0 16]
                refine sm_cong fun p _ => ?_
                unfold Fx okp
                cases hb A p <;> rfl
              have h5 : (1 : Nat) + sm (Fx z A A (pc A - pc A - 1)) 16 = 1 := by rw [this]
              rw [show pc A - pc A - 1 = 0 - 1 by omega] at h5
              rw [show P A (fr z) 0 A A = (if A = A then 1 else 0) from rfl, if_pos rfl]
              exact h5
            · rw [if_neg c2, Nat.zero_add, hkk c2]
              rfl
          · rw [r3 _ e, ul_b e]
            rw [sn_ii h1] at e
            exact h4 T t1 (by omega)
      · rw [if_neg c]
        refine ⟨y, h3, rfl, fun T t1 t2 => ?_⟩
        by_cases e : sn T = m
        · rw [← e, ii_sn] at c
          exact absurd (and_not0.mpr t1) c
        · exact h4 T t1 (by omega)
    obtain ⟨y1, k1, e1, t1⟩ := next
    rw [e1]
    match m, h1, h2, h4, t1 with
    | 0, h1, h2, h4, t1 =>
      obtain ⟨i, rfl⟩ : ∃ i, j = i + 1 := ⟨j - 1, by omega⟩
      rw [L_X0_laysOrders_2, if_pos (by decide)]
      exact ⟨y1, k1, rfl, fun T t => t1 T t (by omega)⟩
    | m + 1, h1, h2, h4, t1 =>
      have em : ii (m + 1) + -1 = ii m := by
        rw [← ii_add, show ii 1 = 1 from rfl, Int32.add_assoc, show (1 : Int32) + -1 = 0 from rfl, Int32.add_zero]
      rw [em]
      exact x_lo2 hA m j y1 (by omega) (by omega) k1 fun T a b => t1 T a (by omega)
theorem x_lays {A : Int32} (hA : s16 A) {n : Nat} (hn : 66000 ≤ n) : ∃ y', kp z y' ∧ F_X0_laysOrders n (hp L xs z) 7 A = some (hp L xs y') ∧ ∀ T, sub T A → y'.2.1 80 (sn T) = jl (gw z A T) := by
  have hl := sn_lt hA
  obtain ⟨y', r1, r2, r3⟩ := x_lo2 (L := L) (xs := xs) (z := z) hA (sn A) n z hl (by omega) kp.rf fun T a b => by
    have := sn_le (sub16 a hA) a
    omega
  rw [ii_sn] at r2
  refine ⟨y', r1, ?_, r3⟩
  unfold F_X0_laysOrders
  rw [r2]
  rfl
/-- the model's -/
def fw (z : z_T) (A T : Int32) : Nat := P A (fr z) (pc T) 0 T
theorem al129 {s : Int32} (h : s16 s) : pm_al (hp L xs z) 129 s = some (z.2.1 129 (sn s)) := by
  have e := (show ∀ k, k < 65536 → pm_al (hp L xs z) 129 (ii k) = some (z.2.1 129 k) by intro k hk; simp only [za_0, za_1, za_2, za_3, za_4, za_5, hk]) (sn s) (sn_lt h)
  rw [ii_sn] at e
  exact e
theorem sl129 {s : Int32} (h : s16 s) {v : Int64} : pm_sl (hp L xs z) 129 s v = some (hp L xs (ul z 129 (sn s) v)) := by
  have e := (show ∀ k, k < 65536 → pm_sl (hp L xs z) 129 (ii k) v = some (hp L xs (ul z 129 k v)) by intro k hk; simp only [za_0, za_1, za_2, za_3, za_4, za_5, hk]) (sn s) (sn_lt h)
  rw [ii_sn] at e
  exact e
def Fm (z : z_T) (A T : Int32) (k p : Nat) : Nat := if lst A (fr z) T p = true then P A (fr z) k 0 (T &&& (bt p ^^^ (-1))) else 0
theorem m_wy1 {A T : Int32} {y : z_T} (W : I_who z) (J : I_foe z) (hA : s16 A) (hT : sub T A) {k : Nat} (hk : T ≠ 0 → pc T = k + 1) (h3 : kp z y) (h4 : ∀ S, sub S T → S ≠ T → y.2.1 129 (sn S) = jl (fw z A S)) {n : Nat} (hn : 20 ≤ n) : L_X6_ways_66 n 105 T 0 0 (hp L xs y) = some (jl (sm (Fm z A T k) 16)) := by
  have hT16 := sub16 hT hA
  have h := lp_rule (G := fun n p a => L_X6_ways_66 n 105 T a (ii p) (hp L xs y)) (f := fun p _ => jl (sm (Fm z A T k) (p + 1))) (N := 16) (c := 0) (fin := some) (fun p a => a = jl (sm (Fm z A T k) p))
    (fun n p a hp1 hc I => by
      refine ⟨?_, rfl⟩
      subst I
      have h1 : F_X6_friendsOf (hp L xs y) 105 (ii p) = some (fr z p) := by
        unfold F_X6_friendsOf
        simp only [zr_0, zr_1, zr_2, zr_3, zr_4, zr_5, zr_6, Option.bind_some, po_s, po_n, za_0, za_1, za_2, za_3, za_4, za_5, hp1, show y.1 105 7 = tld z from (h3.2 105 7 rfl).trans W.2.1, show y.1 110 p = z.1 10 p from (h3.2 110 p rfl).trans (J p hp1).1]
        rfl
      show L_X6_ways_66 (n + 1) 105 T (jl (sm (Fm z A T k) p)) (ii p) (hp L xs y) = _
      rw [L_X6_ways_66, if_pos (lt16 hp1)]
      have hS16 : s16 (T &&& (bt p ^^^ (-1))) := s16_al hT16
      simp only [zr_0, zr_1, zr_2, zr_3, zr_4, zr_5, zr_6, Option.bind_some, po_s, po_n, m_has (show p < 32 by omega), b01, h1, ii_s, btd, al129 hS16]
      by_cases c1 : hb T p = true
      · by_cases c2 : fr z p &&& ((T &&& (bt p ^^^ (-1))) ^^^ (-1)) = 0
        · have eF : Fm z A T k p = 0 := by
            unfold Fm lst okp
            rw [c2]
            simp
          simp only [c1, c2, one_ne0, Bool.false_eq_true, not_true, not_false_eq_true, Classical.not_not, ↓reduceIte, Option.bind_some, po_s, po_n]
          rw [show sm (Fm z A T k) (p + 1) = sm (Fm z A T k) p + Fm z A T k p from rfl, eF]
          rfl
        · have hsub : sub (T &&& (bt p ^^^ (-1))) T := fun q hq => by
            rw [hb_and, Bool.and_eq_true] at hq
            exact hq.1
          have hout : hb (T &&& (bt p ^^^ (-1))) p = false := by
            rw [hb_out (by omega)]; simp
          have hne : T &&& (bt p ^^^ (-1)) ≠ T := fun e => by
            rw [e, c1] at hout
            cases hout
          have hT0 : T ≠ 0 := fun e => by rw [e, hb_0] at c1; cases c1
          have hk2 := hk hT0
          have hpc := pc_out hp1 c1
          have eF : Fm z A T k p = fw z A (T &&& (bt p ^^^ (-1))) := by
            unfold Fm fw lst okp
            rw [c1, hT p c1, hout, decide_eq_true c2, show pc (T &&& (bt p ^^^ (-1))) = k by omega]
            rfl
          simp only [c1, c2, one_ne0, Bool.false_eq_true, not_true, not_false_eq_true, Classical.not_not, ↓reduceIte, Option.bind_some, po_s, po_n]
          rw [h4 _ hsub hne, jl_add, ← eF]
          rfl
      · have c1' : hb T p = false := by simpa using c1
        have eF : Fm z A T k p = 0 := by
          unfold Fm lst
          rw [c1']
          rfl
        simp only [c1', one_ne0, Bool.false_eq_true, not_true, not_false_eq_true, Classical.not_not, ↓reduceIte, Option.bind_some, po_s, po_n]
        rw [show sm (Fm z A T k) (p + 1) = sm (Fm z A T k) p + Fm z A T k p from rfl, eF]
        rfl)
    (fun n a _ _ => by
      show L_X6_ways_66 (n + 1) 105 T a (ii 16) (hp L xs y) = _
      rw [L_X6_ways_66, if_neg (by decide)]) 16 0 n (jl 0) rfl (by omega) rfl
  have h5 : L_X6_ways_66 n 105 T 0 0 (hp L xs y) = _ := h.1
  rw [h5, h.2]
theorem m_wy2 {A : Int32} (W : I_who z) (J : I_foe z) (hA : s16 A) : ∀ (d m n : Nat) (y : z_T), m + d = sn A + 1 → d + 60 ≤ n → 0 < m → kp z y → (∀ T, sub T A → sn T < m → y.2.1 129 (sn T) = jl (fw z A T)) →
    ∃ y', kp z y' ∧ L_X6_ways_44 n 105 A (ii m) (hp L xs y) = some (hp L xs y') ∧ y'.2.1 129 (sn A) = jl (fw z A A)
  | 0, m, n, y, h1, h2, h0, h3, h4 => by
    obtain ⟨j, rfl⟩ : ∃ j, n = j + 1 := ⟨n - 1, by omega⟩
    have hl := sn_lt hA
    have c : A < ii m := by
      rw [← ii_sn A, ii_lt (by omega) (by omega)]
      omega
    rw [L_X6_ways_44, if_pos c]
    exact ⟨y, h3, rfl, h4 A sub.rf (by omega)⟩
  | d + 1, m, n, y, h1, h2, h0, h3, h4 => by
    obtain ⟨j, rfl⟩ : ∃ j, n = j + 1 := ⟨n - 1, by omega⟩
    have hl := sn_lt hA
    have c : ¬ A < ii m := by
      rw [← ii_sn A, ii_lt (by omega) (by omega)]
      omega
    rw [L_X6_ways_44, if_neg c]
    by_cases c2 : ii m &&& (A ^^^ (-1)) = 0
    · have hT := and_not0.mp c2
      have hT16 : s16 (ii m) := ii_s16 (by omega)
      have hm0 : ii m ≠ 0 := fun e => by
        have := congrArg sn e
        rw [sn_ii (by omega)] at this
        exact absurd this (by show m ≠ 0; omega)
      have hpc : ii m ≠ 0 → pc (ii m) = (pc (ii m) - 1) + 1 := fun hne => by
        obtain ⟨q, q1, q2⟩ := s16_ne hT16 hne
        have := pc_out q1 q2
        omega
      have r := m_wy1 (L := L) (xs := xs) (y := y) W J hA hT hpc h3 (fun S s1 s2 => by
        refine h4 S (s1.tr hT) ?_
        have := sn_lt2 (sub16 s1 hT16) s1 s2
        rw [sn_ii (by omega)] at this
        exact this) (n := j) (by omega)
      rw [if_pos c2, r]
      simp only [zr_0, zr_1, zr_2, zr_3, zr_4, zr_5, zr_6, Option.bind_some, po_s, po_n, sl129 hT16, ii_s]
      have eP : sm (Fm z A (ii m) (pc (ii m) - 1)) 16 = fw z A (ii m) := by
        unfold fw
        rw [hpc hm0, P_last]
        rfl
      rw [eP]
      refine m_wy2 W J hA d (m + 1) j _ (by omega) (by omega) (by omega) h3.ul fun T t1 t2 => ?_
      by_cases e : sn T = m
      · have e' : T = ii m := sn_inj (by rw [e, sn_ii (by omega)])
        subst e'
        exact ul_a
      · rw [ul_b (by rw [sn_ii (by omega)]; exact e)]
        exact h4 T t1 (by omega)
    · rw [if_neg c2, ii_s]
      refine m_wy2 W J hA d (m + 1) j y (by omega) (by omega) (by omega) h3 fun T t1 t2 => ?_
      by_cases e : sn T = m
      · rw [← e, ii_sn] at c2
        exact absurd (and_not0.mpr t1) c2
      · exact h4 T t1 (by omega)
/-- of a call that answers a long -/
def OpL (L : Nat) (xs : Nat → Int32) (z : z_T) (A B : pm_H → Option (Int64 × pm_H)) : Prop := ∃ (r : Int64) (z1 z2 : z_T), A (hp L xs z) = some (r, hp L xs z1) ∧ B (hp L xs z1) = some (r, hp L xs z2) ∧ Inv z2 ∧ lf z z2 ∧ rm z z2
theorem o_ways {w : Int32} {n : Nat} (I : Inv z) (hn : 66000 ≤ n) : OpL L xs z (fun h => F_X0_ways n h 7 w) (fun h => F_X6_ways n h 105 w) := by
  by_cases hw : ¬ w < 0 ∧ w &&& (tld z ^^^ (-1)) = 0
  · have eA : (tld z &&& lck z) &&& (w ^^^ (-1)) = lck z &&& (w ^^^ (-1)) := hb_ext fun k _ => by
      rw [hb_and, hb_and, hb_and]
      cases c : hb (lck z) k with
      | false => simp
      | true => rw [I.1.2.2.2 k c]; simp
    have hA : s16 (lck z &&& (w ^^^ (-1))) := s16_al fun k hk => by
      cases c : hb (lck z) k with
      | false => rfl
      | true =>
        have := I.1.2.2.2 k c
        rw [I.1.1 k hk] at this
        cases this
    have hw16 : s16 w := sub16 (and_not0.mp hw.2) I.1.1
    have hwi : ¬ w < 0 ∧ ¬ (65535 : Int32) < w := ⟨hw.1, by
      rw [← ii_sn w, show (65535 : Int32) = ii 65535 from rfl, ii_lt (by omega) (by have := sn_lt hw16; omega)]
      have := sn_lt hw16
      omega⟩
    generalize eB : lck z &&& (w ^^^ (-1)) = A at eA hA
    obtain ⟨y, k1, x1, x2⟩ := x_lays (L := L) (xs := xs) (z := z) hA (n := n) hn
    have I2 := I.kp k1
    have hl := sn_lt hA
    have k2 : kp y (ul y 129 0 1) := kp.rf.ul
    obtain ⟨y2, k3, m1, m2⟩ := m_wy2 (L := L) (xs := xs) (z := y) I2.1 I2.2.2.1 hA (sn A) 1 n (ul y 129 0 1) (by omega) (by omega) (by omega) k2 fun T t1 t2 => by
      have e : T = 0 := sn_inj (by show sn T = 0; omega)
      subst e
      rfl
    have e10 : fr y = fr z := funext fun p => kp_fr k1 p
    refine ⟨jl (P A (fr z) (pc A) 0 A), y, y2, ?_, ?_, I2.kp k3, (k1.tr k3).lf, kp_rm (k1.tr k3)⟩
    · have h0 := x2 0 (fun k hk => by rw [hb_0] at hk; cases hk)
      unfold gw at h0
      rw [pc_0, Nat.sub_zero] at h0
      show F_X0_ways n (hp L xs z) 7 w = _
      unfold F_X0_ways
      simp only [zr_0, zr_1, zr_2, zr_3, zr_4, zr_5, zr_6, Option.bind_some, po_s, po_n, x_are, if_pos hw, one_ne0, ↓reduceIte, eA, x1, al80 s16_0, h0]
    · unfold fw at m2
      rw [e10] at m2
      have m1 : L_X6_ways_44 n 105 A 1 (hp L xs (ul y 129 0 1)) = some (hp L xs y2) := m1
      have es : pm_sl (hp L xs y) 129 0 1 = some (hp L xs (ul y 129 0 1)) := sl129 s16_0
      show F_X6_ways n (hp L xs y) 105 w = _
      unfold F_X6_ways
      rw [m_in, if_pos hwi]
      simp only [zr_0, zr_1, zr_2, zr_3, zr_4, zr_5, zr_6, Option.bind_some, po_s, po_n, one_ne0, ↓reduceIte, show y.1 105 7 = tld z from (k1.2 105 7 rfl).trans I.1.2.1, show y.1 105 8 = lck z from (k1.2 105 8 rfl).trans I.1.2.2.1, hw.2, eB, es, m1, al129 hA, m2]
  · refine ⟨-1, z, z, ?_, ?_, I, kp.rf.lf, kp_rm kp.rf⟩
    · show F_X0_ways n (hp L xs z) 7 w = _
      unfold F_X0_ways
      simp only [zr_0, zr_1, zr_2, zr_3, zr_4, zr_5, zr_6, Option.bind_some, po_s, po_n, x_are, if_neg hw, ↓reduceIte]
    · show F_X6_ways n (hp L xs z) 105 w = _
      unfold F_X6_ways
      rw [m_in]
      simp only [zr_0, zr_1, zr_2, zr_3, zr_4, zr_5, zr_6, Option.bind_some, po_s, po_n, I.1.2.1]
      by_cases c : ¬ w < 0 ∧ ¬ (65535 : Int32) < w
      · rw [if_pos c, if_neg (by decide), if_neg (fun e => hw ⟨c.1, e⟩)]
      · rw [if_neg c, if_pos rfl]
end
