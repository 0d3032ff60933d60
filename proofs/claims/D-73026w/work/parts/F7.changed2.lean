/-! THE PLAIN LAW: changed, the model's walks -/
set_option maxRecDepth 100000
section
variable {L : Nat} {xs : Nat → Int32} {z : z_T}
theorem m_62 {m : Nat} (hm : m ≤ 8) : ∀ (d s n : Nat) (y : z_T), s + d = 2 ^ m → d + 1 ≤ n → kp z y → (∀ T, sn T < s → y.1 132 (sn T) = if sn T = 0 then 1 else 0) →
    ∃ y', kp z y' ∧ L_X6_changed_62 n 105 (ii m) (ii s) (hp L xs y) = some (hp L xs y') ∧ ∀ T, sn T < 2 ^ m → y'.1 132 (sn T) = if sn T = 0 then 1 else 0
  | 0, s, n, y, h1, h2, h3, h4 => by
    obtain ⟨q, rfl⟩ : ∃ q, n = q + 1 := ⟨n - 1, by omega⟩
    have h2m := p2 hm
    obtain rfl : s = 2 ^ m := by omega
    rw [L_X6_changed_62, if_neg (by rw [btd, bt_eq (by omega), ii_lt (by omega) (by omega)]; omega)]
    exact ⟨y, h3, rfl, h4⟩
  | d + 1, s, n, y, h1, h2, h3, h4 => by
    obtain ⟨q, rfl⟩ : ∃ q, n = q + 1 := ⟨n - 1, by omega⟩
    have h2m := p2 hm
    have hsn : sn (ii s) = s := sn_ii (by omega)
    have e0 : (ii s = 0) = (s = 0) := ii_eq (b := 0) (by omega) (by omega)
    have next : L_X6_changed_62 (q + 1) 105 (ii m) (ii s) (hp L xs y) = L_X6_changed_62 q 105 (ii m) (ii (s + 1)) (hp L xs (ui y 132 (sn (ii s)) (if s = 0 then 1 else 0))) := by
      rw [L_X6_changed_62, if_pos (by rw [btd, bt_eq (by omega), ii_lt (by omega) (by omega)]; omega)]
      simp only [zr_0, zr_1, zr_2, zr_3, zr_4, zr_5, zr_6, Option.bind_some, po_s, po_n, si132 (show sn (ii s) < 256 by omega), e0, ii_s]
      by_cases c : s = 0
      · rw [if_pos c, if_pos c]
      · rw [if_neg c, if_neg c]
    rw [next]
    exact m_62 hm d (s + 1) q (ui y 132 (sn (ii s)) (if s = 0 then 1 else 0)) (by omega) (by omega) (h3.ui rfl) (fun T t => by
      by_cases e : sn T = sn (ii s)
      · rw [e, ui_a, hsn]
      · rw [ui_b e]
        exact h4 T (by omega))
/-- a byte of the tape -/
def by_ (z : z_T) (k : Nat) : Int32 := z.1 75 k &&& 255
theorem m_octY {y : z_T} (T : ∀ i, i < 260 → z.1 113 i = z.1 75 i) (h3 : kp z y) {k : Nat} (hk : k < 260) : F_X6_octet (hp L xs y) 105 (ii k) = some (by_ z k) := by
  unfold F_X6_octet by_
  simp only [zr_0, zr_1, zr_2, zr_3, zr_4, zr_5, zr_6, Option.bind_some, po_s, po_n, za_0, za_1, za_2, za_3, za_4, za_5, hk, show y.1 113 k = z.1 75 k from (h3.2 113 k rfl).trans (T k hk)]
/-- the model counts -/
theorem m_ah1 {m : Nat} (hT : ∀ i, i < 260 → z.1 113 i = z.1 75 i) (hm : m ≤ 8) {S : Int32} (hS : sub S (full m)) : ∀ (d k n : Nat) (y : z_T), k + d = m → d + 1 ≤ n → kp z y → (∀ T, sub T S → T ≠ S → y.1 132 (sn T) = ii (Cn (by_ z) m (pc T) T)) → y.1 132 (sn S) = ii (sm (Gn (by_ z) m S) k) →
    ∃ y', kp z y' ∧ L_X6_allHoused_19 n 105 (ii m) S (ii (pc S) - 1) (ii k) (hp L xs y) = some (hp L xs y') ∧ (∀ j, j ≠ sn S → y'.1 132 j = y.1 132 j) ∧ y'.1 132 (sn S) = ii (sm (Gn (by_ z) m S) m)
  | 0, k, n, y, h1, h2, h3, h4, h5 => by
    obtain ⟨q, rfl⟩ : ∃ q, n = q + 1 := ⟨n - 1, by omega⟩
    obtain rfl : k = m := by omega
    rw [L_X6_allHoused_19, if_neg (by rw [ii_lt (by omega) (by omega)]; omega)]
    exact ⟨y, h3, rfl, fun _ _ => rfl, h5⟩
  | d + 1, k, n, y, h1, h2, h3, h4, h5 => by
    obtain ⟨q, rfl⟩ : ∃ q, n = q + 1 := ⟨n - 1, by omega⟩
    have hk : k < 16 := by omega
    have h2m := p2 hm
    have hsn := (full_sub hm).mp hS
    have stay : Gn (by_ z) m S k = 0 → ∃ y', kp z y' ∧ L_X6_allHoused_19 q 105 (ii m) S (ii (pc S) - 1) (ii (k + 1)) (hp L xs y) = some (hp L xs y') ∧ (∀ j, j ≠ sn S → y'.1 132 j = y.1 132 j) ∧ y'.1 132 (sn S) = ii (sm (Gn (by_ z) m S) m) := fun e => by
      refine m_ah1 hT hm hS d (k + 1) q y (by omega) (by omega) h3 h4 ?_
      rw [show sm (Gn (by_ z) m S) (k + 1) = sm (Gn (by_ z) m S) k + Gn (by_ z) m S k from rfl, e]
      exact h5
    rw [L_X6_allHoused_19, if_pos (by rw [ii_lt (by omega) (by omega)]; omega)]
    simp only [zr_0, zr_1, zr_2, zr_3, zr_4, zr_5, zr_6, Option.bind_some, po_s, po_n, m_has (show k < 32 by omega), b01, ii_s, btd]
    by_cases c1 : hb S k = true
    · have hpo := pc_out hk c1
      have hps := pc_sub hm hS
      have e4 : ii (pc S) - 1 = ii (pc S - 1) := by
        have : ∀ a, a < 9 → 0 < a → ii a - 1 = ii (a - 1) := by decide
        exact this _ (by omega) (by omega)
      have hi : pc S - 1 < 260 := by omega
      simp only [c1, one_ne0, Bool.false_eq_true, not_true, not_false_eq_true, Classical.not_not, ↓reduceIte, Option.bind_some, po_s, po_n, zr_0, zr_1, zr_2, zr_3, zr_4, zr_5, zr_6, e4, m_octY hT h3 hi, m_has (show k < 32 by omega), b01]
      by_cases c2 : hb (by_ z (pc S - 1)) k = true
      · have eF : Gn (by_ z) m S k = Cn (by_ z) m (pc S - 1) (S &&& (bt k ^^^ (-1))) := by
          unfold Gn
          rw [c1, c2]
          rfl
        have hne := out_ne (S := S) (p := k) (by omega) c1
        have hT0 := h4 _ (sub_out (S := S) (j := k)) (fun e => hne (by rw [e]))
        have hT2 : sn (S &&& (bt k ^^^ (-1))) < 256 := by
          have := sn_le (sub16 (sub_out (S := S) (j := k)) (sub16 hS (full16 hm))) (sub_out (S := S) (j := k))
          omega
        simp only [c2, one_ne0, Bool.false_eq_true, not_true, not_false_eq_true, Classical.not_not, ↓reduceIte, Option.bind_some, po_s, po_n, zr_0, zr_1, zr_2, zr_3, zr_4, zr_5, zr_6, ai132 (show sn S < 256 by omega), ai132 hT2, si132 (show sn S < 256 by omega)]
        obtain ⟨y', r1, r2, r4, r5⟩ := m_ah1 hT hm hS d (k + 1) q (ui y 132 (sn S) (y.1 132 (sn S) + y.1 132 (sn (S &&& (bt k ^^^ (-1)))))) (by omega) (by omega) (h3.ui rfl) (fun T t1 t2 => by
          rw [ui_b (fun e => t2 (sn_inj e))]
          exact h4 T t1 t2) (by
          rw [ui_a, h5, hT0, show pc (S &&& (bt k ^^^ (-1))) = pc S - 1 by omega, ← eF, ii_add]
          rfl)
        rw [e4] at r2
        exact ⟨y', r1, r2, fun j hj => (r4 j hj).trans (ui_b hj), r5⟩
      · have c2' : hb (by_ z (pc S - 1)) k = false := by simpa using c2
        simp only [c2', one_ne0, Bool.false_eq_true, not_true, not_false_eq_true, Classical.not_not, ↓reduceIte, Option.bind_some, po_s, po_n]
        rw [← e4]
        refine stay ?_
        unfold Gn
        rw [c2', Bool.and_false]
        rfl
    · have c1' : hb S k = false := by simpa using c1
      simp only [c1', one_ne0, Bool.false_eq_true, not_true, not_false_eq_true, Classical.not_not, ↓reduceIte, Option.bind_some, po_s, po_n]
      refine stay ?_
      unfold Gn
      rw [c1']
      rfl
theorem m_ah2 {m : Nat} (hT : ∀ i, i < 260 → z.1 113 i = z.1 75 i) (hm : m ≤ 8) : ∀ (d s n : Nat) (y : z_T), s + d = 2 ^ m → 0 < s → d + 60 ≤ n → kp z y → (∀ T, sn T < s → y.1 132 (sn T) = ii (Cn (by_ z) m (pc T) T)) → (∀ T, s ≤ sn T → sn T < 2 ^ m → y.1 132 (sn T) = 0) →
    ∃ y', kp z y' ∧ L_X6_allHoused_2 n 105 (ii m) (ii s) (hp L xs y) = some (hp L xs y') ∧ ∀ T, sn T < 2 ^ m → y'.1 132 (sn T) = ii (Cn (by_ z) m (pc T) T)
  | 0, s, n, y, h1, h0, h2, h3, h4, h6 => by
    obtain ⟨q, rfl⟩ : ∃ q, n = q + 1 := ⟨n - 1, by omega⟩
    have h2m := p2 hm
    obtain rfl : s = 2 ^ m := by omega
    rw [L_X6_allHoused_2, if_neg (by rw [btd, bt_eq (by omega), ii_lt (by omega) (by omega)]; omega)]
    exact ⟨y, h3, rfl, h4⟩
  | d + 1, s, n, y, h1, h0, h2, h3, h4, h6 => by
    obtain ⟨q, rfl⟩ : ∃ q, n = q + 1 := ⟨n - 1, by omega⟩
    have h2m := p2 hm
    have hsn : sn (ii s) = s := sn_ii (by omega)
    have hS : sub (ii s) (full m) := (full_sub hm).mpr (by omega)
    have hS16 := sub16 hS (full16 hm)
    have hpp := pc_pos h0 (show s < 65536 by omega)
    obtain ⟨y1, k1, w1, w3, w4⟩ := m_ah1 (L := L) (xs := xs) (z := z) hT hm hS m 0 q y (by omega) (by omega) h3 (fun T t1 t2 => by
      have := sn_lt2 (sub16 t1 hS16) t1 t2
      exact h4 T (by omega)) (h6 (ii s) (by omega) (by omega))
    have w1 : L_X6_allHoused_19 q 105 (ii m) (ii s) (ii (pc (ii s)) - 1) 0 (hp L xs y) = some (hp L xs y1) := w1
    rw [L_X6_allHoused_2, if_pos (by rw [btd, bt_eq (by omega), ii_lt (by omega) (by omega)]; omega), m_bits (by omega), Option.bind_some, w1, Option.bind_some, ii_s]
    refine m_ah2 hT hm d (s + 1) q y1 (by omega) (by omega) (by omega) k1 (fun T t => ?_) (fun T t1 t2 => ?_)
    · by_cases e : sn T = sn (ii s)
      · rw [e, w4, sn_inj e, Cn_s (by omega)]
      · rw [w3 _ e]
        exact h4 T (by omega)
    · rw [w3 _ (by omega)]
      exact h6 T (by omega) t2
/-- what is marked -/
def isM (r : Int32 → Bool) (m w : Nat) : Prop := (∃ T, sub T (full m) ∧ r T = true ∧ pc T = w) ∧ ∀ T, sub T (full m) → r T = true → pc T ≤ w
theorem m_24 {m i : Nat} (hT : ∀ i, i < 260 → z.1 113 i = z.1 75 i) (hm : m ≤ 8) (hi : i < m) {S : Int32} (hS : sub S (full m)) : ∀ (d k n : Nat) (y : z_T) (w : Nat), k + d = m → d + 60 ≤ n → kp z y → w ≤ 8 → isM (Pb (by_ z) m i (sn S) k) m w → (∀ T, sub T (full m) → y.1 132 (sn T) = if Pb (by_ z) m i (sn S) k T = true then 1 else 0) →
    ∃ y' w', kp z y' ∧ L_X6_mostHoused_24 n 105 (ii m) (ii w) (ii i) S (ii k) (hp L xs y) = some (ii w', hp L xs y') ∧ w' ≤ 8 ∧ isM (Pb (by_ z) m i (sn S) m) m w' ∧ ∀ T, sub T (full m) → y'.1 132 (sn T) = if Pb (by_ z) m i (sn S) m T = true then 1 else 0
  | 0, k, n, y, w, h1, h2, h3, hw, h4, h5 => by
    obtain ⟨q, rfl⟩ : ∃ q, n = q + 1 := ⟨n - 1, by omega⟩
    obtain rfl : k = m := by omega
    rw [L_X6_mostHoused_24, if_neg (by rw [ii_lt (by omega) (by omega)]; omega)]
    exact ⟨y, w, h3, rfl, hw, h4, h5⟩
  | d + 1, k, n, y, w, h1, h2, h3, hw, h4, h5 => by
    obtain ⟨q, rfl⟩ : ∃ q, n = q + 1 := ⟨n - 1, by omega⟩
    have hk : k < 16 := by omega
    have hkm : k < m := by omega
    have h2m := p2 hm
    have hsn := (full_sub hm).mp hS
    have hv := h5 S hS
    rw [Pb_self] at hv
    rw [L_X6_mostHoused_24, if_pos (by rw [ii_lt (by omega) (by omega)]; omega)]
    simp only [zr_0, zr_1, zr_2, zr_3, zr_4, zr_5, zr_6, Option.bind_some, po_s, po_n, ai132 (show sn S < 256 by omega), hv]
    by_cases cR : Rb (by_ z) m i S = true
    · have stay : hb S k = true ∨ hb (by_ z i) k = false → ∃ y' w', kp z y' ∧ L_X6_mostHoused_24 q 105 (ii m) (ii w) (ii i) S (ii (k + 1)) (hp L xs y) = some (ii w', hp L xs y') ∧ w' ≤ 8 ∧ isM (Pb (by_ z) m i (sn S) m) m w' ∧ ∀ T, sub T (full m) → y'.1 132 (sn T) = if Pb (by_ z) m i (sn S) m T = true then 1 else 0 := fun e => by
        have eq : Pb (by_ z) m i (sn S) (k + 1) = Pb (by_ z) m i (sn S) k := funext fun T => Pb_no (Or.inr e) T
        exact m_24 hT hm hi hS d (k + 1) q y w (by omega) (by omega) h3 hw (by rw [eq]; exact h4) (by rw [eq]; exact h5)
      rw [if_pos cR, if_pos (by decide)]
      simp only [m_has (show k < 32 by omega), b01, ii_s, btd, Option.bind_some, po_s, po_n, m_octY hT h3 (show i < 260 by omega)]
      by_cases c1 : hb S k = true
      · simp only [c1, one_ne0, Bool.false_eq_true, not_true, not_false_eq_true, Classical.not_not, ↓reduceIte, Option.bind_some, po_s, po_n]
        exact stay (Or.inl c1)
      · have c1' : hb S k = false := by simpa using c1
        by_cases c2 : hb (by_ z i) k = true
        · have hT1 : sub (S ||| bt k) (full m) := sub_ob hS hk (by rw [hb_full hm]; exact decide_eq_true hkm)
          have hT2 := (full_sub hm).mp hT1
          have hk1 : hb (S ||| bt k) k = true := by rw [hb_or, hb_bt (by omega)]; simp
          have hpo := pc_out (A := S ||| bt k) (j := k) hk hk1
          rw [or_out (by omega) c1'] at hpo
          have hps := pc_sub hm hT1
          have mb : F_X6_bits q S = some (ii (pc S)) := m_bits (by omega)
          have em : F_X6_max (ii w) (ii (pc S + 1)) = some (ii (if w < pc S + 1 then pc S + 1 else w)) := by
            rw [m_max, mx_ii (by omega) (by omega)]
          simp only [c1', c2, one_ne0, Bool.false_eq_true, not_true, not_false_eq_true, Classical.not_not, ↓reduceIte, Option.bind_some, po_s, po_n, zr_0, zr_1, zr_2, zr_3, zr_4, zr_5, zr_6, si132 (show sn (S ||| bt k) < 256 by omega), mb, ii_s, em]
          refine m_24 hT hm hi hS d (k + 1) q (ui y 132 (sn (S ||| bt k)) 1) (if w < pc S + 1 then pc S + 1 else w) (by omega) (by omega) (h3.ui rfl) (by split <;> omega) ⟨?_, fun T t1 t2 => ?_⟩ fun T t1 => ?_
          · by_cases c : w < pc S + 1
            · rw [if_pos c]
              exact ⟨S ||| bt k, hT1, Pb_at hkm hm cR c1' c2, hpo.symm⟩
            · rw [if_neg c]
              obtain ⟨⟨T, t1, t2, t3⟩, _⟩ := h4
              by_cases e : T = S ||| bt k
              · subst e
                exact ⟨_, hT1, Pb_at hkm hm cR c1' c2, t3⟩
              · exact ⟨T, t1, by rw [Pb_oth e]; exact t2, t3⟩
          · by_cases e : T = S ||| bt k
            · subst e
              split <;> omega
            · rw [Pb_oth e] at t2
              have := h4.2 T t1 t2
              split <;> omega
          · by_cases e : sn T = sn (S ||| bt k)
            · rw [e, ui_a, sn_inj e, if_pos (Pb_at hkm hm cR c1' c2)]
            · rw [ui_b e, h5 T t1, Pb_oth (fun x => e (by rw [x]))]
        · have c2' : hb (by_ z i) k = false := by simpa using c2
          simp only [c1', c2', one_ne0, Bool.false_eq_true, not_true, not_false_eq_true, Classical.not_not, ↓reduceIte, Option.bind_some, po_s, po_n]
          exact stay (Or.inr c2')
    · rw [if_neg cR, if_neg (by decide)]
      have all : ∀ j, Pb (by_ z) m i (sn S) (k + j) = Pb (by_ z) m i (sn S) k := fun j => by
        induction j with
        | zero => rfl
        | succ j ih => exact (funext fun T => Pb_no (Or.inl (by simpa using cR)) T : Pb (by_ z) m i (sn S) (k + j + 1) = _).trans ih
      have am := all (m - k)
      rw [show k + (m - k) = m by omega] at am
      exact ⟨y, w, h3, rfl, hw, by rw [am]; exact h4, by rw [am]; exact h5⟩
theorem m_16 {m i : Nat} (hT : ∀ i, i < 260 → z.1 113 i = z.1 75 i) (hm : m ≤ 8) (hi : i < m) : ∀ (s n : Nat) (y : z_T) (w : Nat), s < 2 ^ m → s + 100 ≤ n → kp z y → w ≤ 8 → isM (Pb (by_ z) m i s 0) m w → (∀ T, sub T (full m) → y.1 132 (sn T) = if Pb (by_ z) m i s 0 T = true then 1 else 0) →
    ∃ y' w', kp z y' ∧ L_X6_mostHoused_16 n 105 (ii m) (ii w) (ii i) (ii s) (hp L xs y) = some (ii w', hp L xs y') ∧ w' ≤ 8 ∧ isM (Rb (by_ z) m (i + 1)) m w' ∧ ∀ T, sub T (full m) → y'.1 132 (sn T) = if Rb (by_ z) m (i + 1) T = true then 1 else 0
  | s, n, y, w, h1, h2, h3, hw, h4, h5 => by
    obtain ⟨n, rfl⟩ : ∃ q, n = q + 1 := ⟨n - 1, by omega⟩
    have h2m := p2 hm
    have hsn : sn (ii s) = s := sn_ii (by omega)
    have hS : sub (ii s) (full m) := (full_sub hm).mpr (by omega)
    obtain ⟨y1, w1, k1, e1, hw1, i1, t1⟩ := m_24 (L := L) (xs := xs) (z := z) hT hm hi hS m 0 n y w (by omega) (by omega) h3 hw (by rw [hsn]; exact h4) (by rw [hsn]; exact h5)
    rw [hsn] at i1 t1
    have e1 : L_X6_mostHoused_24 n 105 (ii m) (ii w) (ii i) (ii s) 0 (hp L xs y) = some (ii w1, hp L xs y1) := e1
    rw [L_X6_mostHoused_16, if_neg (ii_nn (by omega)), e1, Option.bind_some]
    match s, h1, h2, i1, t1 with
    | 0, h1, h2, i1, t1 =>
      obtain ⟨q, rfl⟩ : ∃ q, n = q + 1 := ⟨n - 1, by omega⟩
      rw [L_X6_mostHoused_16, if_pos (by decide)]
      have eq : Pb (by_ z) m i 0 m = Rb (by_ z) m (i + 1) := funext fun T => Pb_end T
      rw [eq] at i1 t1
      exact ⟨y1, w1, k1, rfl, hw1, i1, t1⟩
    | s + 1, h1, h2, i1, t1 =>
      have em : ii (s + 1) + -1 = ii s := by
        rw [← ii_add, show ii 1 = 1 from rfl, Int32.add_assoc, show (1 : Int32) + -1 = 0 from rfl, Int32.add_zero]
      have eq : Pb (by_ z) m i s 0 = Pb (by_ z) m i (s + 1) m := funext fun T => Pb_dn T
      rw [em]
      exact m_16 hT hm hi s n y1 w1 (by omega) (by omega) k1 hw1 (by rw [eq]; exact i1) (by rw [eq]; exact t1)
theorem m_4 {m : Nat} (hT : ∀ i, i < 260 → z.1 113 i = z.1 75 i) (hm : m ≤ 8) : ∀ (d i n : Nat) (y : z_T) (w : Nat), i + d = m → d + 500 ≤ n → kp z y → w ≤ 8 → isM (Rb (by_ z) m i) m w → (∀ T, sub T (full m) → y.1 132 (sn T) = if Rb (by_ z) m i T = true then 1 else 0) →
    ∃ y' w', kp z y' ∧ L_X6_mostHoused_4 n 105 (ii m) (ii w) (ii i) (hp L xs y) = some (ii w', hp L xs y') ∧ isM (Rb (by_ z) m m) m w'
  | 0, i, n, y, w, h1, h2, h3, hw, h4, h5 => by
    obtain ⟨q, rfl⟩ : ∃ q, n = q + 1 := ⟨n - 1, by omega⟩
    obtain rfl : i = m := by omega
    rw [L_X6_mostHoused_4, if_neg (by rw [ii_lt (by omega) (by omega)]; omega)]
    exact ⟨y, w, h3, rfl, h4⟩
  | d + 1, i, n, y, w, h1, h2, h3, hw, h4, h5 => by
    obtain ⟨q, rfl⟩ : ∃ q, n = q + 1 := ⟨n - 1, by omega⟩
    have h2m := p2 hm
    have ef : pm_shl 1 (ii m) - 1 = ii (2 ^ m - 1) := by
      have : ∀ m, m < 9 → pm_shl 1 (ii m) - 1 = ii (2 ^ m - 1) := by decide
      exact this m (by omega)
    have eb : ∀ T, sub T (full m) → Pb (by_ z) m i (2 ^ m - 1) 0 T = Rb (by_ z) m i T := fun T hs => Pb_beg hm (by omega) hs
    obtain ⟨y1, w1, k1, e1, hw1, i1, t1⟩ := m_16 (L := L) (xs := xs) (z := z) (i := i) hT hm (by omega) (2 ^ m - 1) q y w (by omega) (by omega) h3 hw (by
      obtain ⟨⟨T, t1, t2, t3⟩, t4⟩ := h4
      exact ⟨⟨T, t1, by rw [eb T t1]; exact t2, t3⟩, fun T a b => t4 T a (by rw [← eb T a]; exact b)⟩) (fun T a => by rw [eb T a]; exact h5 T a)
    rw [L_X6_mostHoused_4, if_pos (by rw [ii_lt (by omega) (by omega)]; omega), ef, e1, Option.bind_some, ii_s]
    exact m_4 hT hm d (i + 1) q y1 w1 (by omega) (by omega) k1 hw1 i1 t1
end
