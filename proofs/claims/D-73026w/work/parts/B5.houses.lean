/-! THE PLAIN LAW: meeting, stretch -/
set_option maxRecDepth 100000
theorem n01 {x : Int32} : (x < 2) = ¬ ((1 : Int32) < x) := lt_le 1 2 (by decide) rfl
section
variable {L : Nat} {xs : Nat → Int32} {z : z_T}
def s_step (z : z_T) (u : Int32) (q : Nat) (a : Int32) : Int32 := if hb (tld z) q = true then a + ab (z.1 9 q - u) else a
theorem add0 (a : Int32) : a + 0 = a := Int32.add_zero a
theorem x_step' {u : Int32} {n : Nat} (hn : 0 + 16 + 1 ≤ n) : L_X0_stepsTo_4 n 7 u 0 0 (hp L xs z) = some (lp (s_step z u) 16 0 0) :=
  lp_r (G := fun n k a => L_X0_stepsTo_4 n 7 u a (ii k) (hp L xs z)) (s_step z u) (N := 16) (c := 0) (fin := some)
    (fun n k a hk hc => by
      have hk32 : k < 32 := by omega
      show L_X0_stepsTo_4 (n + 1) 7 u a (ii k) (hp L xs z) = _
      rw [L_X0_stepsTo_4, if_pos (by rw [show (16 : Int32) = ii 16 from rfl, ii_lt (by omega) (by decide)]; exact hk)]
      simp only [zr_0, zr_1, zr_2, zr_3, zr_4, zr_5, zr_6, za_0, za_1, za_2, za_3, za_4, za_5, hk, x_told, isT_ii hk, b01, e_abs, add0, ii_s, btd, or0, Option.bind_some, po_s, po_n, one_ne0, Bool.false_eq_true, not_true, not_false_eq_true, Classical.not_not, ↓reduceIte]
      unfold s_step
      by_cases c1 : hb (tld z) k = true <;> simp [c1])
    (fun n a _ => by
      show L_X0_stepsTo_4 (n + 1) 7 u a (ii 16) (hp L xs z) = _
      rw [L_X0_stepsTo_4, if_neg (by decide)]) (Nat.zero_add _) (by omega)
theorem m_step' {u : Int32} (W : I_who z) (J : I_hou z) {n : Nat} (hn : 0 + 16 + 1 ≤ n) : L_X6_stepsTo_4 n 105 u 0 0 (hp L xs z) = some (lp (s_step z u) 16 0 0) :=
  lp_r (G := fun n k a => L_X6_stepsTo_4 n 105 u a (ii k) (hp L xs z)) (s_step z u) (N := 16) (c := 0) (fin := some)
    (fun n k a hk hc => by
      have hk32 : k < 32 := by omega
      show L_X6_stepsTo_4 (n + 1) 105 u a (ii k) (hp L xs z) = _
      rw [L_X6_stepsTo_4, if_pos (by rw [show (16 : Int32) = ii 16 from rfl, ii_lt (by omega) (by decide)]; exact hk)]
      simp only [zr_0, zr_1, zr_2, zr_3, zr_4, zr_5, zr_6, za_0, za_1, za_2, za_3, za_4, za_5, hk, m_told W, (J k hk).1, isT_ii hk, b01, m_size, ii_s, btd, or0, Option.bind_some, po_s, po_n, one_ne0, Bool.false_eq_true, not_true, not_false_eq_true, Classical.not_not, ↓reduceIte]
      unfold s_step
      by_cases c1 : hb (tld z) k = true <;> simp [c1])
    (fun n a _ => by
      show L_X6_stepsTo_4 (n + 1) 105 u a (ii 16) (hp L xs z) = _
      rw [L_X6_stepsTo_4, if_neg (by decide)]) (Nat.zero_add _) (by omega)
def s_steps (z : z_T) (u : Int32) : Int32 := lp (s_step z u) 16 0 0
theorem x_step {u : Int32} {n : Nat} (hn : 17 ≤ n) : F_X0_stepsTo n (hp L xs z) 7 u = some (s_steps z u) := by
  unfold F_X0_stepsTo
  rw [x_step' (by omega)]
  rfl
theorem m_step {u : Int32} {n : Nat} (W : I_who z) (J : I_hou z) (hn : 17 ≤ n) : F_X6_stepsTo n (hp L xs z) 105 u = some (s_steps z u) := by
  unfold F_X6_stepsTo
  rw [m_step' W J (by omega)]
  rfl
def s_meet (z : z_T) (k : Nat) (a : Int32) : Int32 := if s_steps z (ii k) < s_steps z a then ii k else a
theorem x_meet  {n : Nat} (hn : 17 + 99 + 1 ≤ n) : L_X0_meeting_14 n 7 0 1 (hp L xs z) = some (lp (s_meet z) 99 1 0) :=
  lp_r (G := fun n k a => L_X0_meeting_14 n 7 a (ii k) (hp L xs z)) (s_meet z) (N := 100) (c := 17) (fin := some)
    (fun n k a hk hc => by
      show L_X0_meeting_14 (n + 1) 7 a (ii k) (hp L xs z) = _
      rw [L_X0_meeting_14, if_pos (by rw [show (100 : Int32) = ii 100 from rfl, ii_lt (by omega) (by decide)]; exact hk)]
      simp only [zr_0, zr_1, zr_2, zr_3, zr_4, zr_5, zr_6, x_step (show 17 ≤ n by omega), ii_s, btd, or0, Option.bind_some, po_s, po_n, one_ne0, Bool.false_eq_true, not_true, not_false_eq_true, Classical.not_not, ↓reduceIte]
      unfold s_meet
      by_cases c1 : s_steps z (ii k) < s_steps z a <;> simp [c1])
    (fun n a _ => by
      show L_X0_meeting_14 (n + 1) 7 a (ii 100) (hp L xs z) = _
      rw [L_X0_meeting_14, if_neg (by decide)]) rfl (by omega)
theorem m_meet (W : I_who z) (J : I_hou z) {n : Nat} (hn : 17 + 99 + 1 ≤ n) : L_X6_meeting_15 n 105 0 1 (hp L xs z) = some (lp (s_meet z) 99 1 0) :=
  lp_r (G := fun n k a => L_X6_meeting_15 n 105 a (ii k) (hp L xs z)) (s_meet z) (N := 100) (c := 17) (fin := some)
    (fun n k a hk hc => by
      show L_X6_meeting_15 (n + 1) 105 a (ii k) (hp L xs z) = _
      rw [L_X6_meeting_15, if_neg (by rw [show (99 : Int32) = ii 99 from rfl, ii_lt (by omega) (by omega)]; omega)]
      simp only [zr_0, zr_1, zr_2, zr_3, zr_4, zr_5, zr_6, m_step W J (show 17 ≤ n by omega), ii_s, btd, or0, Option.bind_some, po_s, po_n, one_ne0, Bool.false_eq_true, not_true, not_false_eq_true, Classical.not_not, ↓reduceIte]
      unfold s_meet
      by_cases c1 : s_steps z (ii k) < s_steps z a <;> simp [c1])
    (fun n a _ => by
      show L_X6_meeting_15 (n + 1) 105 a (ii 100) (hp L xs z) = _
      rw [L_X6_meeting_15, if_pos (by rw [show (99 : Int32) = ii 99 from rfl, ii_lt (by omega) (by omega)]; omega)]) rfl (by omega)
theorem o_meeting {w : Int32} {n : Nat} (I : Inv z) (hn : 120 ≤ n) : Op L xs z (rd fun h => F_X0_meeting n h 7 w) (rd fun h => F_X6_meeting n h 105 w) := by
  by_cases hw : ¬ w < 0 ∧ ¬ (1 : Int32) < w
  · by_cases h0 : w = 0
    · subst h0
      refine Op.rd I (r := lp (s_meet z) 99 1 0) ?_ ?_
      · unfold F_X0_meeting
        rw [e_in, x_meet (by omega)]
        simp only [Option.bind_some, po_s, po_n, n01, hw, b01, one_ne0, Bool.false_eq_true, not_true, not_false_eq_true, Classical.not_not, ↓reduceIte, and_self, eq_self]
      · unfold F_X6_meeting
        rw [m_in, m_meet I.1 I.2.1 (by omega)]
        simp only [Option.bind_some, po_s, po_n, hw, b01, one_ne0, Bool.false_eq_true, not_true, not_false_eq_true, Classical.not_not, ↓reduceIte, and_self, eq_self]
    · refine Op.rd I (r := s_steps z (lp (s_meet z) 99 1 0)) ?_ ?_
      · unfold F_X0_meeting
        rw [e_in, x_meet (by omega)]
        simp only [zr_0, zr_1, zr_2, zr_3, zr_4, zr_5, zr_6, Option.bind_some, po_s, po_n, n01, hw, h0, b01, one_ne0, Bool.false_eq_true, not_true, not_false_eq_true, Classical.not_not, ↓reduceIte, and_self, x_step (show 17 ≤ n by omega)]
      · unfold F_X6_meeting
        rw [m_in, m_meet I.1 I.2.1 (by omega)]
        simp only [zr_0, zr_1, zr_2, zr_3, zr_4, zr_5, zr_6, Option.bind_some, po_s, po_n, hw, h0, b01, one_ne0, Bool.false_eq_true, not_true, not_false_eq_true, Classical.not_not, ↓reduceIte, and_self, m_step I.1 I.2.1 (show 17 ≤ n by omega)]
  · refine Op.rd I (r := -1) ?_ ?_
    · unfold F_X0_meeting
      rw [e_in]
      simp only [Option.bind_some, po_s, po_n, n01, hw, b01, one_ne0, Bool.false_eq_true, not_true, not_false_eq_true, Classical.not_not, ↓reduceIte]
    · unfold F_X6_meeting
      rw [m_in]
      simp only [Option.bind_some, po_s, po_n, hw, b01, one_ne0, Bool.false_eq_true, not_true, not_false_eq_true, Classical.not_not, ↓reduceIte]
/-- stretch -/
def s_isH (z : z_T) (u : Int32) (k : Nat) (_ : Unit) : Int32 ⊕ Unit := if hb (tld z) k = true then (if z.1 9 k = u then .inl 1 else .inr ()) else .inr ()
theorem m_isH {u : Int32} (W : I_who z) (J : I_hou z) {n : Nat} (hn : 0 + 16 + 1 ≤ n) : L_X6_isHouse_2 n 105 u 0 (hp L xs z) = po_s (le (s_isH z u) 16 0 ()) (fun b => some (.inl b)) (fun a => some (.inr a)) :=
  le_r (G := fun n k a => L_X6_isHouse_2 n 105 u (ii k) (hp L xs z)) (s_isH z u) (N := 16) (c := 0) (out := fun b => some (.inl b)) (fin := fun a => some (.inr a))
    (fun n k a hk hc => by
      have hk32 : k < 32 := by omega
      show L_X6_isHouse_2 (n + 1) 105 u (ii k) (hp L xs z) = _
      rw [L_X6_isHouse_2, if_pos (by rw [show (16 : Int32) = ii 16 from rfl, ii_lt (by omega) (by decide)]; exact hk)]
      simp only [zr_0, zr_1, zr_2, zr_3, zr_4, zr_5, zr_6, za_0, za_1, za_2, za_3, za_4, za_5, hk, m_told W, isT_ii hk, b01, (J k hk).1, ii_s, btd, or0, Option.bind_some, po_s, po_n, one_ne0, Bool.false_eq_true, not_true, not_false_eq_true, Classical.not_not, ↓reduceIte]
      unfold s_isH
      by_cases c1 : hb (tld z) k = true
      · by_cases c2 : z.1 9 k = u <;> simp only [c1, c2, one_ne0, Bool.false_eq_true, not_true, not_false_eq_true, Classical.not_not, ↓reduceIte, Option.bind_some, po_s, po_n]
      · simp only [c1, one_ne0, Bool.false_eq_true, not_true, not_false_eq_true, Classical.not_not, ↓reduceIte, Option.bind_some, po_s, po_n])
    (fun n a _ => by
      show L_X6_isHouse_2 (n + 1) 105 u (ii 16) (hp L xs z) = _
      rw [L_X6_isHouse_2, if_neg (by decide)]) (Nat.zero_add _) (by omega)
def isH (z : z_T) (u : Int32) : Bool := (List.range 16).any fun k => hb (tld z) k && decide (z.1 9 k = u)
theorem le_isH {u : Int32} : ∀ (r k : Nat), le (s_isH z u) r k () = if ((List.range' k r).any fun k => hb (tld z) k && decide (z.1 9 k = u)) = true then .inl 1 else .inr ()
  | 0, k => rfl
  | r + 1, k => by
    rw [le, List.range'_succ, List.any_cons]
    by_cases c1 : hb (tld z) k = true
    · by_cases c2 : z.1 9 k = u
      · rw [show s_isH z u k () = .inl 1 by unfold s_isH; rw [if_pos c1, if_pos c2], c1, decide_eq_true c2]
        rfl
      · rw [show s_isH z u k () = .inr () by unfold s_isH; rw [if_pos c1, if_neg c2], decide_eq_false c2, Bool.and_false, Bool.false_or]
        exact le_isH r (k + 1)
    · rw [show s_isH z u k () = .inr () by unfold s_isH; rw [if_neg c1], show hb (tld z) k = false by simpa using c1, Bool.false_and, Bool.false_or]
      exact le_isH r (k + 1)
theorem m_isHouse {u : Int32} {n : Nat} (W : I_who z) (J : I_hou z) (hn : 17 ≤ n) : F_X6_isHouse n (hp L xs z) 105 u = some (if isH z u = true then 1 else 0) := by
  unfold F_X6_isHouse
  rw [m_isH W J (by omega), le_isH, ← List.range_eq_range']
  show _ = some (if isH z u = true then 1 else 0)
  unfold isH
  by_cases c : ((List.range 16).any fun k => hb (tld z) k && decide (z.1 9 k = u)) = true
  · rw [if_pos c, if_pos c]; rfl
  · rw [if_neg c, if_neg c]; rfl
theorem hb_betw {u v : Int32} : ∀ (r k : Nat) (a : Int32) (j : Nat), k + r ≤ 16 → hb (lp (s_betw z u v) r k a) j = (hb a j || (decide (k ≤ j) && (decide (j < k + r) && (hb (tld z) j && (decide (¬ z.1 9 j < mn u v) && decide (¬ mx u v < z.1 9 j))))))
  | 0, k, a, j, _ => by
    show hb a j = _
    by_cases h1 : k ≤ j
    · simp [h1, show ¬ j < k by omega]
    · simp [h1]
  | r + 1, k, a, j, h => by
    show hb (lp (s_betw z u v) r (k + 1) (s_betw z u v k a)) j = _
    rw [hb_betw r (k + 1) _ j (by omega)]
    have e : hb (s_betw z u v k a) j = (hb a j || (decide (j = k) && (hb (tld z) k && (decide (¬ z.1 9 k < mn u v) && decide (¬ mx u v < z.1 9 k))))) := by
      unfold s_betw
      by_cases c1 : hb (tld z) k = true
      · by_cases c2 : ¬ z.1 9 k < mn u v ∧ ¬ mx u v < z.1 9 k
        · rw [if_pos c1, if_pos c2, hb_or, hb_bt (by omega), c1, decide_eq_true c2.1, decide_eq_true c2.2]
          simp
        · rw [if_pos c1, if_neg c2]
          by_cases d1 : z.1 9 k < mn u v
          · simp [d1]
          · by_cases d2 : mx u v < z.1 9 k
            · simp [d2]
            · exact absurd ⟨d1, d2⟩ c2
      · rw [if_neg c1]; simp [c1]
    rw [e]
    by_cases hj : j = k
    · subst hj
      simp [show ¬ j + 1 ≤ j by omega]
    · by_cases h1 : k + 1 ≤ j
      · simp [hj, h1, show k ≤ j by omega, show (j < k + 1 + r) = (j < k + (r + 1)) by rw [show k + 1 + r = k + (r + 1) by omega]]
      · simp [hj, h1, show ¬ k ≤ j by omega]
theorem mnmx (u : Int32) : mn u u = u ∧ mx u u = u := by
  have h : ¬ u < u := by rw [i_lt]; omega
  unfold mn mx
  rw [if_neg h]
  exact ⟨rfl, rfl⟩
theorem betw_isH {u : Int32} : (lp (s_betw z u u) 16 0 0 = 0) = ¬ (isH z u = true) := by
  refine propext ⟨fun h hi => ?_, fun h => ?_⟩
  · unfold isH at hi
    rw [List.any_eq_true] at hi
    obtain ⟨k, hk, h2⟩ := hi
    rw [Bool.and_eq_true] at h2
    have hk16 := List.mem_range.mp hk
    have := congrArg (fun q => hb q k) h
    rw [hb_betw 16 0 0 k (by omega), hb_0, (mnmx u).1, (mnmx u).2, h2.1, of_decide_eq_true h2.2, decide_eq_true (show ¬ u < u by rw [i_lt]; omega)] at this
    simp [hk16] at this
  · refine hb_ext fun k _ => ?_
    rw [hb_betw 16 0 0 k (by omega), hb_0, (mnmx u).1, (mnmx u).2]
    by_cases hk : k < 16
    · have h3 : ¬ (hb (tld z) k && decide (z.1 9 k = u)) = true := fun h4 => h (by
        unfold isH
        rw [List.any_eq_true]
        exact ⟨k, List.mem_range.mpr hk, h4⟩)
      by_cases c1 : hb (tld z) k = true
      · have c2 : ¬ z.1 9 k = u := fun e => h3 (by rw [c1, e]; simp)
        have : ¬ (¬ z.1 9 k < u ∧ ¬ u < z.1 9 k) := fun e => c2 (Int32.toInt_inj.mp (by
          have e1 := e.1
          have e2 := e.2
          rw [i_lt] at e1 e2
          omega))
        by_cases d1 : z.1 9 k < u
        · simp [d1]
        · by_cases d2 : u < z.1 9 k
          · simp [d2]
          · exact absurd ⟨d1, d2⟩ this
      · simp [c1]
    · simp [hk]
theorem x_betw0 {u : Int32} {n : Nat} (hu : ¬ u < 0 ∧ u < 100) (hn : 17 ≤ n) : F_X0_between n (hp L xs z) 7 u u = some (lp (s_betw z u u) 16 0 0) := by
  unfold F_X0_between
  rw [e_in]
  simp only [hu, Option.bind_some, po_s, po_n, b01, x_betw (show 0 + 16 + 1 ≤ n by omega), one_ne0, Bool.false_eq_true, not_true, not_false_eq_true, Classical.not_not, ↓reduceIte, and_self]
def fin2 (a : Int32 × Int32 × Int32) : Option (Int32 × Int32) := some (a.1, a.2.1)
def s_str (z : z_T) (k : Nat) (a : Int32 × Int32 × Int32) : Int32 × Int32 × Int32 := if isH z (ii k) = true then (if a.2.2 = -1 then (a.1, a.2.1, ii k) else if a.1 < ii k - a.2.2 then (ii k - a.2.2, a.2.2, ii k) else (a.1, a.2.1, ii k)) else a
theorem x_str  {n : Nat} (hn : 17 + 100 + 1 ≤ n) : L_X0_stretch_21 n 7 (((0, -2, -1) : Int32 × Int32 × Int32)).1 (((0, -2, -1) : Int32 × Int32 × Int32)).2.1 (((0, -2, -1) : Int32 × Int32 × Int32)).2.2 0 (hp L xs z) = fin2 (lp (s_str z) 100 0 ((0, -2, -1) : Int32 × Int32 × Int32)) :=
  lp_r (G := fun n k a => L_X0_stretch_21 n 7 (a).1 (a).2.1 (a).2.2 (ii k) (hp L xs z)) (s_str z) (N := 100) (c := 17) (fin := fin2)
    (fun n k a hk hc => by
      show L_X0_stretch_21 (n + 1) 7 (a).1 (a).2.1 (a).2.2 (ii k) (hp L xs z) = _
      rw [L_X0_stretch_21, if_pos (by rw [show (100 : Int32) = ii 100 from rfl, ii_lt (by omega) (by decide)]; exact hk)]
      simp only [zr_0, zr_1, zr_2, zr_3, zr_4, zr_5, zr_6, x_betw0 (u := ii k) ⟨ii_nn (by omega), by rw [show (100 : Int32) = ii 100 from rfl, ii_lt (by omega) (by decide)]; exact hk⟩ (show 17 ≤ n by omega), betw_isH, ii_s, btd, or0, Option.bind_some, po_s, po_n, one_ne0, Bool.false_eq_true, not_true, not_false_eq_true, Classical.not_not, ↓reduceIte]
      unfold s_str
      by_cases c1 : isH z (ii k) = true
      · by_cases c2 : a.2.2 = -1
        · simp [c1, c2]
        · by_cases c3 : a.1 < ii k - a.2.2 <;> simp [c1, c2, c3]
      · simp [c1])
    (fun n a _ => by
      show L_X0_stretch_21 (n + 1) 7 (a).1 (a).2.1 (a).2.2 (ii 100) (hp L xs z) = _
      rw [L_X0_stretch_21, if_neg (by decide)]; rfl) (Nat.zero_add _) (by omega)
theorem m_str (W : I_who z) (J : I_hou z) {n : Nat} (hn : 17 + 100 + 1 ≤ n) : L_X6_stretch_22 n 105 (((0, -2, -1) : Int32 × Int32 × Int32)).1 (((0, -2, -1) : Int32 × Int32 × Int32)).2.1 (((0, -2, -1) : Int32 × Int32 × Int32)).2.2 0 (hp L xs z) = fin2 (lp (s_str z) 100 0 ((0, -2, -1) : Int32 × Int32 × Int32)) :=
  lp_r (G := fun n k a => L_X6_stretch_22 n 105 (a).1 (a).2.1 (a).2.2 (ii k) (hp L xs z)) (s_str z) (N := 100) (c := 17) (fin := fin2)
    (fun n k a hk hc => by
      show L_X6_stretch_22 (n + 1) 105 (a).1 (a).2.1 (a).2.2 (ii k) (hp L xs z) = _
      rw [L_X6_stretch_22, if_neg (by rw [show (99 : Int32) = ii 99 from rfl, ii_lt (by omega) (by omega)]; omega)]
      simp only [zr_0, zr_1, zr_2, zr_3, zr_4, zr_5, zr_6, m_isHouse (u := ii k) W J (show 17 ≤ n by omega), b01, ii_s, btd, or0, Option.bind_some, po_s, po_n, one_ne0, Bool.false_eq_true, not_true, not_false_eq_true, Classical.not_not, ↓reduceIte]
      unfold s_str
      by_cases c1 : isH z (ii k) = true
      · by_cases c2 : a.2.2 = -1
        · simp [c1, c2]
        · by_cases c3 : a.1 < ii k - a.2.2 <;> simp [c1, c2, c3]
      · simp [c1])
    (fun n a _ => by
      show L_X6_stretch_22 (n + 1) 105 (a).1 (a).2.1 (a).2.2 (ii 100) (hp L xs z) = _
      rw [L_X6_stretch_22, if_pos (by rw [show (99 : Int32) = ii 99 from rfl, ii_lt (by omega) (by omega)]; omega)]; rfl) (Nat.zero_add _) (by omega)
theorem o_stretch {w : Int32} {n : Nat} (I : Inv z) (hn : 120 ≤ n) : Op L xs z (rd fun h => F_X0_stretch n h 7 w) (rd fun h => F_X6_stretch n h 105 w) := by
  by_cases hw : ¬ w < 0 ∧ ¬ (1 : Int32) < w
  · have hx := x_str (L := L) (xs := xs) (z := z) (show 17 + 100 + 1 ≤ n by omega)
    have hm := m_str (L := L) (xs := xs) I.1 I.2.1 (show 17 + 100 + 1 ≤ n by omega)
    dsimp only [fin2] at hx hm
    by_cases h0 : w = 0
    · subst h0
      refine Op.rd I (r := (lp (s_str z) 100 0 ((0, -2, -1) : Int32 × Int32 × Int32)).1) ?_ ?_
      · unfold F_X0_stretch
        rw [e_in, hx]
        simp only [Option.bind_some, po_s, po_n, n01, hw, b01, one_ne0, Bool.false_eq_true, not_true, not_false_eq_true, Classical.not_not, ↓reduceIte, and_self, eq_self]
      · unfold F_X6_stretch
        rw [m_in, hm]
        simp only [Option.bind_some, po_s, po_n, hw, b01, one_ne0, Bool.false_eq_true, not_true, not_false_eq_true, Classical.not_not, ↓reduceIte, and_self, eq_self]
    · refine Op.rd I (r := (lp (s_str z) 100 0 ((0, -2, -1) : Int32 × Int32 × Int32)).2.1) ?_ ?_
      · unfold F_X0_stretch
        rw [e_in, hx]
        simp only [Option.bind_some, po_s, po_n, n01, hw, h0, b01, one_ne0, Bool.false_eq_true, not_true, not_false_eq_true, Classical.not_not, ↓reduceIte, and_self, eq_self]
      · unfold F_X6_stretch
        rw [m_in, hm]
        simp only [Option.bind_some, po_s, po_n, hw, h0, b01, one_ne0, Bool.false_eq_true, not_true, not_false_eq_true, Classical.not_not, ↓reduceIte, and_self, eq_self]
  · refine Op.rd I (r := -1) ?_ ?_
    · unfold F_X0_stretch
      rw [e_in]
      simp only [Option.bind_some, po_s, po_n, n01, hw, b01, one_ne0, Bool.false_eq_true, not_true, not_false_eq_true, Classical.not_not, ↓reduceIte]
    · unfold F_X6_stretch
      rw [m_in]
      simp only [Option.bind_some, po_s, po_n, hw, b01, one_ne0, Bool.false_eq_true, not_true, not_false_eq_true, Classical.not_not, ↓reduceIte]
end
