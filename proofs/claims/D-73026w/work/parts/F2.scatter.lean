/-! THE PLAIN LAW: across, the model's pairs -/
set_option maxRecDepth 100000
theorem sm_upd {F G : Nat → Nat} {k : Nat} (h : ∀ j, j ≠ k → G j = F j) (h0 : F k = 0) : ∀ {m : Nat}, k < m → sm G m = sm F m + G k
  | 0, hk => absurd hk (by omega)
  | m + 1, hk => by
    show sm G m + G m = sm F m + F m + G k
    by_cases e : k = m
    · subst e
      rw [h0, sm_cong (F := G) (G := F) (r := k) fun p hp => h p (by omega)]
      omega
    · rw [sm_upd h h0 (m := m) (by omega), h m (fun x => e x.symm)]
      omega
/-- which parts are laid: all sets above s, of s those below k -/
def Dn (s k : Nat) (S : Int32) (j : Nat) : Bool := decide (s < sn S) || (decide (sn S = s) && decide (j < k))
def Tn (r : Nat → Int32) (m i s k : Nat) (T : Int32) (j : Nat) : Nat := if (hb T j && (hb (r i) j && Dn s k (T &&& (bt j ^^^ (-1))) j)) = true then Cn r m i (T &&& (bt j ^^^ (-1))) else 0
def Vn (r : Nat → Int32) (m i s k : Nat) (T : Int32) : Nat := if pc T ≤ i then Cn r m (pc T) T else if pc T = i + 1 then sm (Tn r m i s k T) m else 0
/-- one more is laid -/
theorem Vn_at {r : Nat → Int32} {m i k : Nat} {S : Int32} (hS16 : s16 S) (hk : k < m) (hm : m ≤ 8) (hi : pc S = i) (h1 : hb S k = false) (h2 : hb (r i) k = true) : Vn r m i (sn S) (k + 1) (S ||| bt k) = Vn r m i (sn S) k (S ||| bt k) + Cn r m i S := by
  have hT : hb (S ||| bt k) k = true := by rw [hb_or, hb_bt (by omega)]; simp
  have e0 := or_out (s := S) (q := k) (by omega) h1
  have hp1 : pc (S ||| bt k) = i + 1 := by
    have := pc_out (A := S ||| bt k) (j := k) (by omega) hT
    rw [e0] at this
    omega
  unfold Vn
  rw [if_neg (by omega), if_pos hp1, if_neg (by omega), if_pos hp1]
  have hG : Tn r m i (sn S) (k + 1) (S ||| bt k) k = Cn r m i S := by
    unfold Tn Dn
    rw [e0, hT, h2]
    simp
  have hF : Tn r m i (sn S) k (S ||| bt k) k = 0 := by
    unfold Tn Dn
    rw [e0, hT, h2]
    simp
  rw [sm_upd (F := Tn r m i (sn S) k (S ||| bt k)) (k := k) (fun j hj => ?_) hF hk, hG]
  unfold Tn Dn
  by_cases e : sn ((S ||| bt k) &&& (bt j ^^^ (-1))) = sn S
  · by_cases c : hb (S ||| bt k) j = true
    · exfalso
      have e2 := sn_inj e
      have h32 : j < 32 := Classical.byContradiction fun q => by rw [hb_ge (by omega)] at c; cases c
      have := congrArg (fun q => hb q k) e2
      rw [hb_out h32, hT, h1] at this
      simp [fun x => hj (Eq.symm x)] at this
      exact hj this.symm
    · have c : hb (S ||| bt k) j = false := by simpa using c
      rw [c]
      rfl
  · rw [decide_eq_false e]
    rfl
theorem Vn_oth {r : Nat → Int32} {m i k : Nat} {S T : Int32} (hk : k < 32) (h1 : hb S k = false) (hne : T ≠ S ||| bt k) : Vn r m i (sn S) (k + 1) T = Vn r m i (sn S) k T := by
  unfold Vn
  by_cases c1 : pc T ≤ i
  · rw [if_pos c1, if_pos c1]
  · rw [if_neg c1, if_neg c1]
    by_cases c2 : pc T = i + 1
    · rw [if_pos c2, if_pos c2]
      refine sm_cong fun j _ => ?_
      unfold Tn Dn
      by_cases e : sn (T &&& (bt j ^^^ (-1))) = sn S
      · by_cases c : hb T j = true
        · have h32 : j < 32 := Classical.byContradiction fun q => by rw [hb_ge (by omega)] at c; cases c
          have : j ≠ k := fun x => by
            subst x
            refine hne ?_
            rw [← sn_inj e]
            exact (out_or h32 c).symm
          rw [show decide (j < k + 1) = decide (j < k) from decide_eq_decide.mpr (by omega)]
        · have c : hb T j = false := by simpa using c
          rw [c]
          rfl
      · rw [decide_eq_false e]
        rfl
    · rw [if_neg c2, if_neg c2]
/-- nothing is laid -/
theorem Vn_no {r : Nat → Int32} {m i k : Nat} {S : Int32} (hS16 : s16 S) (h : pc S ≠ i ∨ hb S k = true ∨ hb (r i) k = false) (hk : k < 16) (T : Int32) : Vn r m i (sn S) (k + 1) T = Vn r m i (sn S) k T := by
  unfold Vn
  by_cases c1 : pc T ≤ i
  · rw [if_pos c1, if_pos c1]
  · rw [if_neg c1, if_neg c1]
    by_cases c2 : pc T = i + 1
    · rw [if_pos c2, if_pos c2]
      refine sm_cong fun j _ => ?_
      unfold Tn Dn
      by_cases e : sn (T &&& (bt j ^^^ (-1))) = sn S
      · by_cases c : hb T j = true
        · have h32 : j < 32 := Classical.byContradiction fun q => by rw [hb_ge (by omega)] at c; cases c
          by_cases hj : j = k
          · subst hj
            have e2 := sn_inj e
            have hpo := pc_out hk c
            rcases h with h | h | h
            · rw [e2] at hpo
              omega
            · rw [← e2, hb_out h32] at h
              simp at h
            · rw [h]
              simp
          · rw [show decide (j < k + 1) = decide (j < k) from decide_eq_decide.mpr (by omega)]
        · have c : hb T j = false := by simpa using c
          rw [c]
          rfl
      · rw [decide_eq_false e]
        rfl
    · rw [if_neg c2, if_neg c2]
/-- all of s laid is none of s - 1 laid -/
theorem Vn_dn {r : Nat → Int32} {m i s : Nat} (T : Int32) : Vn r m i s 0 T = Vn r m i (s + 1) m T := by
  unfold Vn
  by_cases c1 : pc T ≤ i
  · rw [if_pos c1, if_pos c1]
  · rw [if_neg c1, if_neg c1]
    by_cases c2 : pc T = i + 1
    · rw [if_pos c2, if_pos c2]
      refine sm_cong fun j hj => ?_
      unfold Tn
      have : Dn s 0 (T &&& (bt j ^^^ (-1))) j = Dn (s + 1) m (T &&& (bt j ^^^ (-1))) j := by
        unfold Dn
        rw [decide_eq_true hj, decide_eq_false (show ¬ j < 0 by omega), Bool.and_false, Bool.or_false, Bool.and_true, ← Bool.decide_or]
        exact decide_eq_decide.mpr (by omega)
      rw [this]
    · rw [if_neg c2, if_neg c2]
/-- at the beginning, at the end -/
theorem Vn_beg {r : Nat → Int32} {m i s : Nat} (hm : m ≤ 8) (hs : 2 ^ m ≤ s + 1) {T : Int32} (hT : sub T (full m)) : Vn r m i s 0 T = if pc T ≤ i then Cn r m (pc T) T else 0 := by
  unfold Vn
  by_cases c1 : pc T ≤ i
  · rw [if_pos c1, if_pos c1]
  · rw [if_neg c1, if_neg c1]
    by_cases c2 : pc T = i + 1
    · rw [if_pos c2]
      refine (sm_cong fun j hj => ?_).trans (sm_0 m)
      unfold Tn Dn
      have h2 := (full_sub hm).mp ((sub_out (S := T) (j := j)).tr hT)
      rw [decide_eq_false (show ¬ s < sn (T &&& (bt j ^^^ (-1))) by omega), decide_eq_false (show ¬ j < 0 by omega), Bool.and_false, Bool.or_false, Bool.and_false, Bool.and_false]
      rfl
    · rw [if_neg c2]
theorem Vn_end {r : Nat → Int32} {m i : Nat} (hm : m ≤ 8) {T : Int32} (hT : sub T (full m)) : Vn r m i 0 m T = if pc T ≤ i + 1 then Cn r m (pc T) T else 0 := by
  unfold Vn
  by_cases c1 : pc T ≤ i
  · rw [if_pos c1, if_pos (by omega)]
  · rw [if_neg c1]
    by_cases c2 : pc T = i + 1
    · rw [if_pos c2, if_pos (by omega), c2]
      refine sm_cong fun j hj => ?_
      unfold Tn Dn
      have : (decide (0 < sn (T &&& (bt j ^^^ (-1)))) || (decide (sn (T &&& (bt j ^^^ (-1))) = 0) && decide (j < m))) = true := by
        rw [decide_eq_true hj, Bool.and_true, ← Bool.decide_or]
        exact decide_eq_true (by omega)
      rw [this, Bool.and_true]
    · rw [if_neg c2, if_neg (by omega)]
