/-! THE PLAIN LAW: longest -/
set_option maxRecDepth 100000
theorem hb_lpb (c : Nat → Bool) (a : Int32) (j : Nat) : ∀ r, r ≤ 32 → (hb (lp (fun p a => if c p = true then a ||| bt p else a) r 0 a) j = true ↔ hb a j = true ∨ (j < r ∧ c j = true))
  | 0, _ => ⟨fun h => Or.inl h, fun h => h.elim id fun h => absurd h.1 (by omega)⟩
  | r + 1, hr => by
    have ih := hb_lpb c a j r (by omega)
    rw [lp_s, Nat.zero_add]
    by_cases e : c r = true
    · rw [if_pos e, hb_or, Bool.or_eq_true, ih, hb_bt (by omega)]
      refine ⟨fun h => ?_, fun h => ?_⟩
      · rcases h with (h | h) | h
        · exact Or.inl h
        · exact Or.inr ⟨by omega, h.2⟩
        · have := of_decide_eq_true h
          subst this
          exact Or.inr ⟨by omega, e⟩
      · rcases h with h | h
        · exact Or.inl (Or.inl h)
        · by_cases q : j = r
          · exact Or.inr (decide_eq_true q)
          · exact Or.inl (Or.inr ⟨by omega, h.2⟩)
    · rw [if_neg e, ih]
      refine ⟨fun h => h.imp id fun h => ⟨by omega, h.2⟩, fun h => h.imp id fun h => ?_⟩
      by_cases q : j = r
      · subst q; exact absurd h.2 e
      · exact ⟨by omega, h.2⟩
/-- at whom a way through S may end -/
def E (N : Nat → Int32) : Nat → Int32 → Int32
  | 0, _ => 0
  | k + 1, S => lp (fun p a => if (hb S p && (decide (k = 0) || decide (E N k (S &&& (bt p ^^^ (-1))) &&& N p ≠ 0))) = true then a ||| bt p else a) 16 0 0
def Hs (z : z_T) (S : Int32) : Int32 := if S &&& (tld z ^^^ (-1)) = 0 then E (fr z) (pc S) S else 0
theorem pc_z {S : Int32} (h : s16 S) : pc S = 0 ↔ S = 0 := ⟨fun e => Classical.byContradiction fun hn => by
  obtain ⟨j, j1, j2⟩ := s16_ne h hn
  have := pc_out j1 j2
  omega, fun e => by rw [e, pc_0]⟩
theorem hb_Hs {z : z_T} {S : Int32} (hS : s16 S) (j : Nat) : hb (Hs z S) j = true ↔ sub S (tld z) ∧ j < 16 ∧ hb S j = true ∧ (S &&& (bt j ^^^ (-1)) = 0 ∨ Hs z (S &&& (bt j ^^^ (-1))) &&& fr z j ≠ 0) := by
  unfold Hs
  by_cases c : S &&& (tld z ^^^ (-1)) = 0
  · rw [if_pos c]
    have hs := and_not0.mp c
    cases e : pc S with
    | zero =>
      have e0 := (pc_z hS).mp e
      show hb 0 j = true ↔ _
      subst e0
      rw [hb_0]
      exact ⟨fun h => (nomatch h), fun h => h.2.2.1⟩
    | succ k =>
      show hb (lp (fun p a => if (hb S p && (decide (k = 0) || decide (E (fr z) k (S &&& (bt p ^^^ (-1))) &&& fr z p ≠ 0))) = true then a ||| bt p else a) 16 0 0) j = true ↔ _
      rw [hb_lpb (fun p => (hb S p && (decide (k = 0) || decide (E (fr z) k (S &&& (bt p ^^^ (-1))) &&& fr z p ≠ 0)))) 0 j 16 (by decide), hb_0]
      have key : ∀ hj : hb S j = true, j < 16 → ((k = 0 ∨ E (fr z) k (S &&& (bt j ^^^ (-1))) &&& fr z j ≠ 0) ↔ (S &&& (bt j ^^^ (-1)) = 0 ∨ (if (S &&& (bt j ^^^ (-1))) &&& (tld z ^^^ (-1)) = 0 then E (fr z) (pc (S &&& (bt j ^^^ (-1)))) (S &&& (bt j ^^^ (-1))) else 0) &&& fr z j ≠ 0)) := fun hj j16 => by
        have hp1 := pc_out j16 hj
        have h16 : s16 (S &&& (bt j ^^^ (-1))) := s16_al hS
        have hk : pc (S &&& (bt j ^^^ (-1))) = k := by omega
        have hs2 : (S &&& (bt j ^^^ (-1))) &&& (tld z ^^^ (-1)) = 0 := and_not0.mpr fun q hq => by
          rw [hb_and, Bool.and_eq_true] at hq
          exact hs q hq.1
        rw [if_pos hs2, hk, ← pc_z h16, hk]
      refine ⟨fun h => ?_, fun h => ?_⟩
      · rcases h with h | ⟨h1, h2⟩
        · cases h
        · rw [Bool.and_eq_true, Bool.or_eq_true] at h2
          exact ⟨hs, h1, h2.1, (key h2.1 h1).mp (h2.2.imp of_decide_eq_true of_decide_eq_true)⟩
      · refine Or.inr ⟨h.2.1, ?_⟩
        rw [Bool.and_eq_true, Bool.or_eq_true]
        exact ⟨h.2.2.1, ((key h.2.2.1 h.2.1).mpr h.2.2.2).imp decide_eq_true decide_eq_true⟩
  · rw [if_neg c, hb_0]
    exact ⟨fun h => (nomatch h), fun h => absurd (and_not0.mpr h.1) c⟩
theorem s16_Hs {z : z_T} {S : Int32} (hS : s16 S) : s16 (Hs z S) := fun k hk => by
  cases e : hb (Hs z S) k with
  | false => rfl
  | true => exact absurd ((hb_Hs hS k).mp e).2.1 (by omega)
theorem lw_or {a b : Int32} (ha : s16 a) (hb' : s16 b) (h1 : a ≠ 0) (h2 : b ≠ 0) : lw (a ||| b) = if lw b < lw a then lw b else lw a := by
  obtain ⟨a1, a2, a3⟩ := lw_spec ha h1
  obtain ⟨b1, b2, b3⟩ := lw_spec hb' h2
  by_cases c : lw b < lw a
  · rw [if_pos c]
    refine lw_uniq (s16_or ha hb') (by rw [hb_or, b2, Bool.or_true]) fun j hj => ?_
    rw [hb_or, a3 j (by omega), b3 j hj]
    rfl
  · rw [if_neg c]
    refine lw_uniq (s16_or ha hb') (by rw [hb_or, a2, Bool.true_or]) fun j hj => ?_
    rw [hb_or, a3 j hj, b3 j (by omega)]
    rfl
/-- the best set, the best number and who may be at an end -/
def fL (z : z_T) (s : Nat) (b : Int32) : Int32 := if Hs z (ii s) = 0 then b else if pc b < pc (ii s) then ii s else if pc (ii s) = pc b ∧ lw (Hs z (ii s)) < lw (Hs z b) then ii s else b
def gL (z : z_T) (s : Nat) (a : Nat × Int32) : Nat × Int32 := if Hs z (ii s) = 0 then a else if pc (ii s) < a.1 then a else (pc (ii s), if a.1 < pc (ii s) then Hs z (ii s) else a.2 ||| Hs z (ii s))
def rL (z : z_T) (s : Nat) (b : Int32) (a : Nat × Int32) : Prop := a.1 = pc b ∧ s16 b ∧ s16 a.2 ∧ sn b < s ∧ (b = 0 ∧ a.2 = 0 ∨ b ≠ 0 ∧ Hs z b ≠ 0 ∧ a.2 ≠ 0 ∧ lw a.2 = lw (Hs z b))
theorem pc_pos {s : Nat} (h0 : 0 < s) (h : s < 65536) : 0 < pc (ii s) := by
  have : pc (ii s) ≠ 0 := fun e => by
    have := congrArg sn ((pc_z (ii_s16 h)).mp e)
    rw [sn_ii h] at this
    exact absurd this (by show s ≠ 0; omega)
  omega
theorem rL_s {z : z_T} {s : Nat} {b : Int32} {a : Nat × Int32} (h0 : 0 < s) (h : s < 65536) (I : rL z s b a) : rL z (s + 1) (fL z s b) (gL z s a) := by
  obtain ⟨i1, i2, i3, i4, i5⟩ := I
  have hS16 := ii_s16 h
  have hpp := pc_pos h0 h
  have hH16 := s16_Hs (z := z) hS16
  have hsn := sn_ii h
  have hne : ii s ≠ 0 := fun e => by rw [e, pc_0] at hpp; omega
  unfold fL gL
  by_cases c1 : Hs z (ii s) = 0
  · rw [if_pos c1, if_pos c1]
    exact ⟨i1, i2, i3, by omega, i5⟩
  · rw [if_neg c1, if_neg c1]
    by_cases c2 : pc b < pc (ii s)
    · rw [if_pos c2, if_neg (by omega), if_pos (by omega)]
      exact ⟨rfl, hS16, hH16, by omega, Or.inr ⟨hne, c1, c1, rfl⟩⟩
    · rw [if_neg c2]
      by_cases c3 : pc (ii s) = pc b
      · have hb0 : b ≠ 0 := fun e => by rw [e, pc_0] at c3; omega
        rcases i5 with ⟨e, _⟩ | ⟨_, j1, j2, j3⟩
        · exact absurd e hb0
        · rw [if_neg (show ¬ pc (ii s) < a.1 by omega), if_neg (show ¬ a.1 < pc (ii s) by omega)]
          have hl := lw_or i3 hH16 j2 c1
          have hne2 : a.2 ||| Hs z (ii s) ≠ 0 := fun e => by
            have := (lw_spec i3 j2).2.1
            have h3 := congrArg (fun q => hb q (lw a.2)) e
            rw [hb_or, this, hb_0] at h3
            cases h3
          by_cases c4 : lw (Hs z (ii s)) < lw (Hs z b)
          · rw [if_pos ⟨c3, c4⟩]
            refine ⟨rfl, hS16, s16_or i3 hH16, by omega, Or.inr ⟨hne, c1, hne2, ?_⟩⟩
            show lw (a.2 ||| Hs z (ii s)) = _
            rw [hl, j3, if_pos c4]
          · rw [if_neg (fun q => c4 q.2)]
            refine ⟨c3, i2, s16_or i3 hH16, by omega, Or.inr ⟨hb0, j1, hne2, ?_⟩⟩
            show lw (a.2 ||| Hs z (ii s)) = _
            rw [hl, j3, if_neg c4]
      · rw [if_neg (fun q => c3 q.1), if_pos (by omega)]
        exact ⟨i1, i2, i3, by omega, i5⟩
theorem rL_all {z : z_T} : ∀ r, r < 65536 → rL z (r + 1) (lp (fL z) r 1 0) (lp (gL z) r 1 (0, 0))
  | 0, _ => ⟨pc_0.symm, s16_0, s16_0, by show 0 < 1; omega, Or.inl ⟨rfl, rfl⟩⟩
  | r + 1, h => by
    rw [lp_s, lp_s, Nat.add_comm 1 r]
    exact rL_s (by omega) h (rL_all r (by omega))
theorem gL_T {z : z_T} (hT : s16 (tld z)) : lp (gL z) 65535 1 (0, 0) = lp (gL z) (sn (tld z)) 1 (0, 0) := by
  have hl := sn_lt hT
  rw [show 65535 = sn (tld z) + (65535 - sn (tld z)) by omega, lp_add]
  refine lp_id (N := 65536) _ _ _ (by omega) fun j a h1 h2 => ?_
  unfold gL
  have : Hs z (ii j) = 0 := by
    unfold Hs
    rw [if_neg]
    intro e
    have := sn_le (ii_s16 h2) (and_not0.mp e)
    rw [sn_ii h2] at this
    omega
  rw [if_pos this]
