/-! THE PURE MACHINE IS SOUND (1): what it means for the machine's heap, locals, tables to hold the pure ones -/
set_option maxRecDepth 100000
/-- the numbers of the cells that were there at the start: 0 the script, 1 .. 3 the texts, 4 .. 6 their bytes -/
def sd_r (base b : Nat) (adK adV : Nat → Nat) (i : Nat) : Nat := if i = 0 then b else if i ≤ 3 then adK (i - 1) else if i ≤ 6 then adV (i - 4) else base + (i - 7)
def sd_v (ρ : Nat → Nat) : Value → Value
  | .ref a => .ref (ρ a)
  | v => v
def sd_f (ρ : Nat → Nat) (x : (Nat → Int32) ⊕ (Nat → Int64) ⊕ (Nat → UInt32) ⊕ (Nat → UInt64) ⊕ (Nat → Option Nat)) : (Nat → Int32) ⊕ (Nat → Int64) ⊕ (Nat → UInt32) ⊕ (Nat → UInt64) ⊕ (Nat → Option Nat) := match x with
  | .inr (.inr (.inr (.inr g))) => .inr (.inr (.inr (.inr fun j => (g j).map ρ)))
  | .inl f => .inl f
  | .inr (.inl f) => .inr (.inl f)
  | .inr (.inr (.inl f)) => .inr (.inr (.inl f))
  | .inr (.inr (.inr (.inl f))) => .inr (.inr (.inr (.inl f)))
def sd_c (ρ : Nat → Nat) (dA : Nat → ClassId) : pm_C → va_E
  | .inl (t, n, f) => .inl (dA t, n, sd_f ρ f)
  | .inr (c, fs) => .inr (c, fs.map (sd_v ρ))
def sd_len : List Nat := [10, 3, 5]
def sd_byt : List (List Int32) := [[112, 113, 104, 100, 102, 103, 110, 111, 116, 119], [101, 98, 120], [64, 35, 61, 42, 38]]
/-- the cells of the start -/
def sd_k (L : Nat) (xs : Nat → Int32) (i : Nat) : pm_C := match i with
  | 0 => .inl (0, L, .inl xs)
  | 1 => .inr (30, [.ref 4, .int 0])
  | 2 => .inr (30, [.ref 5, .int 0])
  | 3 => .inr (30, [.ref 6, .int 0])
  | j + 4 => .inl (1, sd_len.getD j 0, .inl fun q => (sd_byt.getD j []).getD q 0)
def sd_tys (dA : Nat → ClassId) : List (ClassId × FieldType) := [(dA 0, .int), (dA 1, .byte), (dA 2, .long), (dA 3, .array .int), (dA 4, .object "AnyKeyTown$Sum"), (dA 5, .object "AnyKeyTown$Condition")]
/-- what is fixed for a whole run: the classes' numbers, their slots, the arrays' classes, where new cells begin, the script, the texts -/
abbrev sd_G : Type := (Nat → ClassId) × (Nat → Nat → Nat) × (Nat → ClassId) × Nat × Nat × Nat × (Nat → Int32) × (Nat → Nat) × (Nat → Nat)
def sd_D (g : sd_G) : va_G := (g.1, g.2.1)
def sd_dA (g : sd_G) : Nat → ClassId := g.2.2.1
def sd_base (g : sd_G) : Nat := g.2.2.2.1
def sd_b (g : sd_G) : Nat := g.2.2.2.2.1
def sd_L (g : sd_G) : Nat := g.2.2.2.2.2.1
def sd_xs (g : sd_G) : Nat → Int32 := g.2.2.2.2.2.2.1
def sd_K (g : sd_G) : Nat → Nat := g.2.2.2.2.2.2.2.1
def sd_V (g : sd_G) : Nat → Nat := g.2.2.2.2.2.2.2.2
def sd_ρ (g : sd_G) : Nat → Nat := sd_r (sd_base g) (sd_b g) (sd_K g) (sd_V g)
def sd_A (g : sd_G) : Nat → Prop := fun q => sd_base g ≤ q
/-- the machine's heap holds the pure heap -/
def sd_R (g : sd_G) (h : pm_H) (H : Heap) : Prop := 7 ≤ h.2.1 ∧ (∀ i, i < 7 → h.1 i = sd_k (sd_L g) (sd_xs g) i) ∧ H.size = sd_base g + (h.2.1 - 7) ∧ ∀ k, 7 ≤ k → k < h.2.1 → va_at (sd_D g) pm_cl (sd_base g + (k - 7), sd_c (sd_ρ g) (sd_dA g) (h.1 k)) H
theorem sd_ρ7 {g : sd_G} {k : Nat} (h : 7 ≤ k) : sd_ρ g k = sd_base g + (k - 7) := by
  unfold sd_ρ sd_r
  rw [if_neg (by omega), if_neg (by omega), if_neg (by omega)]
/-- a cell made since the start -/
theorem sd_at {g : sd_G} {h : pm_H} {H : Heap} (hR : sd_R g h H) {a : Nat} {c : pm_C} (hg : pm_g h a = some c) (h7 : 7 ≤ a) : va_at (sd_D g) pm_cl (sd_ρ g a, sd_c (sd_ρ g) (sd_dA g) c) H := by
  unfold pm_g at hg
  split at hg
  next hlt =>
    cases hg
    rw [sd_ρ7 h7]
    exact hR.2.2.2 a h7 hlt
  next => cases hg
/-- a cell of the start -/
theorem sd_old {g : sd_G} {h : pm_H} {H : Heap} (hR : sd_R g h H) {a : Nat} {c : pm_C} (hg : pm_g h a = some c) (h7 : ¬ 7 ≤ a) : c = sd_k (sd_L g) (sd_xs g) a := by
  unfold pm_g at hg
  split at hg
  next hlt =>
    cases hg
    exact hR.2.1 a (by omega)
  next => cases hg
theorem sd_push {g : sd_G} {h : pm_H} {H H1 : Heap} {c : pm_C} {k : Nat} (hR : sd_R g h H) (hc : va_at (sd_D g) pm_cl (H.size, sd_c (sd_ρ g) (sd_dA g) c) H1) (hz : H1.size = H.size + 1) (ho : ∀ q, q < H.size → H1[q]? = H[q]?) : sd_R g (pm_a h c k) H1 := by
  obtain ⟨r1, r2, r3, r4⟩ := hR
  refine ⟨by show 7 ≤ h.2.1 + 1; omega, fun i hi => ?_, ?_, fun j h7 hj => ?_⟩
  · show (if i = h.2.1 then c else h.1 i) = _
    rw [if_neg (by omega)]
    exact r2 i hi
  · show H1.size = sd_base g + (h.2.1 + 1 - 7)
    omega
  · have hj : j < h.2.1 + 1 := hj
    show va_at (sd_D g) pm_cl (sd_base g + (j - 7), sd_c (sd_ρ g) (sd_dA g) (if j = h.2.1 then c else h.1 j)) H1
    by_cases e : j = h.2.1
    · subst e
      rw [if_pos rfl, ← r3]
      exact hc
    · rw [if_neg e]
      have := r4 j h7 (by omega)
      exact this.kept (ho _ this.lt)
theorem sd_set {g : sd_G} {h : pm_H} {H H1 : Heap} {a : Nat} {c : pm_C} (hR : sd_R g h H) (h7 : 7 ≤ a) (hc : va_at (sd_D g) pm_cl (sd_ρ g a, sd_c (sd_ρ g) (sd_dA g) c) H1) (hz : H1.size = H.size) (ho : ∀ q, q ≠ sd_ρ g a → H1[q]? = H[q]?) : sd_R g (pm_s h a c) H1 := by
  obtain ⟨r1, r2, r3, r4⟩ := hR
  refine ⟨r1, fun i hi => ?_, by rw [hz]; exact r3, fun j hj7 hj => ?_⟩
  · show (if i = a then c else h.1 i) = _
    rw [if_neg (by omega)]
    exact r2 i hi
  · show va_at (sd_D g) pm_cl (sd_base g + (j - 7), sd_c (sd_ρ g) (sd_dA g) (if j = a then c else h.1 j)) H1
    by_cases e : j = a
    · subst e
      rw [if_pos rfl, ← sd_ρ7 h7]
      exact hc
    · rw [if_neg e]
      refine (r4 j hj7 hj).kept (ho _ ?_)
      rw [sd_ρ7 h7]
      show sd_base g + (j - 7) ≠ sd_base g + (a - 7)
      omega
theorem sd_S1 {g : sd_G} {H0 H H1 : Heap} {locs : List Loc} (hS : va_S (sd_A g) H0 H locs) (hb : H0.size ≤ H.size) (hz : H.size ≤ H1.size) (ho : ∀ q, q < H.size → H1[q]? = H[q]?) : va_S (sd_A g) H0 H1 locs :=
  ⟨Nat.le_trans hb hz, fun q h1 h2 => (ho q (Nat.lt_of_lt_of_le h1 hb)).trans (hS.2.1 q h1 h2), hS.2.2⟩
/-! locals -/
def sd_ok (v : Value) : Bool := match v with
  | .int _ => true
  | .long _ => true
  | .ref _ => true
  | .null => true
  | _ => false
def sd_l (ρ : Nat → Nat) (L : List Value) : List (Nat × Value) := (List.range L.length).filterMap fun i => match L[i]? with
  | some v => if sd_ok v = true then some (i, sd_v ρ v) else none
  | none => none
theorem sd_l_mem {ρ : Nat → Nat} {L : List Value} {i : Nat} {v : Value} (h : L[i]? = some v) (ho : sd_ok v = true) : (i, sd_v ρ v) ∈ sd_l ρ L := by
  refine List.mem_filterMap.mpr ⟨i, List.mem_range.mpr (List.getElem?_eq_some_iff.mp h).1, ?_⟩
  rw [h]
  dsimp only
  rw [if_pos ho]
theorem sd_l_of {ρ : Nat → Nat} {L : List Value} {i : Nat} {w : Value} (h : (i, w) ∈ sd_l ρ L) : ∃ v, L[i]? = some v ∧ sd_ok v = true ∧ w = sd_v ρ v := by
  obtain ⟨j, -, hj⟩ := List.mem_filterMap.mp h
  cases hL : L[j]? with
  | none => rw [hL] at hj; cases hj
  | some v =>
    rw [hL] at hj
    dsimp only at hj
    split at hj
    next ho => cases hj; exact ⟨v, hL, ho, rfl⟩
    next => cases hj
/-- the machine's locals hold the pure ones -/
def sd_H (ρ : Nat → Nat) (L : List Value) (ls : Array Slot) (nL : Nat) : Prop := L.length ≤ nL ∧ lv_has ls nL (sd_l ρ L)
theorem sd_H.at {ρ : Nat → Nat} {L : List Value} {ls : Array Slot} {nL i : Nat} {v : Value} (h : sd_H ρ L ls nL) (hv : L[i]? = some v) (ho : sd_ok v = true) : ls[i]? = some (.val (sd_v ρ v)) := h.2.2.2 _ (sd_l_mem hv ho)
theorem sd_cat {ρ : Nat → Nat} {v : Value} : (sd_v ρ v).category = v.category := by cases v <;> rfl
/-- a store of one word -/
theorem sd_H.st {ρ : Nat → Nat} {L L' : List Value} {ls' : Array Slot} {nL i : Nat} {v : Value} (hL : L.length ≤ nL) (hs : pm_st L i v = some L') (h : lv_has ls' nL ((i, sd_v ρ v) :: (sd_l ρ L).filter (fun q => !(q.1 == i) && !(q.1 + 1 == i && q.2.category == 2)))) : sd_H ρ L' ls' nL := by
  unfold pm_st at hs
  split at hs
  next hc =>
    cases hs
    refine ⟨by rw [List.length_set]; exact hL, h.1, h.2.1, fun q hq => ?_⟩
    obtain ⟨j, w⟩ := q
    obtain ⟨u, h1, h2, rfl⟩ := sd_l_of hq
    apply h.2.2
    by_cases e : j = i
    · subst e
      rw [List.getElem?_set_self hc.1] at h1
      cases h1
      exact List.mem_cons_self
    · rw [List.getElem?_set_ne (Ne.symm e)] at h1
      refine List.mem_cons_of_mem _ (List.mem_filter.mpr ⟨sd_l_mem h1 h2, ?_⟩)
      have h3 : (j == i) = false := by simpa using e
      dsimp only
      rw [h3]
      by_cases e2 : j + 1 = i
      · subst e2
        have h4 := hc.2
        unfold pm_nl at h4
        dsimp only at h4
        rw [h1] at h4
        cases u with
        | long x => cases h4
        | double x => cases h2
        | _ => simp [sd_v, Value.category]
      · have h5 : (j + 1 == i) = false := by simpa using e2
        rw [h5]
        rfl
  next => cases hs
theorem sd_H.st2 {ρ : Nat → Nat} {L L' : List Value} {ls' : Array Slot} {nL i : Nat} {v : Value} (hL : L.length ≤ nL) (hs : pm_st2 L i v = some L') (h : lv_has ls' nL ((i, sd_v ρ v) :: (sd_l ρ L).filter (fun q => !(q.1 == i) && (!(q.1 == i + 1) && !(q.1 + 1 == i && q.2.category == 2))))) : sd_H ρ L' ls' nL := by
  unfold pm_st2 at hs
  split at hs
  next hc =>
    cases hs
    refine ⟨by rw [List.length_set, List.length_set]; exact hL, h.1, h.2.1, fun q hq => ?_⟩
    obtain ⟨j, w⟩ := q
    obtain ⟨u, h1, h2, rfl⟩ := sd_l_of hq
    apply h.2.2
    by_cases e0 : j = i + 1
    · subst e0
      rw [List.getElem?_set_self (by rw [List.length_set]; exact hc.1)] at h1
      cases h1
      cases h2
    · rw [List.getElem?_set_ne (Ne.symm e0)] at h1
      by_cases e : j = i
      · subst e
        rw [List.getElem?_set_self (by omega)] at h1
        cases h1
        exact List.mem_cons_self
      · rw [List.getElem?_set_ne (Ne.symm e)] at h1
        refine List.mem_cons_of_mem _ (List.mem_filter.mpr ⟨sd_l_mem h1 h2, ?_⟩)
        have h3 : (j == i) = false := by simpa using e
        have h30 : (j == i + 1) = false := by simpa using e0
        dsimp only
        rw [h3, h30]
        by_cases e2 : j + 1 = i
        · subst e2
          have h4 := hc.2
          unfold pm_nl at h4
          dsimp only at h4
          rw [h1] at h4
          cases u with
          | long x => cases h4
          | double x => cases h2
          | _ => simp [sd_v, Value.category]
        · have h5 : (j + 1 == i) = false := by simpa using e2
          rw [h5]
          rfl
  next => cases hs
theorem sd_c1 {v : Value} (h : pm_v1 v = true) : v.category = 1 := by cases v <;> first | rfl | cases h
theorem sd_en {ρ : Nat → Nat} {as : List Value} {n : Nat} (h1 : as.all pm_v1 = true) (h2 : as.length ≤ n) : sd_H ρ (pm_en as n) ((lg_sl (as.map (sd_v ρ)) ++ List.replicate (n - (lg_sl (as.map (sd_v ρ))).length) Slot.unset).toArray) n := by
  have hl : ∀ (l : List Value), l.all pm_v1 = true → (lg_sl (l.map (sd_v ρ))) = l.map (fun v => Slot.val (sd_v ρ v)) := by
    intro l
    induction l with
    | nil => intro _; rfl
    | cons v l ih =>
      intro hv
      rw [List.all_cons, Bool.and_eq_true] at hv
      have e := ih hv.2
      unfold lg_sl at e ⊢
      rw [List.map_cons, List.flatMap_cons, e, List.map_cons]
      have hc : ¬ (sd_v ρ v).category = 2 := by
        rw [sd_cat, sd_c1 hv.1]
        decide
      rw [if_neg hc]
      rfl
  have hla : ∀ (l : List Value) (k : Nat), l.all pm_v1 = true → lv_args k (l.map (sd_v ρ)) = ((l.map (sd_v ρ)).zipIdx k).map (fun q => (q.2, q.1)) := by
    intro l
    induction l with
    | nil => intro k _; rfl
    | cons v l ih =>
      intro k hv
      rw [List.all_cons, Bool.and_eq_true] at hv
      have hc : ¬ (sd_v ρ v).category = 2 := by
        rw [sd_cat, sd_c1 hv.1]
        decide
      rw [List.map_cons, lv_args, if_neg hc, ih _ hv.2, List.zipIdx_cons, List.map_cons]
  have hlen : (lg_sl (as.map (sd_v ρ))).length = as.length := by rw [hl as h1, List.length_map]
  have h := lv_entry (as.map (sd_v ρ)) (n := n) (by rw [hlen]; exact h2)
  refine ⟨by unfold pm_en; simp; omega, h.1, h.2.1, fun q hq => ?_⟩
  apply h.2.2
  obtain ⟨j, w⟩ := q
  obtain ⟨u, g1, g2, rfl⟩ := sd_l_of hq
  rw [hla as 0 h1]
  refine List.mem_map.mpr ⟨(sd_v ρ u, j), ?_, rfl⟩
  unfold pm_en at g1
  by_cases hj : j < as.length
  · rw [List.getElem?_append_left hj] at g1
    refine List.mem_zipIdx_iff_getElem?.mpr ?_
    rw [List.getElem?_map, g1]
    rfl
  · rw [List.getElem?_append_right (by omega)] at g1
    have := List.mem_of_getElem? g1
    rw [List.mem_replicate] at this
    rw [this.2] at g2
    cases g2
