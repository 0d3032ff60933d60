/-! THE PURE MACHINE IS SOUND (5): new cells; one instruction -/
set_option maxRecDepth 100000
section SDN
variable {p : Program} {l : Launch} {e : Env} {R : Room} {s : State} {m : MethodId} {args : Array Value} {below : List Frame} {meth : Method} {c : Code} {H : Heap} {locs : List Loc} {cells slots : Nat} {Q : State → Prop}
variable {g : sd_G} {own pc pc' len : Nat} {cc : ByteArray} {L L' st st' : List Value} {h h1 : pm_H} {ls : Array Slot}
theorem sd_next (hR : sd_R g h H) : sd_ρ g h.2.1 = H.size := by rw [sd_ρ7 hR.1, hR.2.2.1]
theorem sd_new (X : sd_X p s m args meth c g own cc) (hR : sd_R g h H) (hS : va_S (sd_A g) s.heap H locs) (hz : s.heap.size ≤ H.size) {k cn : Nat} {rest : List Value} (hd : decode cc pc = .ok (.new k, 3)) (hv : pm_lk (pm_tn own) k = some cn) (hc : cells + 1 ≤ R.cells) (hsl : slots + (pm_df cn).length ≤ R.slots)
    (kk : ∀ H1 : Heap, sd_R g (pm_nw h cn) H1 → va_S (sd_A g) s.heap H1 locs → W p l e R s m args below meth c H1 locs (cells + 1) (slots + (pm_df cn).length) Q (F0 m (pc + 3) ls (.ref (sd_ρ g h.2.1) :: rest))) : W p l e R s m args below meth c H locs cells slots Q (F0 m pc ls rest) := by
  obtain ⟨hx, hb, hown, hts, -, hKn, hIm⟩ := X
  obtain ⟨C, T, N, ty, hcl, hin, hty, w1, w2, w3, hdf, hN⟩ := sd_tn_ok own _ (pm_lk_mem hv)
  dsimp only at hcl w1 hdf hN
  have hKc := hKn.1.1 cn _ hcl
  subst hN
  refine W.newcK hx hb hown (hts _ w1) (hts _ w2) (hts _ w3) rfl hd hc hsl hKc.2.1 rfl fun H1 kC hkC e1 z1 o1 => ?_
  rw [sd_next hR] at kk
  refine kk H1 (sd_push hR ?_ z1 o1) (sd_S1 hS hz (by omega) o1)
  refine ⟨_, hcl, (u_born ty hts hin hKc hkC e1 hty).to fun j hj => ?_⟩
  rw [hdf j hj]
  have hq : ∀ v : Value, v ∈ pm_df cn → sd_v (sd_ρ g) v = v := by
    intro v hv
    have hm : cn < 15 := (List.getElem?_eq_some_iff.mp hcl).1
    match cn, hm, hv with
    | 0, _, hv | 1, _, hv | 2, _, hv | 3, _, hv | 4, _, hv | 5, _, hv | 6, _, hv | 7, _, hv | 8, _, hv | 9, _, hv | 10, _, hv | 11, _, hv | 12, _, hv | 13, _, hv | 14, _, hv =>
      cases v with
      | ref a => simp [pm_df] at hv
      | _ => rfl
  have : (pm_df cn).map (sd_v (sd_ρ g)) = pm_df cn := (List.map_congr_left hq).trans (List.map_id _)
  show vp_V _ j = vp_V ((pm_df cn).map _) j
  rw [this]
theorem sd_newa (X : sd_X p s m args meth c g own cc) (hR : sd_R g h H) (hS : va_S (sd_A g) s.heap H locs) (hz : s.heap.size ≤ H.size) {ty : ArrayType} {n : Int32} {rest : List Value} (hd : decode cc pc = .ok (.newarray ty, 2)) (hv : pm_na h (pm_at ty) n = some h1) (hc : cells + (h1.2.1 - h.2.1) ≤ R.cells) (hsl : slots + (h1.2.2 - h.2.2) ≤ R.slots)
    (kk : ∀ H1 : Heap, sd_R g h1 H1 → va_S (sd_A g) s.heap H1 locs → h1.2.1 = h.2.1 + 1 → h1.2.2 = h.2.2 + n.toNatClampNeg → W p l e R s m args below meth c H1 locs (cells + 1) (slots + n.toNatClampNeg) Q (F0 m (pc + 2) ls (.ref (sd_ρ g h.2.1) :: rest))) : W p l e R s m args below meth c H locs cells slots Q (F0 m pc ls (.int n :: rest)) := by
  obtain ⟨hx, hb, hown, hts, -, hKn, hIm⟩ := X
  unfold pm_na at hv
  split at hv
  next hn =>
    rw [sd_next hR] at kk
    have go : ∀ (t : Nat) (ft : FieldType) (x : (Nat → Int32) ⊕ (Nat → Int64) ⊕ (Nat → UInt32) ⊕ (Nat → UInt64) ⊕ (Nat → Option Nat)), newarray.typeOf ty = ft → Cond.arrayClass ft ∈ lw_all → (∀ cA : ClassId, s.vm.findClass ("[" ++ ft.toString) = some cA → cA = sd_dA g t) → vp_cell (sd_dA g t) (n.toNatClampNeg, sd_f (sd_ρ g) x) = arrV (sd_dA g t) n.toNatClampNeg (fun _ => defaultValue ft) → componentBytes ft ≤ 8 → h1 = pm_a h (.inl (t, n.toNatClampNeg, x)) n.toNatClampNeg →
        W p l e R s m args below meth c H locs cells slots Q (F0 m pc ls (.int n :: rest)) := by
      intro t ft x hft hac hcls hcell hby he
      subst he
      subst hft
      have hc : cells + (h.2.1 + 1 - h.2.1) ≤ R.cells := hc
      have hsl : slots + (h.2.2 + n.toNatClampNeg - h.2.2) ≤ R.slots := hsl
      have hmul : n.toNatClampNeg * componentBytes (newarray.typeOf ty) ≤ 536870912 := Nat.le_trans (Nat.mul_le_mul hn.2 hby) (by decide)
      refine va_newaK hx hb (hts _ hac) rfl hd rfl hn.1 rfl hmul (by omega) (by omega) rfl fun H1 cA e1 z1 o1 hAr hNm => ?_
      have hcA := hcls cA hNm
      subst hcA
      exact kk H1 (sd_push hR (by show H1[H.size]? = some (vp_cell _ _); rw [hcell]; exact e1) z1 o1) (sd_S1 hS hz (by omega) o1) rfl rfl
    have fc : ∀ (t : Nat) (ft : FieldType), s.vm.findClass ("[" ++ ft.toString) = some (sd_dA g t) → ∀ cA : ClassId, s.vm.findClass ("[" ++ ft.toString) = some cA → cA = sd_dA g t := fun t ft h1 cA h2 => Option.some.inj (h2.symm.trans h1)
    cases ty with
    | int => cases hv; exact go 0 .int (.inl fun _ => 0) rfl sd_ac_int (fc 0 .int (sd_ty hKn 0 rfl).2) rfl (by decide) rfl
    | byte => cases hv; exact go 1 .byte (.inl fun _ => 0) rfl sd_ac_byte (fc 1 .byte (sd_ty hKn 1 rfl).2) rfl (by decide) rfl
    | long => cases hv; exact go 2 .long (.inr (.inl fun _ => 0)) rfl sd_ac_long (fc 2 .long (sd_ty hKn 2 rfl).2) rfl (by decide) rfl
    | _ => cases hv
  next => cases hv
theorem sd_newq (X : sd_X p s m args meth c g own cc) (hR : sd_R g h H) (hS : va_S (sd_A g) s.heap H locs) (hz : s.heap.size ≤ H.size) {k t : Nat} {n : Int32} {rest : List Value} (hd : decode cc pc = .ok (.anewarray k, 3)) (ht : pm_lk (pm_ta own) k = some t) (hv : pm_na h t n = some h1) (hc : cells + (h1.2.1 - h.2.1) ≤ R.cells) (hsl : slots + (h1.2.2 - h.2.2) ≤ R.slots)
    (kk : ∀ H1 : Heap, sd_R g h1 H1 → va_S (sd_A g) s.heap H1 locs → h1.2.1 = h.2.1 + 1 → h1.2.2 = h.2.2 + n.toNatClampNeg → W p l e R s m args below meth c H1 locs (cells + 1) (slots + n.toNatClampNeg) Q (F0 m (pc + 3) ls (.ref (sd_ρ g h.2.1) :: rest))) : W p l e R s m args below meth c H locs cells slots Q (F0 m pc ls (.int n :: rest)) := by
  obtain ⟨hx, hb, hown, hts, -, hKn, hIm⟩ := X
  unfold pm_na at hv
  split at hv
  next hn =>
    rw [sd_next hR] at kk
    have go : ∀ (C : String), Cond.classLink (pm_own own) k C ∈ lw_all → va_AO C s → va_RA s (sd_dA g t) (.object C) → h1 = pm_a h (.inl (t, n.toNatClampNeg, .inr (.inr (.inr (.inr fun _ => none))))) n.toNatClampNeg →
        W p l e R s m args below meth c H locs cells slots Q (F0 m pc ls (.int n :: rest)) := by
      intro C hcw hAO hRA he
      subst he
      have hc : cells + (h.2.1 + 1 - h.2.1) ≤ R.cells := hc
      have hsl : slots + (h.2.2 + n.toNatClampNeg - h.2.2) ≤ R.slots := hsl
      have hmul : n.toNatClampNeg * 4 ≤ 536870912 := by omega
      refine W.anew hx hb hown (hts _ hcw) (va_AO.use hAO) rfl hd rfl hn.1 hmul (by omega) (by omega) fun cA kA comp f1 f2 f3 f4 => ?_
      obtain ⟨_, _, _, _, _, f5⟩ := hRA
      have hcA : cA = sd_dA g t := Option.some.inj (f1.symm.trans f5)
      subst hcA
      generalize hH1 : H.push ({ cls := sd_dA g t, slots := Array.replicate n.toNatClampNeg .null, vm := .none } : Cell) = H1
      have z1 : H1.size = H.size + 1 := by rw [← hH1, Array.size_push]
      have e1 : H1[H.size]? = some (arrV (sd_dA g t) n.toNatClampNeg (fun _ => .null)) := by rw [← hH1, Array.getElem?_push_size, ← arrV_new]
      have o1 : ∀ q : Nat, q < H.size → H1[q]? = H[q]? := fun q hq => by rw [← hH1, Array.getElem?_push, if_neg (Nat.ne_of_lt hq)]
      exact kk H1 (sd_push hR e1 z1 o1) (sd_S1 hS hz (by omega) o1) rfl rfl
    rcases sd_ta_ok own _ (pm_lk_mem ht) with ⟨h4, hw⟩ | ⟨h5, hw⟩
    · dsimp only at h4 hw
      subst h4
      cases hv
      exact go _ hw hKn.2.2.1 (sd_ty hKn 4 rfl).2 rfl
    · dsimp only at h5 hw
      subst h5
      cases hv
      exact go _ hw hKn.2.2.2.1 (sd_ty hKn 5 rfl).2 rfl
  next => cases hv
theorem sd_outer (cA : ClassId) (N h0 : Nat) : ∀ i, i ≤ N → Jvm.Free.Multi.outerC cA N h0 i = arrV cA N (fun j => va_rf (if j < i then some (h0 + 1 + j) else none)) := by
  intro i
  induction i with
  | zero =>
    intro _
    have e : (fun j : Nat => va_rf (if j < 0 then some (h0 + 1 + j) else none)) = fun _ => Value.null := by
      funext j
      rw [if_neg (Nat.not_lt_zero j)]
      rfl
    rw [Jvm.Free.Multi.outerC, e, ← arrV_new]
  | succ i ih =>
    intro hi
    rw [Jvm.Free.Multi.outerC, ih (by omega), arrV_store]
    congr 1
    funext j
    by_cases e : j = i
    · subst e
      simp [updV, va_rf]
    · by_cases e2 : j < i
      · simp [updV, e, e2, Nat.lt_succ_of_lt e2]
      · have : ¬ j < i + 1 := by omega
        simp [updV, e, e2, this]
theorem sd_newm (X : sd_X p s m args meth c g own cc) (hR : sd_R g h H) (hS : va_S (sd_A g) s.heap H locs) (hz : s.heap.size ≤ H.size) {k t : Nat} {n mm : Int32} {rest : List Value} (hd : decode cc pc = .ok (.multianewarray k 2, 4)) (ht : pm_lk (pm_tm own) k = some t) (hv : pm_nm h n mm = some h1) (hc : cells + (h1.2.1 - h.2.1) ≤ R.cells) (hsl : slots + (h1.2.2 - h.2.2) ≤ R.slots)
    (kk : ∀ H1 : Heap, sd_R g h1 H1 → va_S (sd_A g) s.heap H1 locs → h1.2.1 = h.2.1 + 1 + n.toNatClampNeg → h1.2.2 = h.2.2 + n.toNatClampNeg + n.toNatClampNeg * mm.toNatClampNeg → W p l e R s m args below meth c H1 locs (cells + 1 + n.toNatClampNeg) (slots + n.toNatClampNeg + n.toNatClampNeg * mm.toNatClampNeg) Q (F0 m (pc + 4) ls (.ref (sd_ρ g h.2.1) :: rest))) : W p l e R s m args below meth c H locs cells slots Q (F0 m pc ls (.int mm :: .int n :: rest)) := by
  obtain ⟨hx, hb, hown, hts, -, hKn, hIm⟩ := X
  unfold pm_nm at hv
  split at hv
  next hn =>
    cases hv
    obtain ⟨hn0, hn1, hm0, hm1⟩ := hn
    have hw := sd_tm_ok own _ (pm_lk_mem ht)
    rw [sd_next hR] at kk
    have hc : cells + (h.2.1 + 1 + n.toNatClampNeg - h.2.1) ≤ R.cells := hc
    have hsl : slots + (h.2.2 + n.toNatClampNeg + n.toNatClampNeg * mm.toNatClampNeg - h.2.2) ≤ R.slots := hsl
    intro T hT Xs
    subst hb
    obtain ⟨vm₁, cA, comp, hW, hfA, hfC, hO, hI, X1, step⟩ := Xs.multianewarray2F hx (ty := .int) (index := k) (g := F0 m pc ls (.int mm :: .int n :: rest)) hown (hts _ hw) (show (Cond.arrayOver (.array .int)).before args s = true from hKn.2.2.2.2.1) (hts _ sd_ac_int) rfl hd (n := n) (k := mm) (rest := rest) rfl hn0 hm0 (by omega) (by show mm.toNatClampNeg * 4 ≤ _; omega) (by omega) rfl rfl (by omega) (by omega)
    obtain ⟨f1, f2, f3, f4⟩ := Jvm.Free.Multi.fill_facts (T.setVm vm₁) cA comp n.toNatClampNeg mm.toNatClampNeg (defaultValue .int) n.toNatClampNeg
    have f5 := Jvm.Free.Multi.fill_inner (T.setVm vm₁) cA comp n.toNatClampNeg mm.toNatClampNeg (defaultValue .int) n.toNatClampNeg
    have f6 : ∀ {a : Nat}, a < T.heap.size → (Jvm.Free.Multi.fill (T.setVm vm₁) cA comp n.toNatClampNeg mm.toNatClampNeg (defaultValue .int) n.toNatClampNeg).heap[a]? = T.heap[a]? := fun ha => Jvm.Free.Multi.fill_old (T.setVm vm₁) cA comp n.toNatClampNeg mm.toNatClampNeg (defaultValue .int) ha n.toNatClampNeg
    have hTv : (T.setVm vm₁).heap = H := hT
    have hTs : T.heap.size = H.size := by rw [hT]
    rw [hTv] at f1 f2 f5
    have hcA : cA = sd_dA g 3 := Option.some.inj (hfA.symm.trans (sd_ty hKn 3 rfl).2)
    have hcm : comp = sd_dA g 0 := Option.some.inj (hfC.symm.trans (sd_ty hKn 0 rfl).2)
    generalize hF : Jvm.Free.Multi.fill (T.setVm vm₁) cA comp n.toNatClampNeg mm.toNatClampNeg (defaultValue .int) n.toNatClampNeg = T2 at X1 step f1 f2 f3 f4 f5 f6
    have hq : ∀ q : Nat, q < H.size → T2.heap[q]? = H[q]? := fun q hq => (f6 (by omega)).trans (by rw [hT])
    have hR2 : sd_R g ((fun j => if j = h.2.1 then .inl (3, n.toNatClampNeg, .inr (.inr (.inr (.inr fun i => if i < n.toNatClampNeg then some (h.2.1 + 1 + i) else none)))) else if h.2.1 < j ∧ j ≤ h.2.1 + n.toNatClampNeg then .inl (0, mm.toNatClampNeg, .inl fun _ => 0) else h.1 j, h.2.1 + 1 + n.toNatClampNeg, h.2.2 + n.toNatClampNeg + n.toNatClampNeg * mm.toNatClampNeg) : pm_H) T2.heap := by
      obtain ⟨r1, r2, r3, r4⟩ := hR
      refine ⟨by show 7 ≤ h.2.1 + 1 + _; omega, fun i hi => ?_, ?_, fun j h7 hj => ?_⟩
      · show (if i = h.2.1 then _ else if h.2.1 < i ∧ i ≤ h.2.1 + n.toNatClampNeg then _ else h.1 i) = _
        rw [if_neg (by omega), if_neg (by omega)]
        exact r2 i hi
      · show T2.heap.size = sd_base g + (h.2.1 + 1 + n.toNatClampNeg - 7)
        omega
      · have hj : j < h.2.1 + 1 + n.toNatClampNeg := hj
        show va_at (sd_D g) pm_cl (sd_base g + (j - 7), sd_c (sd_ρ g) (sd_dA g) (if j = h.2.1 then _ else if h.2.1 < j ∧ j ≤ h.2.1 + n.toNatClampNeg then _ else h.1 j)) T2.heap
        by_cases e1 : j = h.2.1
        · subst e1
          rw [if_pos rfl, ← r3]
          show T2.heap[H.size]? = some (vp_cell (sd_dA g 3) (n.toNatClampNeg, .inr (.inr (.inr (.inr fun i => (if i < n.toNatClampNeg then some (h.2.1 + 1 + i) else none).map (sd_ρ g))))))
          rw [vp_cell_q, f2, sd_outer _ _ _ _ (Nat.le_refl _), hcA]
          congr 2
          funext i
          by_cases hi : i < n.toNatClampNeg
          · rw [if_pos hi, if_pos hi]
            show Value.ref (H.size + 1 + i) = Value.ref (sd_ρ g (h.2.1 + 1 + i))
            have e3 : H.size + 1 + i = sd_base g + (h.2.1 + 1 + i - 7) := by omega
            rw [sd_ρ7 (show 7 ≤ h.2.1 + 1 + i by omega), ← e3]
          · rw [if_neg hi, if_neg hi]
            rfl
        · by_cases e2 : h.2.1 < j ∧ j ≤ h.2.1 + n.toNatClampNeg
          · rw [if_neg e1, if_pos e2]
            have h3 := f5 (j - h.2.1 - 1) (by omega)
            rw [show H.size + 1 + (j - h.2.1 - 1) = sd_base g + (j - 7) by omega] at h3
            show T2.heap[sd_base g + (j - 7)]? = some (vp_cell (sd_dA g 0) (mm.toNatClampNeg, .inl fun _ => 0))
            rw [vp_cell_i, h3, hcm]
            show some (Jvm.Free.Multi.innerC _ _ _) = _
            rw [Jvm.Free.Multi.innerC, ← arrV_new]
            rfl
          · rw [if_neg e1, if_neg e2]
            have h4 := r4 j h7 (by omega)
            exact h4.kept (hq _ h4.lt)
    obtain ⟨t2, a1, b1⟩ := kk T2.heap hR2 (sd_S1 hS hz (by omega) hq) rfl rfl T2 rfl X1
    refine ⟨t2, step t2 ?_, b1⟩
    rw [hTs]
    exact a1
  next => cases hv
end SDN
