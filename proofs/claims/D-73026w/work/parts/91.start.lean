/-! THE START: what the pure machine takes is there at the law's entry -/
set_option maxRecDepth 100000
theorem zw_eqn {args : Array Value} {s : State} {t u : Term} (h : (Cond.eq t u).before args s = true) : (Cond.eq t u).before args s = true := h

theorem zw_cl {s : State} {args : Array Value} (hts : ∀ w ∈ lw_all, w.before args s = true) : ∃ D : va_G, ∀ (c : Nat) (q : vw_C), pm_cl[c]? = some q → u_Kn s q.1 q.2.1 q.2.2 (D.1 c) (D.2 c) := by
  obtain ⟨a0, i0, k0⟩ := u_known (C := RX0) (T := TX0) (N := 19) hts in_X0 (hts _ q128)
  obtain ⟨a1, i1, k1⟩ := u_known (C := RX1) (T := TX1) (N := 4) hts in_X1 (hts _ q136)
  obtain ⟨a2, i2, k2⟩ := u_known (C := RX3) (T := TX3) (N := 11) hts in_X3 (hts _ q169)
  obtain ⟨a3, i3, k3⟩ := u_known (C := RX4) (T := TX4) (N := 10) hts in_X4 (hts _ q214)
  obtain ⟨a4, i4, k4⟩ := u_known (C := RX5) (T := TX5) (N := 4) hts in_X5 (hts _ q259)
  obtain ⟨a5, i5, k5⟩ := u_known (C := RX6) (T := TX6) (N := 52) hts in_X6 (hts _ q1167)
  obtain ⟨a6, i6, k6⟩ := u_known (C := RX7) (T := TX7) (N := 7) hts in_X7 (hts _ q372)
  obtain ⟨a7, i7, k7⟩ := u_known (C := RX9) (T := TX9) (N := 3) hts in_X9 (hts _ q514)
  obtain ⟨a8, i8, k8⟩ := u_known (C := RX10) (T := TX10) (N := 1) hts in_X10 (hts _ q536)
  obtain ⟨a9, i9, k9⟩ := u_known (C := RX11) (T := TX11) (N := 1) hts in_X11 (hts _ q554)
  obtain ⟨a10, i10, k10⟩ := u_known (C := RX13) (T := TX13) (N := 3) hts in_X13 (hts _ q583)
  obtain ⟨a11, i11, k11⟩ := u_known (C := RX14) (T := TX14) (N := 1) hts in_X14 (hts _ q593)
  obtain ⟨a12, i12, k12⟩ := u_known (C := RX15) (T := TX15) (N := 3) hts in_X15 (hts _ q606)
  obtain ⟨a13, i13, k13⟩ := u_known (C := RX17) (T := TX17) (N := 7) hts in_X17 (hts _ q641)
  obtain ⟨a14, i14, k14⟩ := u_known (C := RX18) (T := TX18) (N := 10) hts in_X18 (hts _ q777)
  refine ⟨(fun c => [a0, a1, a2, a3, a4, a5, a6, a7, a8, a9, a10, a11, a12, a13, a14].getD c 0, fun c => [i0, i1, i2, i3, i4, i5, i6, i7, i8, i9, i10, i11, i12, i13, i14].getD c (fun _ => 0)), ?_⟩
  intro c q hq
  match c, hq with
  | 0, hq => cases hq; exact k0
  | 1, hq => cases hq; exact k1
  | 2, hq => cases hq; exact k2
  | 3, hq => cases hq; exact k3
  | 4, hq => cases hq; exact k4
  | 5, hq => cases hq; exact k5
  | 6, hq => cases hq; exact k6
  | 7, hq => cases hq; exact k7
  | 8, hq => cases hq; exact k8
  | 9, hq => cases hq; exact k9
  | 10, hq => cases hq; exact k10
  | 11, hq => cases hq; exact k11
  | 12, hq => cases hq; exact k12
  | 13, hq => cases hq; exact k13
  | 14, hq => cases hq; exact k14
  | j + 15, hq => cases hq
theorem zw_ac {s : State} {args : Array Value} {ft : FieldType} (h : (Cond.arrayClass ft).before args s = true) : ∃ cA : ClassId, ArrOfT s cA ft ∧ s.vm.findClass ("[" ++ ft.toString) = some cA := by
  obtain ⟨cA, kA, comp, h1, h2, h3⟩ := Cond.arrayClass_spec h
  exact ⟨cA, fun N z => ⟨(fun k h => by cases h), kA, h2, comp, h3⟩, h1⟩
theorem zw_ao {s : State} {args : Array Value} {C : String} (h : (Cond.arrayOver (.object C)).before args s = true) : ∃ cA : ClassId, ArrOfT s cA (.object C) ∧ va_RA s cA (.object C) := by
  obtain ⟨comp, cA, kA, h1, h2, h3, h4, h5⟩ := Cond.arrayOver_spec h
  exact ⟨cA, fun N z => ⟨(fun k h => by cases h), kA, h3, comp, h4⟩, kA, comp, h3, h4, h1, h5⟩
theorem zw_aa {s : State} {args : Array Value} {t : FieldType} (h : (Cond.arrayOver (.array t)).before args s = true) : ∃ cA : ClassId, ArrOfT s cA (.array t) ∧ s.vm.findClass ("[" ++ (FieldType.array t).toString) = some cA := by
  obtain ⟨comp, cA, kA, h1, h2, h3, h4⟩ := Cond.arrayOver_specA h
  exact ⟨cA, fun N z => ⟨(fun k h => by cases h), kA, h2, comp, h3⟩, h4⟩

def zw_tm (i : Nat) : Term := match i with | 0 => .string "AnyKeyTown$Reader" 75 | 1 => .string "AnyKeyTown$Reader" 129 | _ => .string "AnyKeyTown$Constable" 76

theorem zw_tx {s : State} {args : Array Value} (hg : ∀ c ∈ flatC (Jvm.Cond.and given_1 narrow_1), c.before args s = true) {A : Nat → Prop} (hA : ∀ a : Nat, a < s.heap.size → ¬ A a) :
    ∃ adK adV : Nat → Nat, vk_S 3 sd_len sd_byt adK adV A s s.heap ∧ ∀ i : Nat, i < 3 → (zw_tm i).eval args s none [] s = some (.ref (adK i)) := by
  refine vk_Sof (tm := zw_tm) ?_ ?_ ?_ ?_ ?_ ?_ ?_ hA
  · intro i hi
    match i, hi with
    | 0, _ => decide
    | 1, _ => decide
    | 2, _ => decide
  · intro i hi
    match i, hi with
    | 0, _ => exact hg _ (by decide +kernel)
    | 1, _ => exact hg _ (by decide +kernel)
    | 2, _ => exact hg _ (by decide +kernel)
  · intro i hi
    match i, hi with
    | 0, _ => exact hg _ (by decide +kernel)
    | 1, _ => exact hg _ (by decide +kernel)
    | 2, _ => exact hg _ (by decide +kernel)
  · intro i hi
    match i, hi with
    | 0, _ => exact hg _ (by decide +kernel)
    | 1, _ => exact hg _ (by decide +kernel)
    | 2, _ => exact hg _ (by decide +kernel)
  · intro i hi
    match i, hi with
    | 0, _ => exact hg _ (by decide +kernel)
    | 1, _ => exact hg _ (by decide +kernel)
    | 2, _ => exact hg _ (by decide +kernel)
  · intro i hi j hj
    match i, hi with
    | 0, _ =>
      match j, hj with
      | 0, _ => exact hg _ (by decide +kernel)
      | 1, _ => exact hg _ (by decide +kernel)
      | 2, _ => exact hg _ (by decide +kernel)
      | 3, _ => exact hg _ (by decide +kernel)
      | 4, _ => exact hg _ (by decide +kernel)
      | 5, _ => exact hg _ (by decide +kernel)
      | 6, _ => exact hg _ (by decide +kernel)
      | 7, _ => exact hg _ (by decide +kernel)
      | 8, _ => exact hg _ (by decide +kernel)
      | 9, _ => exact hg _ (by decide +kernel)
      | j + 10, hj => exact absurd hj (by show ¬ (j + 10 < 10); omega)
    | 1, _ =>
      match j, hj with
      | 0, _ => exact hg _ (by decide +kernel)
      | 1, _ => exact hg _ (by decide +kernel)
      | 2, _ => exact hg _ (by decide +kernel)
      | j + 3, hj => exact absurd hj (by show ¬ (j + 3 < 3); omega)
    | 2, _ =>
      match j, hj with
      | 0, _ => exact hg _ (by decide +kernel)
      | 1, _ => exact hg _ (by decide +kernel)
      | 2, _ => exact hg _ (by decide +kernel)
      | 3, _ => exact hg _ (by decide +kernel)
      | 4, _ => exact hg _ (by decide +kernel)
      | j + 5, hj => exact absurd hj (by show ¬ (j + 5 < 5); omega)
  · intro i j hi hj hn
    match i, j, hi, hj, hn with
    | 0, 0, _, _, hn => exact absurd rfl hn
    | 0, 1, _, _, _ => first | exact Or.inl (hg _ (by decide +kernel)) | exact Or.inr (hg _ (by decide +kernel))
    | 0, 2, _, _, _ => first | exact Or.inl (hg _ (by decide +kernel)) | exact Or.inr (hg _ (by decide +kernel))
    | 1, 0, _, _, _ => first | exact Or.inl (hg _ (by decide +kernel)) | exact Or.inr (hg _ (by decide +kernel))
    | 1, 1, _, _, hn => exact absurd rfl hn
    | 1, 2, _, _, _ => first | exact Or.inl (hg _ (by decide +kernel)) | exact Or.inr (hg _ (by decide +kernel))
    | 2, 0, _, _, _ => first | exact Or.inl (hg _ (by decide +kernel)) | exact Or.inr (hg _ (by decide +kernel))
    | 2, 1, _, _, _ => first | exact Or.inl (hg _ (by decide +kernel)) | exact Or.inr (hg _ (by decide +kernel))
    | 2, 2, _, _, hn => exact absurd rfl hn
