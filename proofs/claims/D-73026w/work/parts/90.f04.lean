set_option maxRecDepth 100000
def L_X0_foesOf_4 : Nat → Nat → Int32 → Int32 → Int32 → pm_H → Option (Int32)
  | 0, _, _, _, _, _ => none
  | n + 1, x0, x1, x2, x3, h =>
    if x3 < 16 then
      (F_X0_has x1 x3).bind fun q1 =>
      if q1 = 0 then
        L_X0_foesOf_4 n x0 x1 (x2 ||| 0) (x3 + 1) h
      else
        (pm_fR [(0, 0)] h x0).bind fun v2 =>
        (pm_fR [(1, 1)] h v2).bind fun v3 =>
        (pm_ai 0 h v3 x3).bind fun v4 =>
        L_X0_foesOf_4 n x0 x1 (x2 ||| v4) (x3 + 1) h
    else
      some x2
theorem ok_L_X0_foesOf_4 {d : Nat} : ∀ (n : Nat) {x0 : Nat} {x1 : Int32} {x2 : Int32} {x3 : Int32} {h : pm_H} {q : Int32} {res : Option Value × pm_H}, L_X0_foesOf_4 n x0 x1 x2 x3 h = some q → (∀ z3 : Value, pm_nolong z3 = true → pm_E (d + 1) 0 cX0_foesOf (some .int) 40 [.ref x0, .int x1, .int q, z3] [] h res) → pm_E (d + 1) 0 cX0_foesOf (some .int) 4 [.ref x0, .int x1, .int x2, .int x3] [] h res := by
  intro n
  induction n with
  | zero =>
    intro x0 x1 x2 x3 h q res hF hk
    rw [L_X0_foesOf_4] at hF
    cases hF
  | succ n ih =>
    intro x0 x1 x2 x3 h q res hF hk
    rw [L_X0_foesOf_4] at hF
    refine pr_iload_n dX0_foesOf_4 rfl ?_
    refine pr_bipush (v := 16) dX0_foesOf_5 (kb_16) ?_
    refine po_i hF (fun hc hF => ?_) (fun hc hF => ?_)
    · refine pr_icF (tgt := 40) dX0_foesOf_7 (by decide) (pc_geF hc) ?_
      refine pr_iload_n dX0_foesOf_10 rfl ?_
      refine pr_iload_n dX0_foesOf_11 rfl ?_
      refine pr_iload_n dX0_foesOf_12 rfl ?_
      obtain ⟨q1, hq1, hF⟩ := po_b hF
      refine pr_S dX0_foesOf_13 cs_0_191 (as := [.int x1, .int x3]) (rest := [.int x2]) rfl rfl rfl (lb rfl) (lb rfl) (lb rfl) (ok_F_X0_has hq1) ?_
      refine po_i hF (fun hc hF => ?_) (fun hc hF => ?_)
      · refine pr_ifT (tgt := 31) dX0_foesOf_16 (by decide) (pc_eqT hc) ?_
        refine pr_iconst (v := 0) dX0_foesOf_31 (kc_0) ?_
        refine pr_ior dX0_foesOf_32 ?_
        refine pr_istore_n (L' := [.ref x0, .int x1, .int (x2 ||| 0), .int x3]) dX0_foesOf_33 rfl ?_
        refine pr_iinc (v := 1) (L' := [.ref x0, .int x1, .int (x2 ||| 0), .int (x3 + 1)]) dX0_foesOf_34 rfl (kc_1) rfl ?_
        refine pr_goto (tgt := 4) dX0_foesOf_37 (by decide) ?_
        exact ih hF hk
      · refine pr_ifF (tgt := 31) dX0_foesOf_16 (by decide) (pc_eqF hc) ?_
        refine pr_aload_n dX0_foesOf_19 rfl ?_
        obtain ⟨v2, hv2, hF⟩ := po_b hF
        refine pr_getR dX0_foesOf_20 tf_0_16 (hv2) ?_
        obtain ⟨v3, hv3, hF⟩ := po_b hF
        refine pr_getR dX0_foesOf_23 tf_0_194 (hv3) ?_
        refine pr_iload_n dX0_foesOf_26 rfl ?_
        obtain ⟨v4, hv4, hF⟩ := po_b hF
        refine pr_iald dX0_foesOf_27 (hv4) ?_
        refine pr_goto (tgt := 32) dX0_foesOf_28 (by decide) ?_
        refine pr_ior dX0_foesOf_32 ?_
        refine pr_istore_n (L' := [.ref x0, .int x1, .int (x2 ||| v4), .int x3]) dX0_foesOf_33 rfl ?_
        refine pr_iinc (v := 1) (L' := [.ref x0, .int x1, .int (x2 ||| v4), .int (x3 + 1)]) dX0_foesOf_34 rfl (kc_1) rfl ?_
        refine pr_goto (tgt := 4) dX0_foesOf_37 (by decide) ?_
        exact ih hF hk
    · refine pr_icT (tgt := 40) dX0_foesOf_7 (by decide) (pc_geT hc) ?_
      cases hF
      exact hk _ rfl
def F_X0_foesOf (n : Nat) (h : pm_H) (a0 : Nat) (x1 : Int32) : Option (Int32) :=
  (L_X0_foesOf_4 n a0 x1 0 0 h).bind fun q5 =>
  (pm_fR [(0, 0)] h a0).bind fun v6 =>
  (pm_fI [(1, 2)] h v6).bind fun v7 =>
  some (q5 &&& v7)
theorem ok_F_X0_foesOf {d n : Nat} {h : pm_H} {a0 : Nat} {x1 : Int32} {q : Int32} (hF : F_X0_foesOf n h a0 x1 = some q) : pm_E (d + 1) 0 cX0_foesOf (some .int) 0 [.ref a0, .int x1, pm_D, pm_D] [] h (some (.int q), h) := by
  unfold F_X0_foesOf at hF
  refine pr_iconst (v := 0) dX0_foesOf_0 (kc_0) ?_
  refine pr_istore_n (L' := [.ref a0, .int x1, .int 0, pm_D]) dX0_foesOf_1 rfl ?_
  refine pr_iconst (v := 0) dX0_foesOf_2 (kc_0) ?_
  refine pr_istore_n (L' := [.ref a0, .int x1, .int 0, .int 0]) dX0_foesOf_3 rfl ?_
  obtain ⟨q5, hq5, hF⟩ := po_b hF
  refine ok_L_X0_foesOf_4 n hq5 (fun z3 hz3 => ?_)
  refine pr_iload_n dX0_foesOf_40 rfl ?_
  refine pr_aload_n dX0_foesOf_41 rfl ?_
  obtain ⟨v6, hv6, hF⟩ := po_b hF
  refine pr_getR dX0_foesOf_42 tf_0_16 (hv6) ?_
  obtain ⟨v7, hv7, hF⟩ := po_b hF
  refine pr_getI dX0_foesOf_45 tf_0_22 (hv7) ?_
  refine pr_iand dX0_foesOf_48 ?_
  cases hF
  exact pr_iret dX0_foesOf_49 rfl rfl rfl

def L_X0_twoStreets_45 : Nat → Nat → Int32 → Int32 → Int32 → pm_H → Option (Int32 × Int32)
  | 0, _, _, _, _, _ => none
  | n + 1, x0, x1, x2, x4, h =>
    if x4 < 16 then
      (if pm_cl_ h x0 = some 0 then F_X0_foesOf n h x0 x1 else none).bind fun q4 =>
      (if pm_cl_ h x0 = some 0 then F_X0_foesOf n h x0 (x2 ||| q4) else none).bind fun q5 =>
      L_X0_twoStreets_45 n x0 (x1 ||| q5) (x2 ||| q4) (x4 + 1) h
    else
      some (x1, x2)
theorem ok_L_X0_twoStreets_45 {d : Nat} : ∀ (n : Nat) {x0 : Nat} {x1 : Int32} {x2 : Int32} {x4 : Int32} {w3 : Value} {h : pm_H} {q : Int32 × Int32} {res : Option Value × pm_H}, L_X0_twoStreets_45 n x0 x1 x2 x4 h = some q → pm_nolong w3 = true → (∀ z4 : Value, pm_nolong z4 = true → pm_E (d + 2) 0 cX0_twoStreets (some .int) 74 [.ref x0, .int q.1, .int q.2, w3, z4] [] h res) → pm_E (d + 2) 0 cX0_twoStreets (some .int) 45 [.ref x0, .int x1, .int x2, w3, .int x4] [] h res := by
  intro n
  induction n with
  | zero =>
    intro x0 x1 x2 x4 w3 h q res hF hw3 hk
    rw [L_X0_twoStreets_45] at hF
    cases hF
  | succ n ih =>
    intro x0 x1 x2 x4 w3 h q res hF hw3 hk
    rw [L_X0_twoStreets_45] at hF
    refine pr_iload dX0_twoStreets_45 rfl ?_
    refine pr_bipush (v := 16) dX0_twoStreets_47 (kb_16) ?_
    refine po_i hF (fun hc hF => ?_) (fun hc hF => ?_)
    · refine pr_icF (tgt := 74) dX0_twoStreets_49 (by decide) (pc_geF hc) ?_
      refine pr_iload_n dX0_twoStreets_52 rfl ?_
      refine pr_aload_n dX0_twoStreets_53 rfl ?_
      refine pr_iload_n dX0_twoStreets_54 rfl ?_
      obtain ⟨q4, hq4, hF⟩ := po_b hF
      refine po_i hq4 (fun hcl hq => ?_) (fun _ hq => nomatch hq)
      refine pr_V (as := [.int x1]) (rest := [.int x2]) dX0_twoStreets_55 cv_0_247 hcl rfl rfl rfl rfl (lb rfl) (lb rfl) (lb rfl) (ok_F_X0_foesOf hq) ?_
      refine pr_ior dX0_twoStreets_58 ?_
      refine pr_istore_n (L' := [.ref x0, .int x1, .int (x2 ||| q4), w3, .int x4]) dX0_twoStreets_59 rfl ?_
      refine pr_iload_n dX0_twoStreets_60 rfl ?_
      refine pr_aload_n dX0_twoStreets_61 rfl ?_
      refine pr_iload_n dX0_twoStreets_62 rfl ?_
      obtain ⟨q5, hq5, hF⟩ := po_b hF
      refine po_i hq5 (fun hcl hq => ?_) (fun _ hq => nomatch hq)
      refine pr_V (as := [.int (x2 ||| q4)]) (rest := [.int x1]) dX0_twoStreets_63 cv_0_247 hcl rfl rfl rfl rfl (lb rfl) (lb rfl) (lb rfl) (ok_F_X0_foesOf hq) ?_
      refine pr_ior dX0_twoStreets_66 ?_
      refine pr_istore_n (L' := [.ref x0, .int (x1 ||| q5), .int (x2 ||| q4), w3, .int x4]) dX0_twoStreets_67 rfl ?_
      refine pr_iinc (v := 1) (L' := [.ref x0, .int (x1 ||| q5), .int (x2 ||| q4), w3, .int (x4 + 1)]) dX0_twoStreets_68 rfl (kc_1) (pm_st_w (i := 3) rfl rfl hw3 rfl) ?_
      refine pr_goto (tgt := 45) dX0_twoStreets_71 (by decide) ?_
      exact ih hF hw3 hk
    · refine pr_icT (tgt := 74) dX0_twoStreets_49 (by decide) (pc_geT hc) ?_
      cases hF
      exact hk _ rfl
def L_X0_twoStreets_6 : Nat → Nat → Int32 → Int32 → Int32 → pm_H → Option (Int32 × Int32)
  | 0, _, _, _, _, _ => none
  | n + 1, x0, x1, x2, x3, h =>
    if x3 < 16 then
      (pm_fR [(0, 0)] h x0).bind fun v1 =>
      (if pm_cl_ h v1 = some 1 then F_X1_isTold h v1 x3 else none).bind fun q2 =>
      if q2 = 0 then
        L_X0_twoStreets_6 n x0 x1 x2 (x3 + 1) h
      else
        (F_X0_has (x1 ||| x2) x3).bind fun q3 =>
        if q3 = 0 then
          (L_X0_twoStreets_45 n x0 (x1 ||| (pm_shl 1 x3)) x2 0 h).bind fun q6 =>
          L_X0_twoStreets_6 n x0 q6.1 q6.2 (x3 + 1) h
        else
          L_X0_twoStreets_6 n x0 x1 x2 (x3 + 1) h
    else
      some (x1, x2)
theorem ok_L_X0_twoStreets_6 {d : Nat} : ∀ (n : Nat) {x0 : Nat} {x1 : Int32} {x2 : Int32} {x3 : Int32} {w4 : Value} {h : pm_H} {q : Int32 × Int32} {res : Option Value × pm_H}, L_X0_twoStreets_6 n x0 x1 x2 x3 h = some q → pm_nolong w4 = true → (∀ z3 : Value, pm_nolong z3 = true → ∀ z4 : Value, pm_nolong z4 = true → pm_E (d + 2) 0 cX0_twoStreets (some .int) 80 [.ref x0, .int q.1, .int q.2, z3, z4] [] h res) → pm_E (d + 2) 0 cX0_twoStreets (some .int) 6 [.ref x0, .int x1, .int x2, .int x3, w4] [] h res := by
  intro n
  induction n with
  | zero =>
    intro x0 x1 x2 x3 w4 h q res hF hw4 hk
    rw [L_X0_twoStreets_6] at hF
    cases hF
  | succ n ih =>
    intro x0 x1 x2 x3 w4 h q res hF hw4 hk
    rw [L_X0_twoStreets_6] at hF
    refine pr_iload_n dX0_twoStreets_6 rfl ?_
    refine pr_bipush (v := 16) dX0_twoStreets_7 (kb_16) ?_
    refine po_i hF (fun hc hF => ?_) (fun hc hF => ?_)
    · refine pr_icF (tgt := 80) dX0_twoStreets_9 (by decide) (pc_geF hc) ?_
      refine pr_aload_n dX0_twoStreets_12 rfl ?_
      obtain ⟨v1, hv1, hF⟩ := po_b hF
      refine pr_getR dX0_twoStreets_13 tf_0_16 (hv1) ?_
      refine pr_iload_n dX0_twoStreets_16 rfl ?_
      obtain ⟨q2, hq2, hF⟩ := po_b hF
      refine po_i hq2 (fun hcl hq => ?_) (fun _ hq => nomatch hq)
      refine pr_V (as := [.int x3]) (rest := []) dX0_twoStreets_17 cv_0_168 hcl rfl rfl rfl rfl (lb rfl) (lb rfl) (lb rfl) (ok_F_X1_isTold hq) ?_
      refine po_i hF (fun hc hF => ?_) (fun hc hF => ?_)
      · refine pr_ifT (tgt := 74) dX0_twoStreets_20 (by decide) (pc_eqT hc) ?_
        refine pr_iinc (v := 1) (L' := [.ref x0, .int x1, .int x2, .int (x3 + 1), w4]) dX0_twoStreets_74 rfl (kc_1) rfl ?_
        refine pr_goto (tgt := 6) dX0_twoStreets_77 (by decide) ?_
        exact ih hF hw4 hk
      · refine pr_ifF (tgt := 74) dX0_twoStreets_20 (by decide) (pc_eqF hc) ?_
        refine pr_iload_n dX0_twoStreets_23 rfl ?_
        refine pr_iload_n dX0_twoStreets_24 rfl ?_
        refine pr_ior dX0_twoStreets_25 ?_
        refine pr_iload_n dX0_twoStreets_26 rfl ?_
        obtain ⟨q3, hq3, hF⟩ := po_b hF
        refine pr_S dX0_twoStreets_27 cs_0_191 (as := [.int (x1 ||| x2), .int x3]) (rest := []) rfl rfl rfl (lb rfl) (lb rfl) (lb rfl) (ok_F_X0_has hq3) ?_
        refine po_i hF (fun hc hF => ?_) (fun hc hF => ?_)
        · refine pr_ifT (tgt := 36) dX0_twoStreets_30 (by decide) (pc_eqT hc) ?_
          refine pr_iload_n dX0_twoStreets_36 rfl ?_
          refine pr_iconst (v := 1) dX0_twoStreets_37 (kc_1) ?_
          refine pr_iload_n dX0_twoStreets_38 rfl ?_
          refine pr_ishl dX0_twoStreets_39 ?_
          refine pr_ior dX0_twoStreets_40 ?_
          refine pr_istore_n (L' := [.ref x0, .int (x1 ||| (pm_shl 1 x3)), .int x2, .int x3, w4]) dX0_twoStreets_41 rfl ?_
          refine pr_iconst (v := 0) dX0_twoStreets_42 (kc_0) ?_
          refine pr_istore (L' := [.ref x0, .int (x1 ||| (pm_shl 1 x3)), .int x2, .int x3, .int 0]) dX0_twoStreets_43 rfl ?_
          obtain ⟨q6, hq6, hF⟩ := po_b hF
          refine ok_L_X0_twoStreets_45 n hq6 rfl (fun z4 hz4 => ?_)
          refine pr_iinc (v := 1) (L' := [.ref x0, .int q6.1, .int q6.2, .int (x3 + 1), z4]) dX0_twoStreets_74 rfl (kc_1) rfl ?_
          refine pr_goto (tgt := 6) dX0_twoStreets_77 (by decide) ?_
          exact ih hF hz4 hk
        · refine pr_ifF (tgt := 36) dX0_twoStreets_30 (by decide) (pc_eqF hc) ?_
          refine pr_goto (tgt := 74) dX0_twoStreets_33 (by decide) ?_
          refine pr_iinc (v := 1) (L' := [.ref x0, .int x1, .int x2, .int (x3 + 1), w4]) dX0_twoStreets_74 rfl (kc_1) rfl ?_
          refine pr_goto (tgt := 6) dX0_twoStreets_77 (by decide) ?_
          exact ih hF hw4 hk
    · refine pr_icT (tgt := 80) dX0_twoStreets_9 (by decide) (pc_geT hc) ?_
      cases hF
      exact hk _ rfl _ hw4
def F_X0_twoStreets (n : Nat) (h : pm_H) (a0 : Nat) : Option (Int32) :=
  (L_X0_twoStreets_6 n a0 0 0 0 h).bind fun q7 =>
  if (q7.1 &&& q7.2) = 0 then
    some q7.2
  else
    some (-2)
theorem ok_F_X0_twoStreets {d n : Nat} {h : pm_H} {a0 : Nat} {q : Int32} (hF : F_X0_twoStreets n h a0 = some q) : pm_E (d + 2) 0 cX0_twoStreets (some .int) 0 [.ref a0, pm_D, pm_D, pm_D, pm_D] [] h (some (.int q), h) := by
  unfold F_X0_twoStreets at hF
  refine pr_iconst (v := 0) dX0_twoStreets_0 (kc_0) ?_
  refine pr_istore_n (L' := [.ref a0, .int 0, pm_D, pm_D, pm_D]) dX0_twoStreets_1 rfl ?_
  refine pr_iconst (v := 0) dX0_twoStreets_2 (kc_0) ?_
  refine pr_istore_n (L' := [.ref a0, .int 0, .int 0, pm_D, pm_D]) dX0_twoStreets_3 rfl ?_
  refine pr_iconst (v := 0) dX0_twoStreets_4 (kc_0) ?_
  refine pr_istore_n (L' := [.ref a0, .int 0, .int 0, .int 0, pm_D]) dX0_twoStreets_5 rfl ?_
  obtain ⟨q7, hq7, hF⟩ := po_b hF
  refine ok_L_X0_twoStreets_6 n hq7 rfl (fun z3 hz3 z4 hz4 => ?_)
  refine pr_iload_n dX0_twoStreets_80 rfl ?_
  refine pr_iload_n dX0_twoStreets_81 rfl ?_
  refine pr_iand dX0_twoStreets_82 ?_
  refine po_i hF (fun hc hF => ?_) (fun hc hF => ?_)
  · refine pr_ifT (tgt := 91) dX0_twoStreets_83 (by decide) (pc_eqT hc) ?_
    refine pr_iload_n dX0_twoStreets_91 rfl ?_
    cases hF
    exact pr_iret dX0_twoStreets_92 rfl rfl rfl
  · refine pr_ifF (tgt := 91) dX0_twoStreets_83 (by decide) (pc_eqF hc) ?_
    refine pr_bipush (v := (-2)) dX0_twoStreets_86 (kb_m2) ?_
    refine pr_goto (tgt := 92) dX0_twoStreets_88 (by decide) ?_
    cases hF
    exact pr_iret dX0_twoStreets_92 rfl rfl rfl

def L_X0_pairings_35 : Nat → Nat → Nat → Int32 → Int32 → Int32 → Int32 → pm_H → Option (pm_H)
  | 0, _, _, _, _, _, _, _ => none
  | n + 1, x0, x1, x2, x3, x4, x5, h =>
    if x5 < x2 then
      (F_X0_has x3 x5).bind fun q5 =>
      if q5 = 0 then
        L_X0_pairings_35 n x0 x1 x2 x3 x4 (x5 + 1) h
      else
        (pm_ai 0 h x1 x4).bind fun v6 =>
        (F_X0_has v6 x5).bind fun q7 =>
        if q7 = 0 then
          L_X0_pairings_35 n x0 x1 x2 x3 x4 (x5 + 1) h
        else
          (pm_fR [(0, 13)] h x0).bind fun v8 =>
          (pm_ai 0 h v8 x3).bind fun v9 =>
          (pm_fR [(0, 13)] h x0).bind fun v10 =>
          (pm_ai 0 h v10 (x3 &&& ((pm_shl 1 x5) ^^^ (-1)))).bind fun v11 =>
          (pm_si 0 h v8 x3 (v9 + v11)).bind fun h12 =>
          L_X0_pairings_35 n x0 x1 x2 x3 x4 (x5 + 1) h12
    else
      some h
theorem ok_L_X0_pairings_35 {d : Nat} : ∀ (n : Nat) {x0 : Nat} {x1 : Nat} {x2 : Int32} {x3 : Int32} {x4 : Int32} {x5 : Int32} {h : pm_H} {q : pm_H} {res : Option Value × pm_H}, L_X0_pairings_35 n x0 x1 x2 x3 x4 x5 h = some q → (∀ z5 : Value, pm_nolong z5 = true → pm_E (d + 1) 0 cX0_pairings (some .int) 90 [.ref x0, .ref x1, .int x2, .int x3, .int x4, z5] [] q res) → pm_E (d + 1) 0 cX0_pairings (some .int) 35 [.ref x0, .ref x1, .int x2, .int x3, .int x4, .int x5] [] h res := by
  intro n
  induction n with
  | zero =>
    intro x0 x1 x2 x3 x4 x5 h q res hF hk
    rw [L_X0_pairings_35] at hF
    cases hF
  | succ n ih =>
    intro x0 x1 x2 x3 x4 x5 h q res hF hk
    rw [L_X0_pairings_35] at hF
    refine pr_iload dX0_pairings_35 rfl ?_
    refine pr_iload_n dX0_pairings_37 rfl ?_
    refine po_i hF (fun hc hF => ?_) (fun hc hF => ?_)
    · refine pr_icF (tgt := 90) dX0_pairings_38 (by decide) (pc_geF hc) ?_
      refine pr_iload_n dX0_pairings_41 rfl ?_
      refine pr_iload dX0_pairings_42 rfl ?_
      obtain ⟨q5, hq5, hF⟩ := po_b hF
      refine pr_S dX0_pairings_44 cs_0_191 (as := [.int x3, .int x5]) (rest := []) rfl rfl rfl (lb rfl) (lb rfl) (lb rfl) (ok_F_X0_has hq5) ?_
      refine po_i hF (fun hc hF => ?_) (fun hc hF => ?_)
      · refine pr_ifT (tgt := 84) dX0_pairings_47 (by decide) (pc_eqT hc) ?_
        refine pr_iinc (v := 1) (L' := [.ref x0, .ref x1, .int x2, .int x3, .int x4, .int (x5 + 1)]) dX0_pairings_84 rfl (kc_1) rfl ?_
        refine pr_goto (tgt := 35) dX0_pairings_87 (by decide) ?_
        exact ih hF hk
      · refine pr_ifF (tgt := 84) dX0_pairings_47 (by decide) (pc_eqF hc) ?_
        refine pr_aload_n dX0_pairings_50 rfl ?_
        refine pr_iload dX0_pairings_51 rfl ?_
        obtain ⟨v6, hv6, hF⟩ := po_b hF
        refine pr_iald dX0_pairings_53 (hv6) ?_
        refine pr_iload dX0_pairings_54 rfl ?_
        obtain ⟨q7, hq7, hF⟩ := po_b hF
        refine pr_S dX0_pairings_56 cs_0_191 (as := [.int v6, .int x5]) (rest := []) rfl rfl rfl (lb rfl) (lb rfl) (lb rfl) (ok_F_X0_has hq7) ?_
        refine po_i hF (fun hc hF => ?_) (fun hc hF => ?_)
        · refine pr_ifT (tgt := 84) dX0_pairings_59 (by decide) (pc_eqT hc) ?_
          refine pr_iinc (v := 1) (L' := [.ref x0, .ref x1, .int x2, .int x3, .int x4, .int (x5 + 1)]) dX0_pairings_84 rfl (kc_1) rfl ?_
          refine pr_goto (tgt := 35) dX0_pairings_87 (by decide) ?_
          exact ih hF hk
        · refine pr_ifF (tgt := 84) dX0_pairings_59 (by decide) (pc_eqF hc) ?_
          refine pr_aload_n dX0_pairings_62 rfl ?_
          obtain ⟨v8, hv8, hF⟩ := po_b hF
          refine pr_getR dX0_pairings_63 tf_0_90 (hv8) ?_
          refine pr_iload_n dX0_pairings_66 rfl ?_
          refine pr_dup2 dX0_pairings_67 rfl rfl ?_
          obtain ⟨v9, hv9, hF⟩ := po_b hF
          refine pr_iald dX0_pairings_68 (hv9) ?_
          refine pr_aload_n dX0_pairings_69 rfl ?_
          obtain ⟨v10, hv10, hF⟩ := po_b hF
          refine pr_getR dX0_pairings_70 tf_0_90 (hv10) ?_
          refine pr_iload_n dX0_pairings_73 rfl ?_
          refine pr_iconst (v := 1) dX0_pairings_74 (kc_1) ?_
          refine pr_iload dX0_pairings_75 rfl ?_
          refine pr_ishl dX0_pairings_77 ?_
          refine pr_iconst (v := (-1)) dX0_pairings_78 (kc_m1) ?_
          refine pr_ixor dX0_pairings_79 ?_
          refine pr_iand dX0_pairings_80 ?_
          obtain ⟨v11, hv11, hF⟩ := po_b hF
          refine pr_iald dX0_pairings_81 (hv11) ?_
          refine pr_iadd dX0_pairings_82 ?_
          obtain ⟨h12, hh12, hF⟩ := po_b hF
          refine pr_iast dX0_pairings_83 (hh12) ?_
          refine pr_iinc (v := 1) (L' := [.ref x0, .ref x1, .int x2, .int x3, .int x4, .int (x5 + 1)]) dX0_pairings_84 rfl (kc_1) rfl ?_
          refine pr_goto (tgt := 35) dX0_pairings_87 (by decide) ?_
          exact ih hF hk
    · refine pr_icT (tgt := 90) dX0_pairings_38 (by decide) (pc_geT hc) ?_
      cases hF
      exact hk _ rfl
def L_X0_pairings_2 : Nat → Nat → Nat → Int32 → Int32 → pm_H → Option (pm_H)
  | 0, _, _, _, _, _ => none
  | n + 1, x0, x1, x2, x3, h =>
    if x3 < (pm_shl 1 x2) then
      (pm_fR [(0, 13)] h x0).bind fun v1 =>
      ((
        if x3 = 0 then
          some 1
        else
          some 0
      ) : Option (Int32)).bind fun q2 =>
      (pm_si 0 h v1 x3 q2).bind fun h3 =>
      (F_J6_bitCount x3).bind fun q4 =>
      (L_X0_pairings_35 n x0 x1 x2 x3 (q4 - 1) 0 h3).bind fun q13 =>
      L_X0_pairings_2 n x0 x1 x2 (x3 + 1) q13
    else
      some h
theorem ok_L_X0_pairings_2 {d : Nat} : ∀ (n : Nat) {x0 : Nat} {x1 : Nat} {x2 : Int32} {x3 : Int32} {w4 w5 : Value} {h : pm_H} {q : pm_H} {res : Option Value × pm_H}, L_X0_pairings_2 n x0 x1 x2 x3 h = some q → pm_nolong w4 = true → pm_nolong w5 = true → (∀ z3 : Value, pm_nolong z3 = true → ∀ z4 : Value, pm_nolong z4 = true → ∀ z5 : Value, pm_nolong z5 = true → pm_E (d + 1) 0 cX0_pairings (some .int) 96 [.ref x0, .ref x1, .int x2, z3, z4, z5] [] q res) → pm_E (d + 1) 0 cX0_pairings (some .int) 2 [.ref x0, .ref x1, .int x2, .int x3, w4, w5] [] h res := by
  intro n
  induction n with
  | zero =>
    intro x0 x1 x2 x3 w4 w5 h q res hF hw4 hw5 hk
    rw [L_X0_pairings_2] at hF
    cases hF
  | succ n ih =>
    intro x0 x1 x2 x3 w4 w5 h q res hF hw4 hw5 hk
    rw [L_X0_pairings_2] at hF
    refine pr_iload_n dX0_pairings_2 rfl ?_
    refine pr_iconst (v := 1) dX0_pairings_3 (kc_1) ?_
    refine pr_iload_n dX0_pairings_4 rfl ?_
    refine pr_ishl dX0_pairings_5 ?_
    refine po_i hF (fun hc hF => ?_) (fun hc hF => ?_)
    · refine pr_icF (tgt := 96) dX0_pairings_6 (by decide) (pc_geF hc) ?_
      refine pr_aload_n dX0_pairings_9 rfl ?_
      obtain ⟨v1, hv1, hF⟩ := po_b hF
      refine pr_getR dX0_pairings_10 tf_0_90 (hv1) ?_
      refine pr_iload_n dX0_pairings_13 rfl ?_
      refine pr_iload_n dX0_pairings_14 rfl ?_
      obtain ⟨q2, hq2, hF⟩ := po_b hF
      have J23 : pm_E (d + 1) 0 cX0_pairings (some .int) 23 [.ref x0, .ref x1, .int x2, .int x3, w4, w5] [.int q2, .int x3, .ref v1] h res := by
        obtain ⟨h3, hh3, hF⟩ := po_b hF
        refine pr_iast dX0_pairings_23 (hh3) ?_
        refine pr_iload_n dX0_pairings_24 rfl ?_
        obtain ⟨q4, hq4, hF⟩ := po_b hF
        refine pr_S dX0_pairings_25 cs_0_214 (as := [.int x3]) (rest := []) rfl rfl rfl (lb rfl) (lb rfl) (lb rfl) (ok_F_J6_bitCount hq4) ?_
        refine pr_iconst (v := 1) dX0_pairings_28 (kc_1) ?_
        refine pr_isub dX0_pairings_29 ?_
        refine pr_istore (L' := [.ref x0, .ref x1, .int x2, .int x3, .int (q4 - 1), w5]) dX0_pairings_30 rfl ?_
        refine pr_iconst (v := 0) dX0_pairings_32 (kc_0) ?_
        refine pr_istore (L' := [.ref x0, .ref x1, .int x2, .int x3, .int (q4 - 1), .int 0]) dX0_pairings_33 rfl ?_
        obtain ⟨q13, hq13, hF⟩ := po_b hF
        refine ok_L_X0_pairings_35 n hq13 (fun z5 hz5 => ?_)
        refine pr_iinc (v := 1) (L' := [.ref x0, .ref x1, .int x2, .int (x3 + 1), .int (q4 - 1), z5]) dX0_pairings_90 rfl (kc_1) rfl ?_
        refine pr_goto (tgt := 2) dX0_pairings_93 (by decide) ?_
        exact ih hF rfl hz5 hk
      clear hF
      have hF := hq2
      refine po_i hF (fun hc hF => ?_) (fun hc hF => ?_)
      · refine pr_ifF (tgt := 22) dX0_pairings_15 (by decide) (pc_neF hc) ?_
        refine pr_iconst (v := 1) dX0_pairings_18 (kc_1) ?_
        refine pr_goto (tgt := 23) dX0_pairings_19 (by decide) ?_
        cases hF
        exact J23
      · refine pr_ifT (tgt := 22) dX0_pairings_15 (by decide) (pc_neT hc) ?_
        refine pr_iconst (v := 0) dX0_pairings_22 (kc_0) ?_
        cases hF
        exact J23
    · refine pr_icT (tgt := 96) dX0_pairings_6 (by decide) (pc_geT hc) ?_
      cases hF
      exact hk _ rfl _ hw4 _ hw5
def F_X0_pairings (n : Nat) (h : pm_H) (a0 : Nat) (a1 : Nat) (x2 : Int32) : Option (Int32 × pm_H) :=
  (L_X0_pairings_2 n a0 a1 x2 0 h).bind fun q14 =>
  (pm_fR [(0, 13)] q14 a0).bind fun v15 =>
  (pm_ai 0 q14 v15 ((pm_shl 1 x2) - 1)).bind fun v16 =>
  some (v16, q14)
theorem ok_F_X0_pairings {d n : Nat} {h : pm_H} {a0 : Nat} {a1 : Nat} {x2 : Int32} {q : Int32 × pm_H} (hF : F_X0_pairings n h a0 a1 x2 = some q) : pm_E (d + 1) 0 cX0_pairings (some .int) 0 [.ref a0, .ref a1, .int x2, pm_D, pm_D, pm_D] [] h (some (.int q.1), q.2) := by
  unfold F_X0_pairings at hF
  refine pr_iconst (v := 0) dX0_pairings_0 (kc_0) ?_
  refine pr_istore_n (L' := [.ref a0, .ref a1, .int x2, .int 0, pm_D, pm_D]) dX0_pairings_1 rfl ?_
  obtain ⟨q14, hq14, hF⟩ := po_b hF
  refine ok_L_X0_pairings_2 n hq14 rfl rfl (fun z3 hz3 z4 hz4 z5 hz5 => ?_)
  refine pr_aload_n dX0_pairings_96 rfl ?_
  obtain ⟨v15, hv15, hF⟩ := po_b hF
  refine pr_getR dX0_pairings_97 tf_0_90 (hv15) ?_
  refine pr_iconst (v := 1) dX0_pairings_100 (kc_1) ?_
  refine pr_iload_n dX0_pairings_101 rfl ?_
  refine pr_ishl dX0_pairings_102 ?_
  refine pr_iconst (v := 1) dX0_pairings_103 (kc_1) ?_
  refine pr_isub dX0_pairings_104 ?_
  obtain ⟨v16, hv16, hF⟩ := po_b hF
  refine pr_iald dX0_pairings_105 (hv16) ?_
  cases hF
  exact pr_iret dX0_pairings_106 rfl rfl rfl

def L_X0_across_86 : Nat → Nat → Int32 → Int32 → Int32 → Int32 → Int32 → pm_H → Option (pm_H)
  | 0, _, _, _, _, _, _, _ => none
  | n + 1, x0, x2, x4, x5, x6, x7, h =>
    if x7 < 16 then
      (F_X0_has x2 x7).bind fun q8 =>
      if q8 = 0 then
        L_X0_across_86 n x0 x2 x4 x5 x6 (x7 + 1) h
      else
        (pm_fR [(0, 14)] h x0).bind fun v9 =>
        (pm_ai 0 h v9 x4).bind fun v10 =>
        (pm_fR [(0, 0)] h x0).bind fun v11 =>
        (pm_fR [(1, 1)] h v11).bind fun v12 =>
        (pm_ai 0 h v12 x5).bind fun v13 =>
        (F_X0_has v13 x7).bind fun q14 =>
        if q14 = 0 then
          (pm_si 0 h v9 x4 (v10 ||| (pm_shl 1 x6))).bind fun h15 =>
          L_X0_across_86 n x0 x2 x4 x5 (x6 + 1) (x7 + 1) h15
        else
          (pm_si 0 h v9 x4 (v10 ||| 0)).bind fun h16 =>
          L_X0_across_86 n x0 x2 x4 x5 (x6 + 1) (x7 + 1) h16
    else
      some h
theorem ok_L_X0_across_86 {d : Nat} : ∀ (n : Nat) {x0 : Nat} {x2 : Int32} {x4 : Int32} {x5 : Int32} {x6 : Int32} {x7 : Int32} {w1 w3 : Value} {h : pm_H} {q : pm_H} {res : Option Value × pm_H}, L_X0_across_86 n x0 x2 x4 x5 x6 x7 h = some q → pm_nolong w1 = true → pm_nolong w3 = true → (∀ z6 : Value, pm_nolong z6 = true → ∀ z7 : Value, pm_nolong z7 = true → pm_E (d + 2) 0 cX0_across (some .int) 150 [.ref x0, w1, .int x2, w3, .int x4, .int x5, z6, z7] [] q res) → pm_E (d + 2) 0 cX0_across (some .int) 86 [.ref x0, w1, .int x2, w3, .int x4, .int x5, .int x6, .int x7] [] h res := by
  intro n
  induction n with
  | zero =>
    intro x0 x2 x4 x5 x6 x7 w1 w3 h q res hF hw1 hw3 hk
    rw [L_X0_across_86] at hF
    cases hF
  | succ n ih =>
    intro x0 x2 x4 x5 x6 x7 w1 w3 h q res hF hw1 hw3 hk
    rw [L_X0_across_86] at hF
    refine pr_iload dX0_across_86 rfl ?_
    refine pr_bipush (v := 16) dX0_across_88 (kb_16) ?_
    refine po_i hF (fun hc hF => ?_) (fun hc hF => ?_)
    · refine pr_icF (tgt := 150) dX0_across_90 (by decide) (pc_geF hc) ?_
      refine pr_iload_n dX0_across_93 rfl ?_
      refine pr_iload dX0_across_94 rfl ?_
      obtain ⟨q8, hq8, hF⟩ := po_b hF
      refine pr_S dX0_across_96 cs_0_191 (as := [.int x2, .int x7]) (rest := []) rfl rfl rfl (lb rfl) (lb rfl) (lb rfl) (ok_F_X0_has hq8) ?_
      refine po_i hF (fun hc hF => ?_) (fun hc hF => ?_)
      · refine pr_ifF (tgt := 105) dX0_across_99 (by decide) (pc_neF hc) ?_
        refine pr_goto (tgt := 144) dX0_across_102 (by decide) ?_
        refine pr_iinc (v := 1) (L' := [.ref x0, w1, .int x2, w3, .int x4, .int x5, .int x6, .int (x7 + 1)]) dX0_across_144 rfl (kc_1) rfl ?_
        refine pr_goto (tgt := 86) dX0_across_147 (by decide) ?_
        exact ih hF hw1 hw3 hk
      · refine pr_ifT (tgt := 105) dX0_across_99 (by decide) (pc_neT hc) ?_
        refine pr_aload_n dX0_across_105 rfl ?_
        obtain ⟨v9, hv9, hF⟩ := po_b hF
        refine pr_getR dX0_across_106 tf_0_93 (hv9) ?_
        refine pr_iload dX0_across_109 rfl ?_
        refine pr_dup2 dX0_across_111 rfl rfl ?_
        obtain ⟨v10, hv10, hF⟩ := po_b hF
        refine pr_iald dX0_across_112 (hv10) ?_
        refine pr_aload_n dX0_across_113 rfl ?_
        obtain ⟨v11, hv11, hF⟩ := po_b hF
        refine pr_getR dX0_across_114 tf_0_16 (hv11) ?_
        obtain ⟨v12, hv12, hF⟩ := po_b hF
        refine pr_getR dX0_across_117 tf_0_194 (hv12) ?_
        refine pr_iload dX0_across_120 rfl ?_
        obtain ⟨v13, hv13, hF⟩ := po_b hF
        refine pr_iald dX0_across_122 (hv13) ?_
        refine pr_iload dX0_across_123 rfl ?_
        obtain ⟨q14, hq14, hF⟩ := po_b hF
        refine pr_S dX0_across_125 cs_0_191 (as := [.int v13, .int x7]) (rest := [.int v10, .int x4, .ref v9]) rfl rfl rfl (lb rfl) (lb rfl) (lb rfl) (ok_F_X0_has hq14) ?_
        refine po_i hF (fun hc hF => ?_) (fun hc hF => ?_)
        · refine pr_ifT (tgt := 135) dX0_across_128 (by decide) (pc_eqT hc) ?_
          refine pr_iconst (v := 1) dX0_across_135 (kc_1) ?_
          refine pr_iload dX0_across_136 rfl ?_
          refine pr_ishl dX0_across_138 ?_
          refine pr_ior dX0_across_139 ?_
          obtain ⟨h15, hh15, hF⟩ := po_b hF
          refine pr_iast dX0_across_140 (hh15) ?_
          refine pr_iinc (v := 1) (L' := [.ref x0, w1, .int x2, w3, .int x4, .int x5, .int (x6 + 1), .int x7]) dX0_across_141 rfl (kc_1) rfl ?_
          refine pr_iinc (v := 1) (L' := [.ref x0, w1, .int x2, w3, .int x4, .int x5, .int (x6 + 1), .int (x7 + 1)]) dX0_across_144 rfl (kc_1) rfl ?_
          refine pr_goto (tgt := 86) dX0_across_147 (by decide) ?_
          exact ih hF hw1 hw3 hk
        · refine pr_ifF (tgt := 135) dX0_across_128 (by decide) (pc_eqF hc) ?_
          refine pr_iconst (v := 0) dX0_across_131 (kc_0) ?_
          refine pr_goto (tgt := 139) dX0_across_132 (by decide) ?_
          refine pr_ior dX0_across_139 ?_
          obtain ⟨h16, hh16, hF⟩ := po_b hF
          refine pr_iast dX0_across_140 (hh16) ?_
          refine pr_iinc (v := 1) (L' := [.ref x0, w1, .int x2, w3, .int x4, .int x5, .int (x6 + 1), .int x7]) dX0_across_141 rfl (kc_1) rfl ?_
          refine pr_iinc (v := 1) (L' := [.ref x0, w1, .int x2, w3, .int x4, .int x5, .int (x6 + 1), .int (x7 + 1)]) dX0_across_144 rfl (kc_1) rfl ?_
          refine pr_goto (tgt := 86) dX0_across_147 (by decide) ?_
          exact ih hF hw1 hw3 hk
    · refine pr_icT (tgt := 150) dX0_across_90 (by decide) (pc_geT hc) ?_
      cases hF
      exact hk _ rfl _ rfl
def L_X0_across_53 : Nat → Nat → Int32 → Int32 → Int32 → Int32 → pm_H → Option (pm_H)
  | 0, _, _, _, _, _, _ => none
  | n + 1, x0, x1, x2, x4, x5, h =>
    if x5 < 16 then
      (F_X0_has x1 x5).bind fun q5 =>
      if q5 = 0 then
        L_X0_across_53 n x0 x1 x2 x4 (x5 + 1) h
      else
        (pm_fR [(0, 14)] h x0).bind fun v6 =>
        (pm_si 0 h v6 x4 0).bind fun h7 =>
        (L_X0_across_86 n x0 x2 x4 x5 0 0 h7).bind fun q17 =>
        L_X0_across_53 n x0 x1 x2 (x4 + 1) (x5 + 1) q17
    else
      some h
theorem ok_L_X0_across_53 {d : Nat} : ∀ (n : Nat) {x0 : Nat} {x1 : Int32} {x2 : Int32} {x4 : Int32} {x5 : Int32} {w3 w6 w7 : Value} {h : pm_H} {q : pm_H} {res : Option Value × pm_H}, L_X0_across_53 n x0 x1 x2 x4 x5 h = some q → pm_nolong w3 = true → pm_nolong w6 = true → pm_nolong w7 = true → (∀ z4 : Value, pm_nolong z4 = true → ∀ z5 : Value, pm_nolong z5 = true → ∀ z6 : Value, pm_nolong z6 = true → ∀ z7 : Value, pm_nolong z7 = true → pm_E (d + 2) 0 cX0_across (some .int) 159 [.ref x0, .int x1, .int x2, w3, z4, z5, z6, z7] [] q res) → pm_E (d + 2) 0 cX0_across (some .int) 53 [.ref x0, .int x1, .int x2, w3, .int x4, .int x5, w6, w7] [] h res := by
  intro n
  induction n with
  | zero =>
    intro x0 x1 x2 x4 x5 w3 w6 w7 h q res hF hw3 hw6 hw7 hk
    rw [L_X0_across_53] at hF
    cases hF
  | succ n ih =>
    intro x0 x1 x2 x4 x5 w3 w6 w7 h q res hF hw3 hw6 hw7 hk
    rw [L_X0_across_53] at hF
    refine pr_iload dX0_across_53 rfl ?_
    refine pr_bipush (v := 16) dX0_across_55 (kb_16) ?_
    refine po_i hF (fun hc hF => ?_) (fun hc hF => ?_)
    · refine pr_icF (tgt := 159) dX0_across_57 (by decide) (pc_geF hc) ?_
      refine pr_iload_n dX0_across_60 rfl ?_
      refine pr_iload dX0_across_61 rfl ?_
      obtain ⟨q5, hq5, hF⟩ := po_b hF
      refine pr_S dX0_across_63 cs_0_191 (as := [.int x1, .int x5]) (rest := []) rfl rfl rfl (lb rfl) (lb rfl) (lb rfl) (ok_F_X0_has hq5) ?_
      refine po_i hF (fun hc hF => ?_) (fun hc hF => ?_)
      · refine pr_ifF (tgt := 72) dX0_across_66 (by decide) (pc_neF hc) ?_
        refine pr_goto (tgt := 153) dX0_across_69 (by decide) ?_
        refine pr_iinc (v := 1) (L' := [.ref x0, .int x1, .int x2, w3, .int x4, .int (x5 + 1), w6, w7]) dX0_across_153 rfl (kc_1) rfl ?_
        refine pr_goto (tgt := 53) dX0_across_156 (by decide) ?_
        exact ih hF hw3 hw6 hw7 hk
      · refine pr_ifT (tgt := 72) dX0_across_66 (by decide) (pc_neT hc) ?_
        refine pr_aload_n dX0_across_72 rfl ?_
        obtain ⟨v6, hv6, hF⟩ := po_b hF
        refine pr_getR dX0_across_73 tf_0_93 (hv6) ?_
        refine pr_iload dX0_across_76 rfl ?_
        refine pr_iconst (v := 0) dX0_across_78 (kc_0) ?_
        obtain ⟨h7, hh7, hF⟩ := po_b hF
        refine pr_iast dX0_across_79 (hh7) ?_
        refine pr_iconst (v := 0) dX0_across_80 (kc_0) ?_
        refine pr_istore (L' := [.ref x0, .int x1, .int x2, w3, .int x4, .int x5, .int 0, w7]) dX0_across_81 rfl ?_
        refine pr_iconst (v := 0) dX0_across_83 (kc_0) ?_
        refine pr_istore (L' := [.ref x0, .int x1, .int x2, w3, .int x4, .int x5, .int 0, .int 0]) dX0_across_84 rfl ?_
        obtain ⟨q17, hq17, hF⟩ := po_b hF
        refine ok_L_X0_across_86 n hq17 rfl hw3 (fun z6 hz6 z7 hz7 => ?_)
        refine pr_iinc (v := 1) (L' := [.ref x0, .int x1, .int x2, w3, .int (x4 + 1), .int x5, z6, z7]) dX0_across_150 rfl (kc_1) (pm_st_w (i := 3) rfl rfl hw3 rfl) ?_
        refine pr_iinc (v := 1) (L' := [.ref x0, .int x1, .int x2, w3, .int (x4 + 1), .int (x5 + 1), z6, z7]) dX0_across_153 rfl (kc_1) rfl ?_
        refine pr_goto (tgt := 53) dX0_across_156 (by decide) ?_
        exact ih hF hw3 hz6 hz7 hk
    · refine pr_icT (tgt := 159) dX0_across_57 (by decide) (pc_geT hc) ?_
      cases hF
      exact hk _ rfl _ rfl _ hw6 _ hw7
def F_X0_across (n : Nat) (h : pm_H) (a0 : Nat) (x1 : Int32) (x2 : Int32) : Option (Int32 × pm_H) :=
  (F_J6_bitCount x1).bind fun q1 =>
  if 0 < x1 then
    (if pm_cl_ h a0 = some 0 then F_X0_areTold h a0 x1 else none).bind fun q2 =>
    if q2 = 0 then
      some ((-1), h)
    else
      (if pm_cl_ h a0 = some 0 then F_X0_areTold h a0 x2 else none).bind fun q3 =>
      if q3 = 0 then
        some ((-1), h)
      else
      if (x1 &&& x2) = 0 then
        (F_J6_bitCount x2).bind fun q4 =>
        if q4 = q1 then
          if 8 < q1 then
            some ((-1), h)
          else
            (L_X0_across_53 n a0 x1 x2 0 0 h).bind fun q18 =>
            (pm_fR [(0, 14)] q18 a0).bind fun v19 =>
            (if pm_cl_ q18 a0 = some 0 then F_X0_pairings n q18 a0 v19 q1 else none).bind fun q20 =>
            some (q20.1, q20.2)
        else
          some ((-1), h)
      else
        some ((-1), h)
  else
    some ((-1), h)
theorem ok_F_X0_across {d n : Nat} {h : pm_H} {a0 : Nat} {x1 : Int32} {x2 : Int32} {q : Int32 × pm_H} (hF : F_X0_across n h a0 x1 x2 = some q) : pm_E (d + 2) 0 cX0_across (some .int) 0 [.ref a0, .int x1, .int x2, pm_D, pm_D, pm_D, pm_D, pm_D] [] h (some (.int q.1), q.2) := by
  unfold F_X0_across at hF
  refine pr_iload_n dX0_across_0 rfl ?_
  obtain ⟨q1, hq1, hF⟩ := po_b hF
  refine pr_S dX0_across_1 cs_0_214 (as := [.int x1]) (rest := []) rfl rfl rfl (lb rfl) (lb rfl) (lb rfl) (ok_F_J6_bitCount hq1) ?_
  refine pr_istore_n (L' := [.ref a0, .int x1, .int x2, .int q1, pm_D, pm_D, pm_D, pm_D]) dX0_across_4 rfl ?_
  refine pr_iload_n dX0_across_5 rfl ?_
  refine po_i hF (fun hc hF => ?_) (fun hc hF => ?_)
  · refine pr_ifF (tgt := 45) dX0_across_6 (by decide) (pc_leF hc) ?_
    refine pr_aload_n dX0_across_9 rfl ?_
    refine pr_iload_n dX0_across_10 rfl ?_
    obtain ⟨q2, hq2, hF⟩ := po_b hF
    refine po_i hq2 (fun hcl hq => ?_) (fun _ hq => nomatch hq)
    refine pr_V (as := [.int x1]) (rest := []) dX0_across_11 cv_0_220 hcl rfl rfl rfl rfl (lb rfl) (lb rfl) (lb rfl) (ok_F_X0_areTold hq) ?_
    refine po_i hF (fun hc hF => ?_) (fun hc hF => ?_)
    · refine pr_ifT (tgt := 45) dX0_across_14 (by decide) (pc_eqT hc) ?_
      refine pr_iconst (v := (-1)) dX0_across_45 (kc_m1) ?_
      cases hF
      exact pr_iret dX0_across_46 rfl rfl rfl
    · refine pr_ifF (tgt := 45) dX0_across_14 (by decide) (pc_eqF hc) ?_
      refine pr_aload_n dX0_across_17 rfl ?_
      refine pr_iload_n dX0_across_18 rfl ?_
      obtain ⟨q3, hq3, hF⟩ := po_b hF
      refine po_i hq3 (fun hcl hq => ?_) (fun _ hq => nomatch hq)
      refine pr_V (as := [.int x2]) (rest := []) dX0_across_19 cv_0_220 hcl rfl rfl rfl rfl (lb rfl) (lb rfl) (lb rfl) (ok_F_X0_areTold hq) ?_
      refine po_i hF (fun hc hF => ?_) (fun hc hF => ?_)
      · refine pr_ifT (tgt := 45) dX0_across_22 (by decide) (pc_eqT hc) ?_
        refine pr_iconst (v := (-1)) dX0_across_45 (kc_m1) ?_
        cases hF
        exact pr_iret dX0_across_46 rfl rfl rfl
      · refine pr_ifF (tgt := 45) dX0_across_22 (by decide) (pc_eqF hc) ?_
        refine pr_iload_n dX0_across_25 rfl ?_
        refine pr_iload_n dX0_across_26 rfl ?_
        refine pr_iand dX0_across_27 ?_
        refine po_i hF (fun hc hF => ?_) (fun hc hF => ?_)
        · refine pr_ifF (tgt := 45) dX0_across_28 (by decide) (pc_neF hc) ?_
          refine pr_iload_n dX0_across_31 rfl ?_
          obtain ⟨q4, hq4, hF⟩ := po_b hF
          refine pr_S dX0_across_32 cs_0_214 (as := [.int x2]) (rest := []) rfl rfl rfl (lb rfl) (lb rfl) (lb rfl) (ok_F_J6_bitCount hq4) ?_
          refine pr_iload_n dX0_across_35 rfl ?_
          refine po_i hF (fun hc hF => ?_) (fun hc hF => ?_)
          · refine pr_icF (tgt := 45) dX0_across_36 (by decide) (pc_neF hc) ?_
            refine pr_iload_n dX0_across_39 rfl ?_
            refine pr_bipush (v := 8) dX0_across_40 (kb_8) ?_
            refine po_i hF (fun hc hF => ?_) (fun hc hF => ?_)
            · refine pr_icF (tgt := 47) dX0_across_42 (by decide) (pc_leF hc) ?_
              refine pr_iconst (v := (-1)) dX0_across_45 (kc_m1) ?_
              cases hF
              exact pr_iret dX0_across_46 rfl rfl rfl
            · refine pr_icT (tgt := 47) dX0_across_42 (by decide) (pc_leT hc) ?_
              refine pr_iconst (v := 0) dX0_across_47 (kc_0) ?_
              refine pr_istore (L' := [.ref a0, .int x1, .int x2, .int q1, .int 0, pm_D, pm_D, pm_D]) dX0_across_48 rfl ?_
              refine pr_iconst (v := 0) dX0_across_50 (kc_0) ?_
              refine pr_istore (L' := [.ref a0, .int x1, .int x2, .int q1, .int 0, .int 0, pm_D, pm_D]) dX0_across_51 rfl ?_
              obtain ⟨q18, hq18, hF⟩ := po_b hF
              refine ok_L_X0_across_53 n hq18 rfl rfl rfl (fun z4 hz4 z5 hz5 z6 hz6 z7 hz7 => ?_)
              refine pr_aload_n dX0_across_159 rfl ?_
              refine pr_aload_n dX0_across_160 rfl ?_
              obtain ⟨v19, hv19, hF⟩ := po_b hF
              refine pr_getR dX0_across_161 tf_0_93 (hv19) ?_
              refine pr_iload_n dX0_across_164 rfl ?_
              obtain ⟨q20, hq20, hF⟩ := po_b hF
              refine po_i hq20 (fun hcl hq => ?_) (fun _ hq => nomatch hq)
              refine pr_V (as := [.ref v19, .int q1]) (rest := []) dX0_across_165 cv_0_250 hcl rfl rfl rfl rfl (lb rfl) (lb rfl) (lb rfl) (ok_F_X0_pairings hq) ?_
              cases hF
              exact pr_iret dX0_across_168 rfl rfl rfl
          · refine pr_icT (tgt := 45) dX0_across_36 (by decide) (pc_neT hc) ?_
            refine pr_iconst (v := (-1)) dX0_across_45 (kc_m1) ?_
            cases hF
            exact pr_iret dX0_across_46 rfl rfl rfl
        · refine pr_ifT (tgt := 45) dX0_across_28 (by decide) (pc_neT hc) ?_
          refine pr_iconst (v := (-1)) dX0_across_45 (kc_m1) ?_
          cases hF
          exact pr_iret dX0_across_46 rfl rfl rfl
  · refine pr_ifT (tgt := 45) dX0_across_6 (by decide) (pc_leT hc) ?_
    refine pr_iconst (v := (-1)) dX0_across_45 (kc_m1) ?_
    cases hF
    exact pr_iret dX0_across_46 rfl rfl rfl

def F_X0_madeEven (n : Nat) (h : pm_H) (a0 : Nat) (x1 : Int32) : Option (Int32) :=
  (pm_fR [(0, 0)] h a0).bind fun v1 =>
  (if pm_cl_ h v1 = some 1 then F_X1_isTold h v1 x1 else none).bind fun q2 =>
  if q2 = 0 then
    some (-1000000)
  else
    (pm_fR [(0, 3)] h a0).bind fun v3 =>
    (if pm_cl_ h v3 = some 3 then F_X4_favoursOf n h v3 x1 0 else none).bind fun q4 =>
    (pm_fR [(0, 3)] h a0).bind fun v5 =>
    (if pm_cl_ h v5 = some 3 then F_X4_favoursOf n h v5 x1 1 else none).bind fun q6 =>
    some (q4 - q6)
theorem ok_F_X0_madeEven {d n : Nat} {h : pm_H} {a0 : Nat} {x1 : Int32} {q : Int32} (hF : F_X0_madeEven n h a0 x1 = some q) : pm_E (d + 1) 0 cX0_madeEven (some .int) 0 [.ref a0, .int x1] [] h (some (.int q), h) := by
  unfold F_X0_madeEven at hF
  refine pr_aload_n dX0_madeEven_0 rfl ?_
  obtain ⟨v1, hv1, hF⟩ := po_b hF
  refine pr_getR dX0_madeEven_1 tf_0_16 (hv1) ?_
  refine pr_iload_n dX0_madeEven_4 rfl ?_
  obtain ⟨q2, hq2, hF⟩ := po_b hF
  refine po_i hq2 (fun hcl hq => ?_) (fun _ hq => nomatch hq)
  refine pr_V (as := [.int x1]) (rest := []) dX0_madeEven_5 cv_0_168 hcl rfl rfl rfl rfl (lb rfl) (lb rfl) (lb rfl) (ok_F_X1_isTold hq) ?_
  refine po_i hF (fun hc hF => ?_) (fun hc hF => ?_)
  · refine pr_ifT (tgt := 33) dX0_madeEven_8 (by decide) (pc_eqT hc) ?_
    refine pr_ldc (v := (-1000000)) dX0_madeEven_33 rfl ?_
    cases hF
    exact pr_iret dX0_madeEven_35 rfl rfl rfl
  · refine pr_ifF (tgt := 33) dX0_madeEven_8 (by decide) (pc_eqF hc) ?_
    refine pr_aload_n dX0_madeEven_11 rfl ?_
    obtain ⟨v3, hv3, hF⟩ := po_b hF
    refine pr_getR dX0_madeEven_12 tf_0_63 (hv3) ?_
    refine pr_iload_n dX0_madeEven_15 rfl ?_
    refine pr_iconst (v := 0) dX0_madeEven_16 (kc_0) ?_
    obtain ⟨q4, hq4, hF⟩ := po_b hF
    refine po_i hq4 (fun hcl hq => ?_) (fun _ hq => nomatch hq)
    refine pr_V (as := [.int x1, .int 0]) (rest := []) dX0_madeEven_17 cv_0_184 hcl rfl rfl rfl rfl (lb rfl) (lb rfl) (lb rfl) (ok_F_X4_favoursOf hq) ?_
    refine pr_aload_n dX0_madeEven_20 rfl ?_
    obtain ⟨v5, hv5, hF⟩ := po_b hF
    refine pr_getR dX0_madeEven_21 tf_0_63 (hv5) ?_
    refine pr_iload_n dX0_madeEven_24 rfl ?_
    refine pr_iconst (v := 1) dX0_madeEven_25 (kc_1) ?_
    obtain ⟨q6, hq6, hF⟩ := po_b hF
    refine po_i hq6 (fun hcl hq => ?_) (fun _ hq => nomatch hq)
    refine pr_V (as := [.int x1, .int 1]) (rest := [.int q4]) dX0_madeEven_26 cv_0_184 hcl rfl rfl rfl rfl (lb rfl) (lb rfl) (lb rfl) (ok_F_X4_favoursOf hq) ?_
    refine pr_isub dX0_madeEven_29 ?_
    refine pr_goto (tgt := 35) dX0_madeEven_30 (by decide) ?_
    cases hF
    exact pr_iret dX0_madeEven_35 rfl rfl rfl

def L_X0_mostOwed_5 : Nat → Nat → Int32 → Int32 → pm_H → Option (Int32)
  | 0, _, _, _, _ => none
  | n + 1, x0, x1, x2, h =>
    if x2 < 16 then
      (pm_fR [(0, 0)] h x0).bind fun v1 =>
      (if pm_cl_ h v1 = some 1 then F_X1_isTold h v1 x2 else none).bind fun q2 =>
      if q2 = 0 then
        L_X0_mostOwed_5 n x0 x1 (x2 + 1) h
      else
      if x1 = (-2) then
        L_X0_mostOwed_5 n x0 x2 (x2 + 1) h
      else
        (if pm_cl_ h x0 = some 0 then F_X0_madeEven n h x0 x2 else none).bind fun q3 =>
        (if pm_cl_ h x0 = some 0 then F_X0_madeEven n h x0 x1 else none).bind fun q4 =>
        if q4 < q3 then
          L_X0_mostOwed_5 n x0 x2 (x2 + 1) h
        else
          L_X0_mostOwed_5 n x0 x1 (x2 + 1) h
    else
      some x1
theorem ok_L_X0_mostOwed_5 {d : Nat} : ∀ (n : Nat) {x0 : Nat} {x1 : Int32} {x2 : Int32} {h : pm_H} {q : Int32} {res : Option Value × pm_H}, L_X0_mostOwed_5 n x0 x1 x2 h = some q → (∀ z2 : Value, pm_nolong z2 = true → pm_E (d + 2) 0 cX0_mostOwed (some .int) 49 [.ref x0, .int q, z2] [] h res) → pm_E (d + 2) 0 cX0_mostOwed (some .int) 5 [.ref x0, .int x1, .int x2] [] h res := by
  intro n
  induction n with
  | zero =>
    intro x0 x1 x2 h q res hF hk
    rw [L_X0_mostOwed_5] at hF
    cases hF
  | succ n ih =>
    intro x0 x1 x2 h q res hF hk
    rw [L_X0_mostOwed_5] at hF
    refine pr_iload_n dX0_mostOwed_5 rfl ?_
    refine pr_bipush (v := 16) dX0_mostOwed_6 (kb_16) ?_
    refine po_i hF (fun hc hF => ?_) (fun hc hF => ?_)
    · refine pr_icF (tgt := 49) dX0_mostOwed_8 (by decide) (pc_geF hc) ?_
      refine pr_aload_n dX0_mostOwed_11 rfl ?_
      obtain ⟨v1, hv1, hF⟩ := po_b hF
      refine pr_getR dX0_mostOwed_12 tf_0_16 (hv1) ?_
      refine pr_iload_n dX0_mostOwed_15 rfl ?_
      obtain ⟨q2, hq2, hF⟩ := po_b hF
      refine po_i hq2 (fun hcl hq => ?_) (fun _ hq => nomatch hq)
      refine pr_V (as := [.int x2]) (rest := []) dX0_mostOwed_16 cv_0_168 hcl rfl rfl rfl rfl (lb rfl) (lb rfl) (lb rfl) (ok_F_X1_isTold hq) ?_
      refine po_i hF (fun hc hF => ?_) (fun hc hF => ?_)
      · refine pr_ifT (tgt := 43) dX0_mostOwed_19 (by decide) (pc_eqT hc) ?_
        refine pr_iinc (v := 1) (L' := [.ref x0, .int x1, .int (x2 + 1)]) dX0_mostOwed_43 rfl (kc_1) rfl ?_
        refine pr_goto (tgt := 5) dX0_mostOwed_46 (by decide) ?_
        exact ih hF hk
      · refine pr_ifF (tgt := 43) dX0_mostOwed_19 (by decide) (pc_eqF hc) ?_
        refine pr_iload_n dX0_mostOwed_22 rfl ?_
        refine pr_bipush (v := (-2)) dX0_mostOwed_23 (kb_m2) ?_
        refine po_i hF (fun hc hF => ?_) (fun hc hF => ?_)
        · refine pr_icT (tgt := 41) dX0_mostOwed_25 (by decide) (pc_eqT hc) ?_
          refine pr_iload_n dX0_mostOwed_41 rfl ?_
          refine pr_istore_n (L' := [.ref x0, .int x2, .int x2]) dX0_mostOwed_42 rfl ?_
          refine pr_iinc (v := 1) (L' := [.ref x0, .int x2, .int (x2 + 1)]) dX0_mostOwed_43 rfl (kc_1) rfl ?_
          refine pr_goto (tgt := 5) dX0_mostOwed_46 (by decide) ?_
          exact ih hF hk
        · refine pr_icF (tgt := 41) dX0_mostOwed_25 (by decide) (pc_eqF hc) ?_
          refine pr_aload_n dX0_mostOwed_28 rfl ?_
          refine pr_iload_n dX0_mostOwed_29 rfl ?_
          obtain ⟨q3, hq3, hF⟩ := po_b hF
          refine po_i hq3 (fun hcl hq => ?_) (fun _ hq => nomatch hq)
          refine pr_V (as := [.int x2]) (rest := []) dX0_mostOwed_30 cv_0_255 hcl rfl rfl rfl rfl (lb rfl) (lb rfl) (lb rfl) (ok_F_X0_madeEven hq) ?_
          refine pr_aload_n dX0_mostOwed_33 rfl ?_
          refine pr_iload_n dX0_mostOwed_34 rfl ?_
          obtain ⟨q4, hq4, hF⟩ := po_b hF
          refine po_i hq4 (fun hcl hq => ?_) (fun _ hq => nomatch hq)
          refine pr_V (as := [.int x1]) (rest := [.int q3]) dX0_mostOwed_35 cv_0_255 hcl rfl rfl rfl rfl (lb rfl) (lb rfl) (lb rfl) (ok_F_X0_madeEven hq) ?_
          refine po_i hF (fun hc hF => ?_) (fun hc hF => ?_)
          · refine pr_icF (tgt := 43) dX0_mostOwed_38 (by decide) (pc_leF hc) ?_
            refine pr_iload_n dX0_mostOwed_41 rfl ?_
            refine pr_istore_n (L' := [.ref x0, .int x2, .int x2]) dX0_mostOwed_42 rfl ?_
            refine pr_iinc (v := 1) (L' := [.ref x0, .int x2, .int (x2 + 1)]) dX0_mostOwed_43 rfl (kc_1) rfl ?_
            refine pr_goto (tgt := 5) dX0_mostOwed_46 (by decide) ?_
            exact ih hF hk
          · refine pr_icT (tgt := 43) dX0_mostOwed_38 (by decide) (pc_leT hc) ?_
            refine pr_iinc (v := 1) (L' := [.ref x0, .int x1, .int (x2 + 1)]) dX0_mostOwed_43 rfl (kc_1) rfl ?_
            refine pr_goto (tgt := 5) dX0_mostOwed_46 (by decide) ?_
            exact ih hF hk
    · refine pr_icT (tgt := 49) dX0_mostOwed_8 (by decide) (pc_geT hc) ?_
      cases hF
      exact hk _ rfl
def F_X0_mostOwed (n : Nat) (h : pm_H) (a0 : Nat) : Option (Int32) :=
  (L_X0_mostOwed_5 n a0 (-2) 0 h).bind fun q5 =>
  some q5
theorem ok_F_X0_mostOwed {d n : Nat} {h : pm_H} {a0 : Nat} {q : Int32} (hF : F_X0_mostOwed n h a0 = some q) : pm_E (d + 2) 0 cX0_mostOwed (some .int) 0 [.ref a0, pm_D, pm_D] [] h (some (.int q), h) := by
  unfold F_X0_mostOwed at hF
  refine pr_bipush (v := (-2)) dX0_mostOwed_0 (kb_m2) ?_
  refine pr_istore_n (L' := [.ref a0, .int (-2), pm_D]) dX0_mostOwed_2 rfl ?_
  refine pr_iconst (v := 0) dX0_mostOwed_3 (kc_0) ?_
  refine pr_istore_n (L' := [.ref a0, .int (-2), .int 0]) dX0_mostOwed_4 rfl ?_
  obtain ⟨q5, hq5, hF⟩ := po_b hF
  refine ok_L_X0_mostOwed_5 n hq5 (fun z2 hz2 => ?_)
  refine pr_iload_n dX0_mostOwed_49 rfl ?_
  cases hF
  exact pr_iret dX0_mostOwed_50 rfl rfl rfl

def F_X0_fed (h : pm_H) (a0 : Nat) (x1 : Int32) : Option (Int32) :=
  (pm_fR [(0, 6)] h a0).bind fun v1 =>
  (pm_ai 1 h v1 x1).bind fun v2 =>
  some (v2 &&& 255)
theorem ok_F_X0_fed {d : Nat} {h : pm_H} {a0 : Nat} {x1 : Int32} {q : Int32} (hF : F_X0_fed h a0 x1 = some q) : pm_E (d + 0) 0 cX0_fed (some .int) 0 [.ref a0, .int x1] [] h (some (.int q), h) := by
  unfold F_X0_fed at hF
  refine pr_aload_n dX0_fed_0 rfl ?_
  obtain ⟨v1, hv1, hF⟩ := po_b hF
  refine pr_getR dX0_fed_1 tf_0_73 (hv1) ?_
  refine pr_iload_n dX0_fed_4 rfl ?_
  obtain ⟨v2, hv2, hF⟩ := po_b hF
  refine pr_bald dX0_fed_5 (hv2) ?_
  refine pr_sipush (v := 255) dX0_fed_6 (ks_255) ?_
  refine pr_iand dX0_fed_9 ?_
  cases hF
  exact pr_iret dX0_fed_10 rfl rfl rfl

def L_X0_hermit_50 : Nat → Nat → Int32 → Int32 → Int32 → pm_H → Option (Int32)
  | 0, _, _, _, _, _ => none
  | n + 1, x0, x2, x3, x4, h =>
    if x4 < x2 then
      (if pm_cl_ h x0 = some 0 then F_X0_fed h x0 (2 * x4) else none).bind fun q8 =>
      (if pm_cl_ h x0 = some 0 then F_X0_fed h x0 ((2 * x4) + 1) else none).bind fun q9 =>
      L_X0_hermit_50 n x0 x2 (x3 &&& (((pm_shl q8 8) ||| q9) ^^^ (-1))) (x4 + 1) h
    else
      some x3
theorem ok_L_X0_hermit_50 {d : Nat} : ∀ (n : Nat) {x0 : Nat} {x2 : Int32} {x3 : Int32} {x4 : Int32} {w1 : Value} {h : pm_H} {q : Int32} {res : Option Value × pm_H}, L_X0_hermit_50 n x0 x2 x3 x4 h = some q → pm_nolong w1 = true → (∀ z4 : Value, pm_nolong z4 = true → pm_E (d + 1) 0 cX0_hermit (some .int) 89 [.ref x0, w1, .int x2, .int q, z4] [] h res) → pm_E (d + 1) 0 cX0_hermit (some .int) 50 [.ref x0, w1, .int x2, .int x3, .int x4] [] h res := by
  intro n
  induction n with
  | zero =>
    intro x0 x2 x3 x4 w1 h q res hF hw1 hk
    rw [L_X0_hermit_50] at hF
    cases hF
  | succ n ih =>
    intro x0 x2 x3 x4 w1 h q res hF hw1 hk
    rw [L_X0_hermit_50] at hF
    refine pr_iload dX0_hermit_50 rfl ?_
    refine pr_iload_n dX0_hermit_52 rfl ?_
    refine po_i hF (fun hc hF => ?_) (fun hc hF => ?_)
    · refine pr_icF (tgt := 89) dX0_hermit_53 (by decide) (pc_geF hc) ?_
      refine pr_iload_n dX0_hermit_56 rfl ?_
      refine pr_aload_n dX0_hermit_57 rfl ?_
      refine pr_iconst (v := 2) dX0_hermit_58 (kc_2) ?_
      refine pr_iload dX0_hermit_59 rfl ?_
      refine pr_imul dX0_hermit_61 ?_
      obtain ⟨q8, hq8, hF⟩ := po_b hF
      refine po_i hq8 (fun hcl hq => ?_) (fun _ hq => nomatch hq)
      refine pr_V (as := [.int (2 * x4)]) (rest := [.int x3]) dX0_hermit_62 cv_0_258 hcl rfl rfl rfl rfl (lb rfl) (lb rfl) (lb rfl) (ok_F_X0_fed hq) ?_
      refine pr_bipush (v := 8) dX0_hermit_65 (kb_8) ?_
      refine pr_ishl dX0_hermit_67 ?_
      refine pr_aload_n dX0_hermit_68 rfl ?_
      refine pr_iconst (v := 2) dX0_hermit_69 (kc_2) ?_
      refine pr_iload dX0_hermit_70 rfl ?_
      refine pr_imul dX0_hermit_72 ?_
      refine pr_iconst (v := 1) dX0_hermit_73 (kc_1) ?_
      refine pr_iadd dX0_hermit_74 ?_
      obtain ⟨q9, hq9, hF⟩ := po_b hF
      refine po_i hq9 (fun hcl hq => ?_) (fun _ hq => nomatch hq)
      refine pr_V (as := [.int ((2 * x4) + 1)]) (rest := [.int (pm_shl q8 8), .int x3]) dX0_hermit_75 cv_0_258 hcl rfl rfl rfl rfl (lb rfl) (lb rfl) (lb rfl) (ok_F_X0_fed hq) ?_
      refine pr_ior dX0_hermit_78 ?_
      refine pr_iconst (v := (-1)) dX0_hermit_79 (kc_m1) ?_
      refine pr_ixor dX0_hermit_80 ?_
      refine pr_iand dX0_hermit_81 ?_
      refine pr_istore_n (L' := [.ref x0, w1, .int x2, .int (x3 &&& (((pm_shl q8 8) ||| q9) ^^^ (-1))), .int x4]) dX0_hermit_82 rfl ?_
      refine pr_iinc (v := 1) (L' := [.ref x0, w1, .int x2, .int (x3 &&& (((pm_shl q8 8) ||| q9) ^^^ (-1))), .int (x4 + 1)]) dX0_hermit_83 rfl (kc_1) rfl ?_
      refine pr_goto (tgt := 50) dX0_hermit_86 (by decide) ?_
      exact ih hF hw1 hk
    · refine pr_icT (tgt := 89) dX0_hermit_53 (by decide) (pc_geT hc) ?_
      cases hF
      exact hk _ rfl
def F_X0_hermit (n : Nat) (h : pm_H) (a0 : Nat) (x1 : Int32) (x2 : Int32) : Option (Int32 × pm_H) :=
  (pm_fR [(0, 0)] h a0).bind fun v1 =>
  (if pm_cl_ h v1 = some 1 then F_X1_isTold h v1 x1 else none).bind fun q2 =>
  if q2 = 0 then
    some ((-1), h)
  else
    (F_X0_within x2 1 8).bind fun q3 =>
    if q3 = 0 then
      some ((-1), h)
    else
      (pm_fI [(0, 8)] h a0).bind fun v4 =>
      if v4 < (2 * x2) then
        some ((-1), h)
      else
        (pm_put [(0, 8, 0)] h a0 (.int 0)).bind fun h5 =>
        (pm_fR [(0, 0)] h5 a0).bind fun v6 =>
        (if pm_cl_ h5 v6 = some 1 then F_X1_friends h5 v6 x1 else none).bind fun q7 =>
        (L_X0_hermit_50 n a0 x2 q7 0 h5).bind fun q10 =>
        some (q10, h5)
theorem ok_F_X0_hermit {d n : Nat} {h : pm_H} {a0 : Nat} {x1 : Int32} {x2 : Int32} {q : Int32 × pm_H} (hF : F_X0_hermit n h a0 x1 x2 = some q) : pm_E (d + 1) 0 cX0_hermit (some .int) 0 [.ref a0, .int x1, .int x2, pm_D, pm_D] [] h (some (.int q.1), q.2) := by
  unfold F_X0_hermit at hF
  refine pr_aload_n dX0_hermit_0 rfl ?_
  obtain ⟨v1, hv1, hF⟩ := po_b hF
  refine pr_getR dX0_hermit_1 tf_0_16 (hv1) ?_
  refine pr_iload_n dX0_hermit_4 rfl ?_
  obtain ⟨q2, hq2, hF⟩ := po_b hF
  refine po_i hq2 (fun hcl hq => ?_) (fun _ hq => nomatch hq)
  refine pr_V (as := [.int x1]) (rest := []) dX0_hermit_5 cv_0_168 hcl rfl rfl rfl rfl (lb rfl) (lb rfl) (lb rfl) (ok_F_X1_isTold hq) ?_
  refine po_i hF (fun hc hF => ?_) (fun hc hF => ?_)
  · refine pr_ifT (tgt := 31) dX0_hermit_8 (by decide) (pc_eqT hc) ?_
    refine pr_iconst (v := (-1)) dX0_hermit_31 (kc_m1) ?_
    cases hF
    exact pr_iret dX0_hermit_32 rfl rfl rfl
  · refine pr_ifF (tgt := 31) dX0_hermit_8 (by decide) (pc_eqF hc) ?_
    refine pr_iload_n dX0_hermit_11 rfl ?_
    refine pr_iconst (v := 1) dX0_hermit_12 (kc_1) ?_
    refine pr_bipush (v := 8) dX0_hermit_13 (kb_8) ?_
    obtain ⟨q3, hq3, hF⟩ := po_b hF
    refine pr_S dX0_hermit_15 cs_0_120 (as := [.int x2, .int 1, .int 8]) (rest := []) rfl rfl rfl (lb rfl) (lb rfl) (lb rfl) (ok_F_X0_within hq3) ?_
    refine po_i hF (fun hc hF => ?_) (fun hc hF => ?_)
    · refine pr_ifT (tgt := 31) dX0_hermit_18 (by decide) (pc_eqT hc) ?_
      refine pr_iconst (v := (-1)) dX0_hermit_31 (kc_m1) ?_
      cases hF
      exact pr_iret dX0_hermit_32 rfl rfl rfl
    · refine pr_ifF (tgt := 31) dX0_hermit_18 (by decide) (pc_eqF hc) ?_
      refine pr_iconst (v := 2) dX0_hermit_21 (kc_2) ?_
      refine pr_iload_n dX0_hermit_22 rfl ?_
      refine pr_imul dX0_hermit_23 ?_
      refine pr_aload_n dX0_hermit_24 rfl ?_
      obtain ⟨v4, hv4, hF⟩ := po_b hF
      refine pr_getI dX0_hermit_25 tf_0_113 (hv4) ?_
      refine po_i hF (fun hc hF => ?_) (fun hc hF => ?_)
      · refine pr_icF (tgt := 33) dX0_hermit_28 (by decide) (pc_leF hc) ?_
        refine pr_iconst (v := (-1)) dX0_hermit_31 (kc_m1) ?_
        cases hF
        exact pr_iret dX0_hermit_32 rfl rfl rfl
      · refine pr_icT (tgt := 33) dX0_hermit_28 (by decide) (pc_leT hc) ?_
        refine pr_aload_n dX0_hermit_33 rfl ?_
        refine pr_iconst (v := 0) dX0_hermit_34 (kc_0) ?_
        obtain ⟨h5, hh5, hF⟩ := po_b hF
        refine pr_put dX0_hermit_35 tp_0_113 (hh5) ?_
        refine pr_aload_n dX0_hermit_38 rfl ?_
        obtain ⟨v6, hv6, hF⟩ := po_b hF
        refine pr_getR dX0_hermit_39 tf_0_16 (hv6) ?_
        refine pr_iload_n dX0_hermit_42 rfl ?_
        obtain ⟨q7, hq7, hF⟩ := po_b hF
        refine po_i hq7 (fun hcl hq => ?_) (fun _ hq => nomatch hq)
        refine pr_V (as := [.int x1]) (rest := []) dX0_hermit_43 cv_0_200 hcl rfl rfl rfl rfl (lb rfl) (lb rfl) (lb rfl) (ok_F_X1_friends hq) ?_
        refine pr_istore_n (L' := [.ref a0, .int x1, .int x2, .int q7, pm_D]) dX0_hermit_46 rfl ?_
        refine pr_iconst (v := 0) dX0_hermit_47 (kc_0) ?_
        refine pr_istore (L' := [.ref a0, .int x1, .int x2, .int q7, .int 0]) dX0_hermit_48 rfl ?_
        obtain ⟨q10, hq10, hF⟩ := po_b hF
        refine ok_L_X0_hermit_50 n hq10 rfl (fun z4 hz4 => ?_)
        refine pr_iload_n dX0_hermit_89 rfl ?_
        cases hF
        exact pr_iret dX0_hermit_90 rfl rfl rfl

def L_X0_burglar_35 : Nat → Nat → Int32 → Int32 → Int32 → pm_H → Option ((Int32 × pm_H) ⊕ (Int32))
  | 0, _, _, _, _, _ => none
  | n + 1, x0, x1, x2, x3, h =>
    if x3 < x1 then
      (pm_fR [(0, 0)] h x0).bind fun v6 =>
      (if pm_cl_ h x0 = some 0 then F_X0_fed h x0 x3 else none).bind fun q7 =>
      (if pm_cl_ h v6 = some 1 then F_X1_isTold h v6 q7 else none).bind fun q8 =>
      if q8 = 0 then
        some (.inl ((-3), h))
      else
        (if pm_cl_ h x0 = some 0 then F_X0_fed h x0 x3 else none).bind fun q9 =>
        L_X0_burglar_35 n x0 x1 (x2 &&& ((pm_shl 1 q9) ^^^ (-1))) (x3 + 1) h
    else
      some (.inr x2)
theorem ok_L_X0_burglar_35 {d : Nat} : ∀ (n : Nat) {x0 : Nat} {x1 : Int32} {x2 : Int32} {x3 : Int32} {h : pm_H} {q : (Int32 × pm_H) ⊕ (Int32)} {res : Option Value × pm_H}, L_X0_burglar_35 n x0 x1 x2 x3 h = some q → (∀ r, q = .inl r → res = (some (.int r.1), r.2)) → (∀ e, q = .inr e → ∀ z3 : Value, pm_nolong z3 = true → pm_E (d + 1) 0 cX0_burglar (some .int) 76 [.ref x0, .int x1, .int e, z3] [] h res) → pm_E (d + 1) 0 cX0_burglar (some .int) 35 [.ref x0, .int x1, .int x2, .int x3] [] h res := by
  intro n
  induction n with
  | zero =>
    intro x0 x1 x2 x3 h q res hF hr hk
    rw [L_X0_burglar_35] at hF
    cases hF
  | succ n ih =>
    intro x0 x1 x2 x3 h q res hF hr hk
    rw [L_X0_burglar_35] at hF
    refine pr_iload_n dX0_burglar_35 rfl ?_
    refine pr_iload_n dX0_burglar_36 rfl ?_
    refine po_i hF (fun hc hF => ?_) (fun hc hF => ?_)
    · refine pr_icF (tgt := 76) dX0_burglar_37 (by decide) (pc_geF hc) ?_
      refine pr_aload_n dX0_burglar_40 rfl ?_
      obtain ⟨v6, hv6, hF⟩ := po_b hF
      refine pr_getR dX0_burglar_41 tf_0_16 (hv6) ?_
      refine pr_aload_n dX0_burglar_44 rfl ?_
      refine pr_iload_n dX0_burglar_45 rfl ?_
      obtain ⟨q7, hq7, hF⟩ := po_b hF
      refine po_i hq7 (fun hcl hq => ?_) (fun _ hq => nomatch hq)
      refine pr_V (as := [.int x3]) (rest := [.ref v6]) dX0_burglar_46 cv_0_258 hcl rfl rfl rfl rfl (lb rfl) (lb rfl) (lb rfl) (ok_F_X0_fed hq) ?_
      obtain ⟨q8, hq8, hF⟩ := po_b hF
      refine po_i hq8 (fun hcl hq => ?_) (fun _ hq => nomatch hq)
      refine pr_V (as := [.int q7]) (rest := []) dX0_burglar_49 cv_0_168 hcl rfl rfl rfl rfl (lb rfl) (lb rfl) (lb rfl) (ok_F_X1_isTold hq) ?_
      refine po_i hF (fun hc hF => ?_) (fun hc hF => ?_)
      · refine pr_ifF (tgt := 58) dX0_burglar_52 (by decide) (pc_neF hc) ?_
        refine pr_bipush (v := (-3)) dX0_burglar_55 (kb_m3) ?_
        cases hF
        exact pr_iret dX0_burglar_57 rfl rfl (hr _ rfl)
      · refine pr_ifT (tgt := 58) dX0_burglar_52 (by decide) (pc_neT hc) ?_
        refine pr_iload_n dX0_burglar_58 rfl ?_
        refine pr_iconst (v := 1) dX0_burglar_59 (kc_1) ?_
        refine pr_aload_n dX0_burglar_60 rfl ?_
        refine pr_iload_n dX0_burglar_61 rfl ?_
        obtain ⟨q9, hq9, hF⟩ := po_b hF
        refine po_i hq9 (fun hcl hq => ?_) (fun _ hq => nomatch hq)
        refine pr_V (as := [.int x3]) (rest := [.int 1, .int x2]) dX0_burglar_62 cv_0_258 hcl rfl rfl rfl rfl (lb rfl) (lb rfl) (lb rfl) (ok_F_X0_fed hq) ?_
        refine pr_ishl dX0_burglar_65 ?_
        refine pr_iconst (v := (-1)) dX0_burglar_66 (kc_m1) ?_
        refine pr_ixor dX0_burglar_67 ?_
        refine pr_iand dX0_burglar_68 ?_
        refine pr_istore_n (L' := [.ref x0, .int x1, .int (x2 &&& ((pm_shl 1 q9) ^^^ (-1))), .int x3]) dX0_burglar_69 rfl ?_
        refine pr_iinc (v := 1) (L' := [.ref x0, .int x1, .int (x2 &&& ((pm_shl 1 q9) ^^^ (-1))), .int (x3 + 1)]) dX0_burglar_70 rfl (kc_1) rfl ?_
        refine pr_goto (tgt := 35) dX0_burglar_73 (by decide) ?_
        exact ih hF hr hk
    · refine pr_icT (tgt := 76) dX0_burglar_37 (by decide) (pc_geT hc) ?_
      cases hF
      exact hk _ rfl _ rfl
def F_X0_burglar (n : Nat) (h : pm_H) (a0 : Nat) (x1 : Int32) : Option (Int32 × pm_H) :=
  (F_X0_within x1 1 10).bind fun q1 =>
  if q1 = 0 then
    some ((-1), h)
  else
    (pm_fI [(0, 8)] h a0).bind fun v2 =>
    if v2 < x1 then
      some ((-1), h)
    else
      (pm_put [(0, 8, 0)] h a0 (.int 0)).bind fun h3 =>
      (pm_fR [(0, 0)] h3 a0).bind fun v4 =>
      (pm_fI [(1, 2)] h3 v4).bind fun v5 =>
      (L_X0_burglar_35 n a0 x1 v5 0 h3).bind fun q10 => po_s q10 (fun r => some r) fun e11 =>
      some (e11, h3)
theorem ok_F_X0_burglar {d n : Nat} {h : pm_H} {a0 : Nat} {x1 : Int32} {q : Int32 × pm_H} (hF : F_X0_burglar n h a0 x1 = some q) : pm_E (d + 1) 0 cX0_burglar (some .int) 0 [.ref a0, .int x1, pm_D, pm_D] [] h (some (.int q.1), q.2) := by
  unfold F_X0_burglar at hF
  refine pr_iload_n dX0_burglar_0 rfl ?_
  refine pr_iconst (v := 1) dX0_burglar_1 (kc_1) ?_
  refine pr_bipush (v := 10) dX0_burglar_2 (kb_10) ?_
  obtain ⟨q1, hq1, hF⟩ := po_b hF
  refine pr_S dX0_burglar_4 cs_0_120 (as := [.int x1, .int 1, .int 10]) (rest := []) rfl rfl rfl (lb rfl) (lb rfl) (lb rfl) (ok_F_X0_within hq1) ?_
  refine po_i hF (fun hc hF => ?_) (fun hc hF => ?_)
  · refine pr_ifT (tgt := 18) dX0_burglar_7 (by decide) (pc_eqT hc) ?_
    refine pr_iconst (v := (-1)) dX0_burglar_18 (kc_m1) ?_
    cases hF
    exact pr_iret dX0_burglar_19 rfl rfl rfl
  · refine pr_ifF (tgt := 18) dX0_burglar_7 (by decide) (pc_eqF hc) ?_
    refine pr_iload_n dX0_burglar_10 rfl ?_
    refine pr_aload_n dX0_burglar_11 rfl ?_
    obtain ⟨v2, hv2, hF⟩ := po_b hF
    refine pr_getI dX0_burglar_12 tf_0_113 (hv2) ?_
    refine po_i hF (fun hc hF => ?_) (fun hc hF => ?_)
    · refine pr_icF (tgt := 20) dX0_burglar_15 (by decide) (pc_leF hc) ?_
      refine pr_iconst (v := (-1)) dX0_burglar_18 (kc_m1) ?_
      cases hF
      exact pr_iret dX0_burglar_19 rfl rfl rfl
    · refine pr_icT (tgt := 20) dX0_burglar_15 (by decide) (pc_leT hc) ?_
      refine pr_aload_n dX0_burglar_20 rfl ?_
      refine pr_iconst (v := 0) dX0_burglar_21 (kc_0) ?_
      obtain ⟨h3, hh3, hF⟩ := po_b hF
      refine pr_put dX0_burglar_22 tp_0_113 (hh3) ?_
      refine pr_aload_n dX0_burglar_25 rfl ?_
      obtain ⟨v4, hv4, hF⟩ := po_b hF
      refine pr_getR dX0_burglar_26 tf_0_16 (hv4) ?_
      obtain ⟨v5, hv5, hF⟩ := po_b hF
      refine pr_getI dX0_burglar_29 tf_0_22 (hv5) ?_
      refine pr_istore_n (L' := [.ref a0, .int x1, .int v5, pm_D]) dX0_burglar_32 rfl ?_
      refine pr_iconst (v := 0) dX0_burglar_33 (kc_0) ?_
      refine pr_istore_n (L' := [.ref a0, .int x1, .int v5, .int 0]) dX0_burglar_34 rfl ?_
      obtain ⟨q10, hq10, hF⟩ := po_b hF
      refine ok_L_X0_burglar_35 n hq10 (fun r hq => ?_) (fun e11 hq z3 hz3 => ?_)
      · subst hq
        replace hF := po_sl hF
        cases hF
        exact rfl
      subst hq
      replace hF := po_sr hF
      refine pr_iload_n dX0_burglar_76 rfl ?_
      cases hF
      exact pr_iret dX0_burglar_77 rfl rfl rfl

def L_X0_sorts_9 : Nat → Nat → Int32 → Int32 → pm_H → Option (Int32 × pm_H)
  | 0, _, _, _, _ => none
  | n + 1, x0, x2, x3, h =>
    if 0 < x3 then
      (pm_fR [(0, 15)] h x0).bind fun v1 =>
      (pm_ai 0 h v1 (x3 - 1)).bind fun v2 =>
      (if pm_cl_ h x0 = some 0 then F_X0_fed h x0 (2 * v2) else none).bind fun q3 =>
      (if pm_cl_ h x0 = some 0 then F_X0_fed h x0 (2 * x2) else none).bind fun q4 =>
      if q4 < q3 then
        (pm_fR [(0, 15)] h x0).bind fun v5 =>
        (pm_fR [(0, 15)] h x0).bind fun v6 =>
        (pm_ai 0 h v6 (x3 - 1)).bind fun v7 =>
        (pm_si 0 h v5 x3 v7).bind fun h8 =>
        L_X0_sorts_9 n x0 x2 (x3 + (-1)) h8
      else
        some (x3, h)
    else
      some (x3, h)
theorem ok_L_X0_sorts_9 {d : Nat} : ∀ (n : Nat) {x0 : Nat} {x2 : Int32} {x3 : Int32} {w1 : Value} {h : pm_H} {q : Int32 × pm_H} {res : Option Value × pm_H}, L_X0_sorts_9 n x0 x2 x3 h = some q → pm_nolong w1 = true → (pm_E (d + 1) 0 cX0_sorts (none) 57 [.ref x0, w1, .int x2, .int q.1] [] q.2 res) → pm_E (d + 1) 0 cX0_sorts (none) 9 [.ref x0, w1, .int x2, .int x3] [] h res := by
  intro n
  induction n with
  | zero =>
    intro x0 x2 x3 w1 h q res hF hw1 hk
    rw [L_X0_sorts_9] at hF
    cases hF
  | succ n ih =>
    intro x0 x2 x3 w1 h q res hF hw1 hk
    rw [L_X0_sorts_9] at hF
    refine pr_iload_n dX0_sorts_9 rfl ?_
    refine po_i hF (fun hc hF => ?_) (fun hc hF => ?_)
    · refine pr_ifF (tgt := 57) dX0_sorts_10 (by decide) (pc_leF hc) ?_
      refine pr_aload_n dX0_sorts_13 rfl ?_
      refine pr_iconst (v := 2) dX0_sorts_14 (kc_2) ?_
      refine pr_aload_n dX0_sorts_15 rfl ?_
      obtain ⟨v1, hv1, hF⟩ := po_b hF
      refine pr_getR dX0_sorts_16 tf_0_96 (hv1) ?_
      refine pr_iload_n dX0_sorts_19 rfl ?_
      refine pr_iconst (v := 1) dX0_sorts_20 (kc_1) ?_
      refine pr_isub dX0_sorts_21 ?_
      obtain ⟨v2, hv2, hF⟩ := po_b hF
      refine pr_iald dX0_sorts_22 (hv2) ?_
      refine pr_imul dX0_sorts_23 ?_
      obtain ⟨q3, hq3, hF⟩ := po_b hF
      refine po_i hq3 (fun hcl hq => ?_) (fun _ hq => nomatch hq)
      refine pr_V (as := [.int (2 * v2)]) (rest := []) dX0_sorts_24 cv_0_258 hcl rfl rfl rfl rfl (lb rfl) (lb rfl) (lb rfl) (ok_F_X0_fed hq) ?_
      refine pr_aload_n dX0_sorts_27 rfl ?_
      refine pr_iconst (v := 2) dX0_sorts_28 (kc_2) ?_
      refine pr_iload_n dX0_sorts_29 rfl ?_
      refine pr_imul dX0_sorts_30 ?_
      obtain ⟨q4, hq4, hF⟩ := po_b hF
      refine po_i hq4 (fun hcl hq => ?_) (fun _ hq => nomatch hq)
      refine pr_V (as := [.int (2 * x2)]) (rest := [.int q3]) dX0_sorts_31 cv_0_258 hcl rfl rfl rfl rfl (lb rfl) (lb rfl) (lb rfl) (ok_F_X0_fed hq) ?_
      refine po_i hF (fun hc hF => ?_) (fun hc hF => ?_)
      · refine pr_icF (tgt := 57) dX0_sorts_34 (by decide) (pc_leF hc) ?_
        refine pr_aload_n dX0_sorts_37 rfl ?_
        obtain ⟨v5, hv5, hF⟩ := po_b hF
        refine pr_getR dX0_sorts_38 tf_0_96 (hv5) ?_
        refine pr_iload_n dX0_sorts_41 rfl ?_
        refine pr_aload_n dX0_sorts_42 rfl ?_
        obtain ⟨v6, hv6, hF⟩ := po_b hF
        refine pr_getR dX0_sorts_43 tf_0_96 (hv6) ?_
        refine pr_iload_n dX0_sorts_46 rfl ?_
        refine pr_iconst (v := 1) dX0_sorts_47 (kc_1) ?_
        refine pr_isub dX0_sorts_48 ?_
        obtain ⟨v7, hv7, hF⟩ := po_b hF
        refine pr_iald dX0_sorts_49 (hv7) ?_
        obtain ⟨h8, hh8, hF⟩ := po_b hF
        refine pr_iast dX0_sorts_50 (hh8) ?_
        refine pr_iinc (v := (-1)) (L' := [.ref x0, w1, .int x2, .int (x3 + (-1))]) dX0_sorts_51 rfl (kc_m1) rfl ?_
        refine pr_goto (tgt := 9) dX0_sorts_54 (by decide) ?_
        exact ih hF hw1 hk
      · refine pr_icT (tgt := 57) dX0_sorts_34 (by decide) (pc_leT hc) ?_
        cases hF
        exact hk
    · refine pr_ifT (tgt := 57) dX0_sorts_10 (by decide) (pc_leT hc) ?_
      cases hF
      exact hk
def L_X0_sorts_2 : Nat → Nat → Int32 → Int32 → pm_H → Option (pm_H)
  | 0, _, _, _, _ => none
  | n + 1, x0, x1, x2, h =>
    if x2 < x1 then
      (L_X0_sorts_9 n x0 x2 x2 h).bind fun q9 =>
      (pm_fR [(0, 15)] q9.2 x0).bind fun v10 =>
      (pm_si 0 q9.2 v10 q9.1 x2).bind fun h11 =>
      L_X0_sorts_2 n x0 x1 (x2 + 1) h11
    else
      some h
theorem ok_L_X0_sorts_2 {d : Nat} : ∀ (n : Nat) {x0 : Nat} {x1 : Int32} {x2 : Int32} {w3 : Value} {h : pm_H} {q : pm_H} {res : Option Value × pm_H}, L_X0_sorts_2 n x0 x1 x2 h = some q → pm_nolong w3 = true → (∀ z2 : Value, pm_nolong z2 = true → ∀ z3 : Value, pm_nolong z3 = true → pm_E (d + 1) 0 cX0_sorts (none) 70 [.ref x0, .int x1, z2, z3] [] q res) → pm_E (d + 1) 0 cX0_sorts (none) 2 [.ref x0, .int x1, .int x2, w3] [] h res := by
  intro n
  induction n with
  | zero =>
    intro x0 x1 x2 w3 h q res hF hw3 hk
    rw [L_X0_sorts_2] at hF
    cases hF
  | succ n ih =>
    intro x0 x1 x2 w3 h q res hF hw3 hk
    rw [L_X0_sorts_2] at hF
    refine pr_iload_n dX0_sorts_2 rfl ?_
    refine pr_iload_n dX0_sorts_3 rfl ?_
    refine po_i hF (fun hc hF => ?_) (fun hc hF => ?_)
    · refine pr_icF (tgt := 70) dX0_sorts_4 (by decide) (pc_geF hc) ?_
      refine pr_iload_n dX0_sorts_7 rfl ?_
      refine pr_istore_n (L' := [.ref x0, .int x1, .int x2, .int x2]) dX0_sorts_8 rfl ?_
      obtain ⟨q9, hq9, hF⟩ := po_b hF
      refine ok_L_X0_sorts_9 n hq9 rfl ?_
      refine pr_aload_n dX0_sorts_57 rfl ?_
      obtain ⟨v10, hv10, hF⟩ := po_b hF
      refine pr_getR dX0_sorts_58 tf_0_96 (hv10) ?_
      refine pr_iload_n dX0_sorts_61 rfl ?_
      refine pr_iload_n dX0_sorts_62 rfl ?_
      obtain ⟨h11, hh11, hF⟩ := po_b hF
      refine pr_iast dX0_sorts_63 (hh11) ?_
      refine pr_iinc (v := 1) (L' := [.ref x0, .int x1, .int (x2 + 1), .int q9.1]) dX0_sorts_64 rfl (kc_1) rfl ?_
      refine pr_goto (tgt := 2) dX0_sorts_67 (by decide) ?_
      exact ih hF rfl hk
    · refine pr_icT (tgt := 70) dX0_sorts_4 (by decide) (pc_geT hc) ?_
      cases hF
      exact hk _ rfl _ hw3
def F_X0_sorts (n : Nat) (h : pm_H) (a0 : Nat) (x1 : Int32) : Option (pm_H) :=
  (L_X0_sorts_2 n a0 x1 0 h).bind fun q12 =>
  some q12
theorem ok_F_X0_sorts {d n : Nat} {h : pm_H} {a0 : Nat} {x1 : Int32} {q : pm_H} (hF : F_X0_sorts n h a0 x1 = some q) : pm_E (d + 1) 0 cX0_sorts (none) 0 [.ref a0, .int x1, pm_D, pm_D] [] h (none, q) := by
  unfold F_X0_sorts at hF
  refine pr_iconst (v := 0) dX0_sorts_0 (kc_0) ?_
  refine pr_istore_n (L' := [.ref a0, .int x1, .int 0, pm_D]) dX0_sorts_1 rfl ?_
  obtain ⟨q12, hq12, hF⟩ := po_b hF
  refine ok_L_X0_sorts_2 n hq12 rfl (fun z2 hz2 z3 hz3 => ?_)
  cases hF
  exact pr_vret dX0_sorts_70 rfl rfl

def F_X0_houseAt (h : pm_H) (a0 : Nat) (x1 : Int32) : Option (Int32) :=
  (pm_fR [(0, 15)] h a0).bind fun v1 =>
  (pm_ai 0 h v1 x1).bind fun v2 =>
  (if pm_cl_ h a0 = some 0 then F_X0_fed h a0 (2 * v2) else none).bind fun q3 =>
  some q3
theorem ok_F_X0_houseAt {d : Nat} {h : pm_H} {a0 : Nat} {x1 : Int32} {q : Int32} (hF : F_X0_houseAt h a0 x1 = some q) : pm_E (d + 1) 0 cX0_houseAt (some .int) 0 [.ref a0, .int x1] [] h (some (.int q), h) := by
  unfold F_X0_houseAt at hF
  refine pr_aload_n dX0_houseAt_0 rfl ?_
  refine pr_iconst (v := 2) dX0_houseAt_1 (kc_2) ?_
  refine pr_aload_n dX0_houseAt_2 rfl ?_
  obtain ⟨v1, hv1, hF⟩ := po_b hF
  refine pr_getR dX0_houseAt_3 tf_0_96 (hv1) ?_
  refine pr_iload_n dX0_houseAt_6 rfl ?_
  obtain ⟨v2, hv2, hF⟩ := po_b hF
  refine pr_iald dX0_houseAt_7 (hv2) ?_
  refine pr_imul dX0_houseAt_8 ?_
  obtain ⟨q3, hq3, hF⟩ := po_b hF
  refine po_i hq3 (fun hcl hq => ?_) (fun _ hq => nomatch hq)
  refine pr_V (as := [.int (2 * v2)]) (rest := []) dX0_houseAt_9 cv_0_258 hcl rfl rfl rfl rfl (lb rfl) (lb rfl) (lb rfl) (ok_F_X0_fed hq) ?_
  cases hF
  exact pr_iret dX0_houseAt_12 rfl rfl rfl

def F_X0_inTime (h : pm_H) (a0 : Nat) (x1 : Int32) (x2 : Int32) : Option (Int32) :=
  (pm_fR [(0, 15)] h a0).bind fun v1 =>
  (pm_ai 0 h v1 x2).bind fun v2 =>
  (if pm_cl_ h a0 = some 0 then F_X0_fed h a0 ((2 * v2) + 1) else none).bind fun q3 =>
  if q3 < x1 then
    some 268435456
  else
    some x1
theorem ok_F_X0_inTime {d : Nat} {h : pm_H} {a0 : Nat} {x1 : Int32} {x2 : Int32} {q : Int32} (hF : F_X0_inTime h a0 x1 x2 = some q) : pm_E (d + 1) 0 cX0_inTime (some .int) 0 [.ref a0, .int x1, .int x2] [] h (some (.int q), h) := by
  unfold F_X0_inTime at hF
  refine pr_iload_n dX0_inTime_0 rfl ?_
  refine pr_aload_n dX0_inTime_1 rfl ?_
  refine pr_iconst (v := 2) dX0_inTime_2 (kc_2) ?_
  refine pr_aload_n dX0_inTime_3 rfl ?_
  obtain ⟨v1, hv1, hF⟩ := po_b hF
  refine pr_getR dX0_inTime_4 tf_0_96 (hv1) ?_
  refine pr_iload_n dX0_inTime_7 rfl ?_
  obtain ⟨v2, hv2, hF⟩ := po_b hF
  refine pr_iald dX0_inTime_8 (hv2) ?_
  refine pr_imul dX0_inTime_9 ?_
  refine pr_iconst (v := 1) dX0_inTime_10 (kc_1) ?_
  refine pr_iadd dX0_inTime_11 ?_
  obtain ⟨q3, hq3, hF⟩ := po_b hF
  refine po_i hq3 (fun hcl hq => ?_) (fun _ hq => nomatch hq)
  refine pr_V (as := [.int ((2 * v2) + 1)]) (rest := [.int x1]) dX0_inTime_12 cv_0_258 hcl rfl rfl rfl rfl (lb rfl) (lb rfl) (lb rfl) (ok_F_X0_fed hq) ?_
  refine po_i hF (fun hc hF => ?_) (fun hc hF => ?_)
  · refine pr_icF (tgt := 24) dX0_inTime_15 (by decide) (pc_leF hc) ?_
    refine pr_ldc_w (v := 268435456) dX0_inTime_18 rfl ?_
    refine pr_goto (tgt := 25) dX0_inTime_21 (by decide) ?_
    cases hF
    exact pr_iret dX0_inTime_25 rfl rfl rfl
  · refine pr_icT (tgt := 24) dX0_inTime_15 (by decide) (pc_leT hc) ?_
    refine pr_iload_n dX0_inTime_24 rfl ?_
    cases hF
    exact pr_iret dX0_inTime_25 rfl rfl rfl

def F_X0_laysCalls (h : pm_H) (a0 : Nat) (x1 : Int32) (x2 : Int32) (x3 : Int32) : Option (pm_H) :=
  if x1 = x2 then
    (pm_fR [(0, 16)] h a0).bind fun v31 =>
    (pm_aR h v31 x1).bind fun v32 =>
    (if pm_cl_ h a0 = some 0 then F_X0_houseAt h a0 x1 else none).bind fun q33 =>
    (F_J2_abs (q33 - x3)).bind fun q34 =>
    (if pm_cl_ h a0 = some 0 then F_X0_inTime h a0 q34 x1 else none).bind fun q35 =>
    (pm_si 0 h v32 x2 q35).bind fun h36 =>
    (pm_fR [(0, 17)] h36 a0).bind fun v37 =>
    (pm_aR h36 v37 x1).bind fun v38 =>
    (pm_fR [(0, 16)] h36 a0).bind fun v39 =>
    (pm_aR h36 v39 x1).bind fun v40 =>
    (pm_ai 0 h36 v40 x2).bind fun v41 =>
    (pm_si 0 h36 v38 x2 v41).bind fun h42 =>
    some h42
  else
    (pm_fR [(0, 16)] h a0).bind fun v1 =>
    (pm_aR h v1 x1).bind fun v2 =>
    (pm_fR [(0, 16)] h a0).bind fun v3 =>
    (pm_aR h v3 (x1 + 1)).bind fun v4 =>
    (pm_ai 0 h v4 x2).bind fun v5 =>
    (if pm_cl_ h a0 = some 0 then F_X0_houseAt h a0 (x1 + 1) else none).bind fun q6 =>
    (if pm_cl_ h a0 = some 0 then F_X0_houseAt h a0 x1 else none).bind fun q7 =>
    (pm_fR [(0, 17)] h a0).bind fun v8 =>
    (pm_aR h v8 (x1 + 1)).bind fun v9 =>
    (pm_ai 0 h v9 x2).bind fun v10 =>
    (if pm_cl_ h a0 = some 0 then F_X0_houseAt h a0 x2 else none).bind fun q11 =>
    (if pm_cl_ h a0 = some 0 then F_X0_houseAt h a0 x1 else none).bind fun q12 =>
    (F_J2_min ((v5 + q6) - q7) ((v10 + q11) - q12)).bind fun q13 =>
    (if pm_cl_ h a0 = some 0 then F_X0_inTime h a0 q13 x1 else none).bind fun q14 =>
    (pm_si 0 h v2 x2 q14).bind fun h15 =>
    (pm_fR [(0, 17)] h15 a0).bind fun v16 =>
    (pm_aR h15 v16 x1).bind fun v17 =>
    (pm_fR [(0, 17)] h15 a0).bind fun v18 =>
    (pm_aR h15 v18 x1).bind fun v19 =>
    (pm_ai 0 h15 v19 (x2 - 1)).bind fun v20 =>
    (if pm_cl_ h15 a0 = some 0 then F_X0_houseAt h15 a0 x2 else none).bind fun q21 =>
    (if pm_cl_ h15 a0 = some 0 then F_X0_houseAt h15 a0 (x2 - 1) else none).bind fun q22 =>
    (pm_fR [(0, 16)] h15 a0).bind fun v23 =>
    (pm_aR h15 v23 x1).bind fun v24 =>
    (pm_ai 0 h15 v24 (x2 - 1)).bind fun v25 =>
    (if pm_cl_ h15 a0 = some 0 then F_X0_houseAt h15 a0 x2 else none).bind fun q26 =>
    (if pm_cl_ h15 a0 = some 0 then F_X0_houseAt h15 a0 x1 else none).bind fun q27 =>
    (F_J2_min ((v20 + q21) - q22) ((v25 + q26) - q27)).bind fun q28 =>
    (if pm_cl_ h15 a0 = some 0 then F_X0_inTime h15 a0 q28 x2 else none).bind fun q29 =>
    (pm_si 0 h15 v17 x2 q29).bind fun h30 =>
    some h30
theorem ok_F_X0_laysCalls {d : Nat} {h : pm_H} {a0 : Nat} {x1 : Int32} {x2 : Int32} {x3 : Int32} {q : pm_H} (hF : F_X0_laysCalls h a0 x1 x2 x3 = some q) : pm_E (d + 2) 0 cX0_laysCalls (none) 0 [.ref a0, .int x1, .int x2, .int x3] [] h (none, q) := by
  unfold F_X0_laysCalls at hF
  refine pr_iload_n dX0_laysCalls_0 rfl ?_
  refine pr_iload_n dX0_laysCalls_1 rfl ?_
  refine po_i hF (fun hc hF => ?_) (fun hc hF => ?_)
  · refine pr_icF (tgt := 45) dX0_laysCalls_2 (by decide) (pc_neF hc) ?_
    refine pr_aload_n dX0_laysCalls_5 rfl ?_
    obtain ⟨v31, hv31, hF⟩ := po_b hF
    refine pr_getR dX0_laysCalls_6 tf_0_101 (hv31) ?_
    refine pr_iload_n dX0_laysCalls_9 rfl ?_
    obtain ⟨v32, hv32, hF⟩ := po_b hF
    refine pr_aald dX0_laysCalls_10 (hv32) ?_
    refine pr_iload_n dX0_laysCalls_11 rfl ?_
    refine pr_aload_n dX0_laysCalls_12 rfl ?_
    refine pr_aload_n dX0_laysCalls_13 rfl ?_
    refine pr_iload_n dX0_laysCalls_14 rfl ?_
    obtain ⟨q33, hq33, hF⟩ := po_b hF
    refine po_i hq33 (fun hcl hq => ?_) (fun _ hq => nomatch hq)
    refine pr_V (as := [.int x1]) (rest := [.ref a0, .int x2, .ref v32]) dX0_laysCalls_15 cv_0_262 hcl rfl rfl rfl rfl (lb rfl) (lb rfl) (lb rfl) (ok_F_X0_houseAt hq) ?_
    refine pr_iload_n dX0_laysCalls_18 rfl ?_
    refine pr_isub dX0_laysCalls_19 ?_
    obtain ⟨q34, hq34, hF⟩ := po_b hF
    refine pr_S dX0_laysCalls_20 cs_0_238 (as := [.int (q33 - x3)]) (rest := [.ref a0, .int x2, .ref v32]) rfl rfl rfl (lb rfl) (lb rfl) (lb rfl) (ok_F_J2_abs hq34) ?_
    refine pr_iload_n dX0_laysCalls_23 rfl ?_
    obtain ⟨q35, hq35, hF⟩ := po_b hF
    refine po_i hq35 (fun hcl hq => ?_) (fun _ hq => nomatch hq)
    refine pr_V (as := [.int q34, .int x1]) (rest := [.int x2, .ref v32]) dX0_laysCalls_24 cv_0_265 hcl rfl rfl rfl rfl (lb rfl) (lb rfl) (lb rfl) (ok_F_X0_inTime hq) ?_
    obtain ⟨h36, hh36, hF⟩ := po_b hF
    refine pr_iast dX0_laysCalls_27 (hh36) ?_
    refine pr_aload_n dX0_laysCalls_28 rfl ?_
    obtain ⟨v37, hv37, hF⟩ := po_b hF
    refine pr_getR dX0_laysCalls_29 tf_0_104 (hv37) ?_
    refine pr_iload_n dX0_laysCalls_32 rfl ?_
    obtain ⟨v38, hv38, hF⟩ := po_b hF
    refine pr_aald dX0_laysCalls_33 (hv38) ?_
    refine pr_iload_n dX0_laysCalls_34 rfl ?_
    refine pr_aload_n dX0_laysCalls_35 rfl ?_
    obtain ⟨v39, hv39, hF⟩ := po_b hF
    refine pr_getR dX0_laysCalls_36 tf_0_101 (hv39) ?_
    refine pr_iload_n dX0_laysCalls_39 rfl ?_
    obtain ⟨v40, hv40, hF⟩ := po_b hF
    refine pr_aald dX0_laysCalls_40 (hv40) ?_
    refine pr_iload_n dX0_laysCalls_41 rfl ?_
    obtain ⟨v41, hv41, hF⟩ := po_b hF
    refine pr_iald dX0_laysCalls_42 (hv41) ?_
    obtain ⟨h42, hh42, hF⟩ := po_b hF
    refine pr_iast dX0_laysCalls_43 (hh42) ?_
    cases hF
    exact pr_vret dX0_laysCalls_44 rfl rfl
  · refine pr_icT (tgt := 45) dX0_laysCalls_2 (by decide) (pc_neT hc) ?_
    refine pr_aload_n dX0_laysCalls_45 rfl ?_
    obtain ⟨v1, hv1, hF⟩ := po_b hF
    refine pr_getR dX0_laysCalls_46 tf_0_101 (hv1) ?_
    refine pr_iload_n dX0_laysCalls_49 rfl ?_
    obtain ⟨v2, hv2, hF⟩ := po_b hF
    refine pr_aald dX0_laysCalls_50 (hv2) ?_
    refine pr_iload_n dX0_laysCalls_51 rfl ?_
    refine pr_aload_n dX0_laysCalls_52 rfl ?_
    refine pr_aload_n dX0_laysCalls_53 rfl ?_
    obtain ⟨v3, hv3, hF⟩ := po_b hF
    refine pr_getR dX0_laysCalls_54 tf_0_101 (hv3) ?_
    refine pr_iload_n dX0_laysCalls_57 rfl ?_
    refine pr_iconst (v := 1) dX0_laysCalls_58 (kc_1) ?_
    refine pr_iadd dX0_laysCalls_59 ?_
    obtain ⟨v4, hv4, hF⟩ := po_b hF
    refine pr_aald dX0_laysCalls_60 (hv4) ?_
    refine pr_iload_n dX0_laysCalls_61 rfl ?_
    obtain ⟨v5, hv5, hF⟩ := po_b hF
    refine pr_iald dX0_laysCalls_62 (hv5) ?_
    refine pr_aload_n dX0_laysCalls_63 rfl ?_
    refine pr_iload_n dX0_laysCalls_64 rfl ?_
    refine pr_iconst (v := 1) dX0_laysCalls_65 (kc_1) ?_
    refine pr_iadd dX0_laysCalls_66 ?_
    obtain ⟨q6, hq6, hF⟩ := po_b hF
    refine po_i hq6 (fun hcl hq => ?_) (fun _ hq => nomatch hq)
    refine pr_V (as := [.int (x1 + 1)]) (rest := [.int v5, .ref a0, .int x2, .ref v2]) dX0_laysCalls_67 cv_0_262 hcl rfl rfl rfl rfl (lb rfl) (lb rfl) (lb rfl) (ok_F_X0_houseAt hq) ?_
    refine pr_iadd dX0_laysCalls_70 ?_
    refine pr_aload_n dX0_laysCalls_71 rfl ?_
    refine pr_iload_n dX0_laysCalls_72 rfl ?_
    obtain ⟨q7, hq7, hF⟩ := po_b hF
    refine po_i hq7 (fun hcl hq => ?_) (fun _ hq => nomatch hq)
    refine pr_V (as := [.int x1]) (rest := [.int (v5 + q6), .ref a0, .int x2, .ref v2]) dX0_laysCalls_73 cv_0_262 hcl rfl rfl rfl rfl (lb rfl) (lb rfl) (lb rfl) (ok_F_X0_houseAt hq) ?_
    refine pr_isub dX0_laysCalls_76 ?_
    refine pr_aload_n dX0_laysCalls_77 rfl ?_
    obtain ⟨v8, hv8, hF⟩ := po_b hF
    refine pr_getR dX0_laysCalls_78 tf_0_104 (hv8) ?_
    refine pr_iload_n dX0_laysCalls_81 rfl ?_
    refine pr_iconst (v := 1) dX0_laysCalls_82 (kc_1) ?_
    refine pr_iadd dX0_laysCalls_83 ?_
    obtain ⟨v9, hv9, hF⟩ := po_b hF
    refine pr_aald dX0_laysCalls_84 (hv9) ?_
    refine pr_iload_n dX0_laysCalls_85 rfl ?_
    obtain ⟨v10, hv10, hF⟩ := po_b hF
    refine pr_iald dX0_laysCalls_86 (hv10) ?_
    refine pr_aload_n dX0_laysCalls_87 rfl ?_
    refine pr_iload_n dX0_laysCalls_88 rfl ?_
    obtain ⟨q11, hq11, hF⟩ := po_b hF
    refine po_i hq11 (fun hcl hq => ?_) (fun _ hq => nomatch hq)
    refine pr_V (as := [.int x2]) (rest := [.int v10, .int ((v5 + q6) - q7), .ref a0, .int x2, .ref v2]) dX0_laysCalls_89 cv_0_262 hcl rfl rfl rfl rfl (lb rfl) (lb rfl) (lb rfl) (ok_F_X0_houseAt hq) ?_
    refine pr_iadd dX0_laysCalls_92 ?_
    refine pr_aload_n dX0_laysCalls_93 rfl ?_
    refine pr_iload_n dX0_laysCalls_94 rfl ?_
    obtain ⟨q12, hq12, hF⟩ := po_b hF
    refine po_i hq12 (fun hcl hq => ?_) (fun _ hq => nomatch hq)
    refine pr_V (as := [.int x1]) (rest := [.int (v10 + q11), .int ((v5 + q6) - q7), .ref a0, .int x2, .ref v2]) dX0_laysCalls_95 cv_0_262 hcl rfl rfl rfl rfl (lb rfl) (lb rfl) (lb rfl) (ok_F_X0_houseAt hq) ?_
    refine pr_isub dX0_laysCalls_98 ?_
    obtain ⟨q13, hq13, hF⟩ := po_b hF
    refine pr_S dX0_laysCalls_99 cs_0_1 (as := [.int ((v5 + q6) - q7), .int ((v10 + q11) - q12)]) (rest := [.ref a0, .int x2, .ref v2]) rfl rfl rfl (lb rfl) (lb rfl) (lb rfl) (ok_F_J2_min hq13) ?_
    refine pr_iload_n dX0_laysCalls_102 rfl ?_
    obtain ⟨q14, hq14, hF⟩ := po_b hF
    refine po_i hq14 (fun hcl hq => ?_) (fun _ hq => nomatch hq)
    refine pr_V (as := [.int q13, .int x1]) (rest := [.int x2, .ref v2]) dX0_laysCalls_103 cv_0_265 hcl rfl rfl rfl rfl (lb rfl) (lb rfl) (lb rfl) (ok_F_X0_inTime hq) ?_
    obtain ⟨h15, hh15, hF⟩ := po_b hF
    refine pr_iast dX0_laysCalls_106 (hh15) ?_
    refine pr_aload_n dX0_laysCalls_107 rfl ?_
    obtain ⟨v16, hv16, hF⟩ := po_b hF
    refine pr_getR dX0_laysCalls_108 tf_0_104 (hv16) ?_
    refine pr_iload_n dX0_laysCalls_111 rfl ?_
    obtain ⟨v17, hv17, hF⟩ := po_b hF
    refine pr_aald dX0_laysCalls_112 (hv17) ?_
    refine pr_iload_n dX0_laysCalls_113 rfl ?_
    refine pr_aload_n dX0_laysCalls_114 rfl ?_
    refine pr_aload_n dX0_laysCalls_115 rfl ?_
    obtain ⟨v18, hv18, hF⟩ := po_b hF
    refine pr_getR dX0_laysCalls_116 tf_0_104 (hv18) ?_
    refine pr_iload_n dX0_laysCalls_119 rfl ?_
    obtain ⟨v19, hv19, hF⟩ := po_b hF
    refine pr_aald dX0_laysCalls_120 (hv19) ?_
    refine pr_iload_n dX0_laysCalls_121 rfl ?_
    refine pr_iconst (v := 1) dX0_laysCalls_122 (kc_1) ?_
    refine pr_isub dX0_laysCalls_123 ?_
    obtain ⟨v20, hv20, hF⟩ := po_b hF
    refine pr_iald dX0_laysCalls_124 (hv20) ?_
    refine pr_aload_n dX0_laysCalls_125 rfl ?_
    refine pr_iload_n dX0_laysCalls_126 rfl ?_
    obtain ⟨q21, hq21, hF⟩ := po_b hF
    refine po_i hq21 (fun hcl hq => ?_) (fun _ hq => nomatch hq)
    refine pr_V (as := [.int x2]) (rest := [.int v20, .ref a0, .int x2, .ref v17]) dX0_laysCalls_127 cv_0_262 hcl rfl rfl rfl rfl (lb rfl) (lb rfl) (lb rfl) (ok_F_X0_houseAt hq) ?_
    refine pr_iadd dX0_laysCalls_130 ?_
    refine pr_aload_n dX0_laysCalls_131 rfl ?_
    refine pr_iload_n dX0_laysCalls_132 rfl ?_
    refine pr_iconst (v := 1) dX0_laysCalls_133 (kc_1) ?_
    refine pr_isub dX0_laysCalls_134 ?_
    obtain ⟨q22, hq22, hF⟩ := po_b hF
    refine po_i hq22 (fun hcl hq => ?_) (fun _ hq => nomatch hq)
    refine pr_V (as := [.int (x2 - 1)]) (rest := [.int (v20 + q21), .ref a0, .int x2, .ref v17]) dX0_laysCalls_135 cv_0_262 hcl rfl rfl rfl rfl (lb rfl) (lb rfl) (lb rfl) (ok_F_X0_houseAt hq) ?_
    refine pr_isub dX0_laysCalls_138 ?_
    refine pr_aload_n dX0_laysCalls_139 rfl ?_
    obtain ⟨v23, hv23, hF⟩ := po_b hF
    refine pr_getR dX0_laysCalls_140 tf_0_101 (hv23) ?_
    refine pr_iload_n dX0_laysCalls_143 rfl ?_
    obtain ⟨v24, hv24, hF⟩ := po_b hF
    refine pr_aald dX0_laysCalls_144 (hv24) ?_
    refine pr_iload_n dX0_laysCalls_145 rfl ?_
    refine pr_iconst (v := 1) dX0_laysCalls_146 (kc_1) ?_
    refine pr_isub dX0_laysCalls_147 ?_
    obtain ⟨v25, hv25, hF⟩ := po_b hF
    refine pr_iald dX0_laysCalls_148 (hv25) ?_
    refine pr_aload_n dX0_laysCalls_149 rfl ?_
    refine pr_iload_n dX0_laysCalls_150 rfl ?_
    obtain ⟨q26, hq26, hF⟩ := po_b hF
    refine po_i hq26 (fun hcl hq => ?_) (fun _ hq => nomatch hq)
    refine pr_V (as := [.int x2]) (rest := [.int v25, .int ((v20 + q21) - q22), .ref a0, .int x2, .ref v17]) dX0_laysCalls_151 cv_0_262 hcl rfl rfl rfl rfl (lb rfl) (lb rfl) (lb rfl) (ok_F_X0_houseAt hq) ?_
    refine pr_iadd dX0_laysCalls_154 ?_
    refine pr_aload_n dX0_laysCalls_155 rfl ?_
    refine pr_iload_n dX0_laysCalls_156 rfl ?_
    obtain ⟨q27, hq27, hF⟩ := po_b hF
    refine po_i hq27 (fun hcl hq => ?_) (fun _ hq => nomatch hq)
    refine pr_V (as := [.int x1]) (rest := [.int (v25 + q26), .int ((v20 + q21) - q22), .ref a0, .int x2, .ref v17]) dX0_laysCalls_157 cv_0_262 hcl rfl rfl rfl rfl (lb rfl) (lb rfl) (lb rfl) (ok_F_X0_houseAt hq) ?_
    refine pr_isub dX0_laysCalls_160 ?_
    obtain ⟨q28, hq28, hF⟩ := po_b hF
    refine pr_S dX0_laysCalls_161 cs_0_1 (as := [.int ((v20 + q21) - q22), .int ((v25 + q26) - q27)]) (rest := [.ref a0, .int x2, .ref v17]) rfl rfl rfl (lb rfl) (lb rfl) (lb rfl) (ok_F_J2_min hq28) ?_
    refine pr_iload_n dX0_laysCalls_164 rfl ?_
    obtain ⟨q29, hq29, hF⟩ := po_b hF
    refine po_i hq29 (fun hcl hq => ?_) (fun _ hq => nomatch hq)
    refine pr_V (as := [.int q28, .int x2]) (rest := [.int x2, .ref v17]) dX0_laysCalls_165 cv_0_265 hcl rfl rfl rfl rfl (lb rfl) (lb rfl) (lb rfl) (ok_F_X0_inTime hq) ?_
    obtain ⟨h30, hh30, hF⟩ := po_b hF
    refine pr_iast dX0_laysCalls_168 (hh30) ?_
    cases hF
    exact pr_vret dX0_laysCalls_169 rfl rfl

def L_X0_calls_38 : Nat → Nat → Int32 → Int32 → pm_H → Option ((Int32 × pm_H) ⊕ (Unit))
  | 0, _, _, _, _ => none
  | n + 1, x0, x1, x3, h =>
    if x3 < x1 then
      (if pm_cl_ h x0 = some 0 then F_X0_fed h x0 (2 * x3) else none).bind fun q5 =>
      if q5 < 100 then
        L_X0_calls_38 n x0 x1 (x3 + 1) h
      else
        some (.inl ((-3), h))
    else
      some (.inr ())
theorem ok_L_X0_calls_38 {d : Nat} : ∀ (n : Nat) {x0 : Nat} {x1 : Int32} {x3 : Int32} {w2 : Value} {h : pm_H} {q : (Int32 × pm_H) ⊕ (Unit)} {res : Option Value × pm_H}, L_X0_calls_38 n x0 x1 x3 h = some q → pm_nolong w2 = true → (∀ r, q = .inl r → res = (some (.int r.1), r.2)) → (∀ e, q = .inr e → ∀ z3 : Value, pm_nolong z3 = true → pm_E (d + 3) 0 cX0_calls (some .int) 64 [.ref x0, .int x1, w2, z3, pm_D] [] h res) → pm_E (d + 3) 0 cX0_calls (some .int) 38 [.ref x0, .int x1, w2, .int x3, pm_D] [] h res := by
  intro n
  induction n with
  | zero =>
    intro x0 x1 x3 w2 h q res hF hw2 hr hk
    rw [L_X0_calls_38] at hF
    cases hF
  | succ n ih =>
    intro x0 x1 x3 w2 h q res hF hw2 hr hk
    rw [L_X0_calls_38] at hF
    refine pr_iload_n dX0_calls_38 rfl ?_
    refine pr_iload_n dX0_calls_39 rfl ?_
    refine po_i hF (fun hc hF => ?_) (fun hc hF => ?_)
    · refine pr_icF (tgt := 64) dX0_calls_40 (by decide) (pc_geF hc) ?_
      refine pr_aload_n dX0_calls_43 rfl ?_
      refine pr_iconst (v := 2) dX0_calls_44 (kc_2) ?_
      refine pr_iload_n dX0_calls_45 rfl ?_
      refine pr_imul dX0_calls_46 ?_
      obtain ⟨q5, hq5, hF⟩ := po_b hF
      refine po_i hq5 (fun hcl hq => ?_) (fun _ hq => nomatch hq)
      refine pr_V (as := [.int (2 * x3)]) (rest := []) dX0_calls_47 cv_0_258 hcl rfl rfl rfl rfl (lb rfl) (lb rfl) (lb rfl) (ok_F_X0_fed hq) ?_
      refine pr_bipush (v := 100) dX0_calls_50 (kb_100) ?_
      refine po_i hF (fun hc hF => ?_) (fun hc hF => ?_)
      · refine pr_icT (tgt := 58) dX0_calls_52 (by decide) (pc_ltT hc) ?_
        refine pr_iinc (v := 1) (L' := [.ref x0, .int x1, w2, .int (x3 + 1), pm_D]) dX0_calls_58 rfl (kc_1) (pm_st_w (i := 2) rfl rfl hw2 rfl) ?_
        refine pr_goto (tgt := 38) dX0_calls_61 (by decide) ?_
        exact ih hF hw2 hr hk
      · refine pr_icF (tgt := 58) dX0_calls_52 (by decide) (pc_ltF hc) ?_
        refine pr_bipush (v := (-3)) dX0_calls_55 (kb_m3) ?_
        cases hF
        exact pr_iret dX0_calls_57 rfl rfl (hr _ rfl)
    · refine pr_icT (tgt := 64) dX0_calls_40 (by decide) (pc_geT hc) ?_
      cases hF
      exact hk _ rfl _ rfl
def L_X0_calls_79 : Nat → Nat → Int32 → Int32 → Int32 → Int32 → pm_H → Option (pm_H)
  | 0, _, _, _, _, _, _ => none
  | n + 1, x0, x1, x2, x3, x4, h =>
    if (x4 + x3) < x1 then
      (if pm_cl_ h x0 = some 0 then F_X0_laysCalls h x0 x4 (x4 + x3) x2 else none).bind fun q9 =>
      L_X0_calls_79 n x0 x1 x2 x3 (x4 + 1) q9
    else
      some h
theorem ok_L_X0_calls_79 {d : Nat} : ∀ (n : Nat) {x0 : Nat} {x1 : Int32} {x2 : Int32} {x3 : Int32} {x4 : Int32} {h : pm_H} {q : pm_H} {res : Option Value × pm_H}, L_X0_calls_79 n x0 x1 x2 x3 x4 h = some q → (∀ z4 : Value, pm_nolong z4 = true → pm_E (d + 3) 0 cX0_calls (some .int) 104 [.ref x0, .int x1, .int x2, .int x3, z4] [] q res) → pm_E (d + 3) 0 cX0_calls (some .int) 79 [.ref x0, .int x1, .int x2, .int x3, .int x4] [] h res := by
  intro n
  induction n with
  | zero =>
    intro x0 x1 x2 x3 x4 h q res hF hk
    rw [L_X0_calls_79] at hF
    cases hF
  | succ n ih =>
    intro x0 x1 x2 x3 x4 h q res hF hk
    rw [L_X0_calls_79] at hF
    refine pr_iload dX0_calls_79 rfl ?_
    refine pr_iload_n dX0_calls_81 rfl ?_
    refine pr_iadd dX0_calls_82 ?_
    refine pr_iload_n dX0_calls_83 rfl ?_
    refine po_i hF (fun hc hF => ?_) (fun hc hF => ?_)
    · refine pr_icF (tgt := 104) dX0_calls_84 (by decide) (pc_geF hc) ?_
      refine pr_aload_n dX0_calls_87 rfl ?_
      refine pr_iload dX0_calls_88 rfl ?_
      refine pr_iload dX0_calls_90 rfl ?_
      refine pr_iload_n dX0_calls_92 rfl ?_
      refine pr_iadd dX0_calls_93 ?_
      refine pr_iload_n dX0_calls_94 rfl ?_
      obtain ⟨q9, hq9, hF⟩ := po_b hF
      refine po_i hq9 (fun hcl hq => ?_) (fun _ hq => nomatch hq)
      refine pr_V (as := [.int x4, .int (x4 + x3), .int x2]) (rest := []) dX0_calls_95 cv_0_271 hcl rfl rfl rfl rfl (lb rfl) (lb rfl) (lb rfl) (ok_F_X0_laysCalls hq) ?_
      refine pr_iinc (v := 1) (L' := [.ref x0, .int x1, .int x2, .int x3, .int (x4 + 1)]) dX0_calls_98 rfl (kc_1) rfl ?_
      refine pr_goto (tgt := 79) dX0_calls_101 (by decide) ?_
      exact ih hF hk
    · refine pr_icT (tgt := 104) dX0_calls_84 (by decide) (pc_geT hc) ?_
      cases hF
      exact hk _ rfl
def L_X0_calls_71 : Nat → Nat → Int32 → Int32 → Int32 → pm_H → Option (pm_H)
  | 0, _, _, _, _, _ => none
  | n + 1, x0, x1, x2, x3, h =>
    if x3 < x1 then
      (L_X0_calls_79 n x0 x1 x2 x3 0 h).bind fun q10 =>
      L_X0_calls_71 n x0 x1 x2 (x3 + 1) q10
    else
      some h
theorem ok_L_X0_calls_71 {d : Nat} : ∀ (n : Nat) {x0 : Nat} {x1 : Int32} {x2 : Int32} {x3 : Int32} {w4 : Value} {h : pm_H} {q : pm_H} {res : Option Value × pm_H}, L_X0_calls_71 n x0 x1 x2 x3 h = some q → pm_nolong w4 = true → (∀ z3 : Value, pm_nolong z3 = true → ∀ z4 : Value, pm_nolong z4 = true → pm_E (d + 3) 0 cX0_calls (some .int) 110 [.ref x0, .int x1, .int x2, z3, z4] [] q res) → pm_E (d + 3) 0 cX0_calls (some .int) 71 [.ref x0, .int x1, .int x2, .int x3, w4] [] h res := by
  intro n
  induction n with
  | zero =>
    intro x0 x1 x2 x3 w4 h q res hF hw4 hk
    rw [L_X0_calls_71] at hF
    cases hF
  | succ n ih =>
    intro x0 x1 x2 x3 w4 h q res hF hw4 hk
    rw [L_X0_calls_71] at hF
    refine pr_iload_n dX0_calls_71 rfl ?_
    refine pr_iload_n dX0_calls_72 rfl ?_
    refine po_i hF (fun hc hF => ?_) (fun hc hF => ?_)
    · refine pr_icF (tgt := 110) dX0_calls_73 (by decide) (pc_geF hc) ?_
      refine pr_iconst (v := 0) dX0_calls_76 (kc_0) ?_
      refine pr_istore (L' := [.ref x0, .int x1, .int x2, .int x3, .int 0]) dX0_calls_77 rfl ?_
      obtain ⟨q10, hq10, hF⟩ := po_b hF
      refine ok_L_X0_calls_79 n hq10 (fun z4 hz4 => ?_)
      refine pr_iinc (v := 1) (L' := [.ref x0, .int x1, .int x2, .int (x3 + 1), z4]) dX0_calls_104 rfl (kc_1) rfl ?_
      refine pr_goto (tgt := 71) dX0_calls_107 (by decide) ?_
      exact ih hF hz4 hk
    · refine pr_icT (tgt := 110) dX0_calls_73 (by decide) (pc_geT hc) ?_
      cases hF
      exact hk _ rfl _ hw4
def F_X0_calls (n : Nat) (h : pm_H) (a0 : Nat) (x1 : Int32) (x2 : Int32) : Option (Int32 × pm_H) :=
  (F_X0_within x1 1 8).bind fun q1 =>
  if q1 = 0 then
    some ((-1), h)
  else
    (F_X0_in x2 100).bind fun q2 =>
    if q2 = 0 then
      some ((-1), h)
    else
      (pm_fI [(0, 8)] h a0).bind fun v3 =>
      if v3 < (2 * x1) then
        some ((-1), h)
      else
        (pm_put [(0, 8, 0)] h a0 (.int 0)).bind fun h4 =>
        (L_X0_calls_38 n a0 x1 0 h4).bind fun q6 => po_s q6 (fun r => some r) fun e7 =>
        (if pm_cl_ h4 a0 = some 0 then F_X0_sorts n h4 a0 x1 else none).bind fun q8 =>
        (L_X0_calls_71 n a0 x1 x2 0 q8).bind fun q11 =>
        (pm_fR [(0, 16)] q11 a0).bind fun v12 =>
        (pm_aR q11 v12 0).bind fun v13 =>
        (pm_ai 0 q11 v13 (x1 - 1)).bind fun v14 =>
        (pm_fR [(0, 17)] q11 a0).bind fun v15 =>
        (pm_aR q11 v15 0).bind fun v16 =>
        (pm_ai 0 q11 v16 (x1 - 1)).bind fun v17 =>
        (F_J2_min v14 v17).bind fun q18 =>
        if q18 < 268435456 then
          some (q18, q11)
        else
          some ((-2), q11)
theorem ok_F_X0_calls {d n : Nat} {h : pm_H} {a0 : Nat} {x1 : Int32} {x2 : Int32} {q : Int32 × pm_H} (hF : F_X0_calls n h a0 x1 x2 = some q) : pm_E (d + 3) 0 cX0_calls (some .int) 0 [.ref a0, .int x1, .int x2, pm_D, pm_D] [] h (some (.int q.1), q.2) := by
  unfold F_X0_calls at hF
  refine pr_iload_n dX0_calls_0 rfl ?_
  refine pr_iconst (v := 1) dX0_calls_1 (kc_1) ?_
  refine pr_bipush (v := 8) dX0_calls_2 (kb_8) ?_
  obtain ⟨q1, hq1, hF⟩ := po_b hF
  refine pr_S dX0_calls_4 cs_0_120 (as := [.int x1, .int 1, .int 8]) (rest := []) rfl rfl rfl (lb rfl) (lb rfl) (lb rfl) (ok_F_X0_within hq1) ?_
  refine po_i hF (fun hc hF => ?_) (fun hc hF => ?_)
  · refine pr_ifT (tgt := 29) dX0_calls_7 (by decide) (pc_eqT hc) ?_
    refine pr_iconst (v := (-1)) dX0_calls_29 (kc_m1) ?_
    cases hF
    exact pr_iret dX0_calls_30 rfl rfl rfl
  · refine pr_ifF (tgt := 29) dX0_calls_7 (by decide) (pc_eqF hc) ?_
    refine pr_iload_n dX0_calls_10 rfl ?_
    refine pr_bipush (v := 100) dX0_calls_11 (kb_100) ?_
    obtain ⟨q2, hq2, hF⟩ := po_b hF
    refine pr_S dX0_calls_13 cs_0_144 (as := [.int x2, .int 100]) (rest := []) rfl rfl rfl (lb rfl) (lb rfl) (lb rfl) (ok_F_X0_in hq2) ?_
    refine po_i hF (fun hc hF => ?_) (fun hc hF => ?_)
    · refine pr_ifT (tgt := 29) dX0_calls_16 (by decide) (pc_eqT hc) ?_
      refine pr_iconst (v := (-1)) dX0_calls_29 (kc_m1) ?_
      cases hF
      exact pr_iret dX0_calls_30 rfl rfl rfl
    · refine pr_ifF (tgt := 29) dX0_calls_16 (by decide) (pc_eqF hc) ?_
      refine pr_iconst (v := 2) dX0_calls_19 (kc_2) ?_
      refine pr_iload_n dX0_calls_20 rfl ?_
      refine pr_imul dX0_calls_21 ?_
      refine pr_aload_n dX0_calls_22 rfl ?_
      obtain ⟨v3, hv3, hF⟩ := po_b hF
      refine pr_getI dX0_calls_23 tf_0_113 (hv3) ?_
      refine po_i hF (fun hc hF => ?_) (fun hc hF => ?_)
      · refine pr_icF (tgt := 31) dX0_calls_26 (by decide) (pc_leF hc) ?_
        refine pr_iconst (v := (-1)) dX0_calls_29 (kc_m1) ?_
        cases hF
        exact pr_iret dX0_calls_30 rfl rfl rfl
      · refine pr_icT (tgt := 31) dX0_calls_26 (by decide) (pc_leT hc) ?_
        refine pr_aload_n dX0_calls_31 rfl ?_
        refine pr_iconst (v := 0) dX0_calls_32 (kc_0) ?_
        obtain ⟨h4, hh4, hF⟩ := po_b hF
        refine pr_put dX0_calls_33 tp_0_113 (hh4) ?_
        refine pr_iconst (v := 0) dX0_calls_36 (kc_0) ?_
        refine pr_istore_n (L' := [.ref a0, .int x1, .int x2, .int 0, pm_D]) dX0_calls_37 rfl ?_
        obtain ⟨q6, hq6, hF⟩ := po_b hF
        refine ok_L_X0_calls_38 n hq6 rfl (fun r hq => ?_) (fun e7 hq z3 hz3 => ?_)
        · subst hq
          replace hF := po_sl hF
          cases hF
          exact rfl
        subst hq
        replace hF := po_sr hF
        refine pr_aload_n dX0_calls_64 rfl ?_
        refine pr_iload_n dX0_calls_65 rfl ?_
        obtain ⟨q8, hq8, hF⟩ := po_b hF
        refine po_i hq8 (fun hcl hq => ?_) (fun _ hq => nomatch hq)
        refine pr_V (as := [.int x1]) (rest := []) dX0_calls_66 cv_0_268 hcl rfl rfl rfl rfl (lb rfl) (lb rfl) (lb rfl) (ok_F_X0_sorts hq) ?_
        refine pr_iconst (v := 0) dX0_calls_69 (kc_0) ?_
        refine pr_istore_n (L' := [.ref a0, .int x1, .int x2, .int 0, pm_D]) dX0_calls_70 rfl ?_
        obtain ⟨q11, hq11, hF⟩ := po_b hF
        refine ok_L_X0_calls_71 n hq11 rfl (fun z3 hz3 z4 hz4 => ?_)
        refine pr_aload_n dX0_calls_110 rfl ?_
        obtain ⟨v12, hv12, hF⟩ := po_b hF
        refine pr_getR dX0_calls_111 tf_0_101 (hv12) ?_
        refine pr_iconst (v := 0) dX0_calls_114 (kc_0) ?_
        obtain ⟨v13, hv13, hF⟩ := po_b hF
        refine pr_aald dX0_calls_115 (hv13) ?_
        refine pr_iload_n dX0_calls_116 rfl ?_
        refine pr_iconst (v := 1) dX0_calls_117 (kc_1) ?_
        refine pr_isub dX0_calls_118 ?_
        obtain ⟨v14, hv14, hF⟩ := po_b hF
        refine pr_iald dX0_calls_119 (hv14) ?_
        refine pr_aload_n dX0_calls_120 rfl ?_
        obtain ⟨v15, hv15, hF⟩ := po_b hF
        refine pr_getR dX0_calls_121 tf_0_104 (hv15) ?_
        refine pr_iconst (v := 0) dX0_calls_124 (kc_0) ?_
        obtain ⟨v16, hv16, hF⟩ := po_b hF
        refine pr_aald dX0_calls_125 (hv16) ?_
        refine pr_iload_n dX0_calls_126 rfl ?_
        refine pr_iconst (v := 1) dX0_calls_127 (kc_1) ?_
        refine pr_isub dX0_calls_128 ?_
        obtain ⟨v17, hv17, hF⟩ := po_b hF
        refine pr_iald dX0_calls_129 (hv17) ?_
        obtain ⟨q18, hq18, hF⟩ := po_b hF
        refine pr_S dX0_calls_130 cs_0_1 (as := [.int v14, .int v17]) (rest := []) rfl rfl rfl (lb rfl) (lb rfl) (lb rfl) (ok_F_J2_min hq18) ?_
        refine pr_istore_n (L' := [.ref a0, .int x1, .int x2, .int q18, z4]) dX0_calls_133 rfl ?_
        refine pr_iload_n dX0_calls_134 rfl ?_
        refine pr_ldc_w (v := 268435456) dX0_calls_135 rfl ?_
        refine po_i hF (fun hc hF => ?_) (fun hc hF => ?_)
        · refine pr_icT (tgt := 146) dX0_calls_138 (by decide) (pc_ltT hc) ?_
          refine pr_iload_n dX0_calls_146 rfl ?_
          cases hF
          exact pr_iret dX0_calls_147 rfl rfl rfl
        · refine pr_icF (tgt := 146) dX0_calls_138 (by decide) (pc_ltF hc) ?_
          refine pr_bipush (v := (-2)) dX0_calls_141 (kb_m2) ?_
          refine pr_goto (tgt := 147) dX0_calls_143 (by decide) ?_
          cases hF
          exact pr_iret dX0_calls_147 rfl rfl rfl

def L_X0_changed_35 : Nat → Nat → Int32 → Int32 → pm_H → Option ((Int32 × pm_H) ⊕ (pm_H))
  | 0, _, _, _, _ => none
  | n + 1, x0, x1, x3, h =>
    if x3 < x1 then
      (if pm_cl_ h x0 = some 0 then F_X0_fed h x0 x3 else none).bind fun q5 =>
      if q5 < (pm_shl 1 x1) then
        (pm_fR [(0, 14)] h x0).bind fun v6 =>
        (if pm_cl_ h x0 = some 0 then F_X0_fed h x0 x3 else none).bind fun q7 =>
        (pm_si 0 h v6 x3 q7).bind fun h8 =>
        L_X0_changed_35 n x0 x1 (x3 + 1) h8
      else
        some (.inl ((-3), h))
    else
      some (.inr h)
theorem ok_L_X0_changed_35 {d : Nat} : ∀ (n : Nat) {x0 : Nat} {x1 : Int32} {x3 : Int32} {w2 : Value} {h : pm_H} {q : (Int32 × pm_H) ⊕ (pm_H)} {res : Option Value × pm_H}, L_X0_changed_35 n x0 x1 x3 h = some q → pm_nolong w2 = true → (∀ r, q = .inl r → res = (some (.int r.1), r.2)) → (∀ e, q = .inr e → ∀ z3 : Value, pm_nolong z3 = true → pm_E (d + 2) 0 cX0_changed (some .int) 71 [.ref x0, .int x1, w2, z3, pm_D, pm_D] [] e res) → pm_E (d + 2) 0 cX0_changed (some .int) 35 [.ref x0, .int x1, w2, .int x3, pm_D, pm_D] [] h res := by
  intro n
  induction n with
  | zero =>
    intro x0 x1 x3 w2 h q res hF hw2 hr hk
    rw [L_X0_changed_35] at hF
    cases hF
  | succ n ih =>
    intro x0 x1 x3 w2 h q res hF hw2 hr hk
    rw [L_X0_changed_35] at hF
    refine pr_iload_n dX0_changed_35 rfl ?_
    refine pr_iload_n dX0_changed_36 rfl ?_
    refine po_i hF (fun hc hF => ?_) (fun hc hF => ?_)
    · refine pr_icF (tgt := 71) dX0_changed_37 (by decide) (pc_geF hc) ?_
      refine pr_aload_n dX0_changed_40 rfl ?_
      refine pr_iload_n dX0_changed_41 rfl ?_
      obtain ⟨q5, hq5, hF⟩ := po_b hF
      refine po_i hq5 (fun hcl hq => ?_) (fun _ hq => nomatch hq)
      refine pr_V (as := [.int x3]) (rest := []) dX0_changed_42 cv_0_258 hcl rfl rfl rfl rfl (lb rfl) (lb rfl) (lb rfl) (ok_F_X0_fed hq) ?_
      refine pr_iconst (v := 1) dX0_changed_45 (kc_1) ?_
      refine pr_iload_n dX0_changed_46 rfl ?_
      refine pr_ishl dX0_changed_47 ?_
      refine po_i hF (fun hc hF => ?_) (fun hc hF => ?_)
      · refine pr_icT (tgt := 54) dX0_changed_48 (by decide) (pc_ltT hc) ?_
        refine pr_aload_n dX0_changed_54 rfl ?_
        obtain ⟨v6, hv6, hF⟩ := po_b hF
        refine pr_getR dX0_changed_55 tf_0_93 (hv6) ?_
        refine pr_iload_n dX0_changed_58 rfl ?_
        refine pr_aload_n dX0_changed_59 rfl ?_
        refine pr_iload_n dX0_changed_60 rfl ?_
        obtain ⟨q7, hq7, hF⟩ := po_b hF
        refine po_i hq7 (fun hcl hq => ?_) (fun _ hq => nomatch hq)
        refine pr_V (as := [.int x3]) (rest := [.int x3, .ref v6]) dX0_changed_61 cv_0_258 hcl rfl rfl rfl rfl (lb rfl) (lb rfl) (lb rfl) (ok_F_X0_fed hq) ?_
        obtain ⟨h8, hh8, hF⟩ := po_b hF
        refine pr_iast dX0_changed_64 (hh8) ?_
        refine pr_iinc (v := 1) (L' := [.ref x0, .int x1, w2, .int (x3 + 1), pm_D, pm_D]) dX0_changed_65 rfl (kc_1) (pm_st_w (i := 2) rfl rfl hw2 rfl) ?_
        refine pr_goto (tgt := 35) dX0_changed_68 (by decide) ?_
        exact ih hF hw2 hr hk
      · refine pr_icF (tgt := 54) dX0_changed_48 (by decide) (pc_ltF hc) ?_
        refine pr_bipush (v := (-3)) dX0_changed_51 (kb_m3) ?_
        cases hF
        exact pr_iret dX0_changed_53 rfl rfl (hr _ rfl)
    · refine pr_icT (tgt := 71) dX0_changed_37 (by decide) (pc_geT hc) ?_
      cases hF
      exact hk _ rfl _ rfl
def L_X0_changed_88 : Nat → Nat → Int32 → Int32 → pm_H → Option (pm_H)
  | 0, _, _, _, _ => none
  | n + 1, x0, x1, x3, h =>
    if x3 < (pm_shl 1 x1) then
      (pm_fR [(0, 18)] h x0).bind fun v11 =>
      (pm_si 0 h v11 x3 0).bind fun h12 =>
      L_X0_changed_88 n x0 x1 (x3 + 1) h12
    else
      some h
theorem ok_L_X0_changed_88 {d : Nat} : ∀ (n : Nat) {x0 : Nat} {x1 : Int32} {x3 : Int32} {w2 : Value} {h : pm_H} {q : pm_H} {res : Option Value × pm_H}, L_X0_changed_88 n x0 x1 x3 h = some q → pm_nolong w2 = true → (∀ z3 : Value, pm_nolong z3 = true → pm_E (d + 2) 0 cX0_changed (some .int) 108 [.ref x0, .int x1, w2, z3, pm_D, pm_D] [] q res) → pm_E (d + 2) 0 cX0_changed (some .int) 88 [.ref x0, .int x1, w2, .int x3, pm_D, pm_D] [] h res := by
  intro n
  induction n with
  | zero =>
    intro x0 x1 x3 w2 h q res hF hw2 hk
    rw [L_X0_changed_88] at hF
    cases hF
  | succ n ih =>
    intro x0 x1 x3 w2 h q res hF hw2 hk
    rw [L_X0_changed_88] at hF
    refine pr_iload_n dX0_changed_88 rfl ?_
    refine pr_iconst (v := 1) dX0_changed_89 (kc_1) ?_
    refine pr_iload_n dX0_changed_90 rfl ?_
    refine pr_ishl dX0_changed_91 ?_
    refine po_i hF (fun hc hF => ?_) (fun hc hF => ?_)
    · refine pr_icF (tgt := 108) dX0_changed_92 (by decide) (pc_geF hc) ?_
      refine pr_aload_n dX0_changed_95 rfl ?_
      obtain ⟨v11, hv11, hF⟩ := po_b hF
      refine pr_getR dX0_changed_96 tf_0_107 (hv11) ?_
      refine pr_iload_n dX0_changed_99 rfl ?_
      refine pr_iconst (v := 0) dX0_changed_100 (kc_0) ?_
      obtain ⟨h12, hh12, hF⟩ := po_b hF
      refine pr_iast dX0_changed_101 (hh12) ?_
      refine pr_iinc (v := 1) (L' := [.ref x0, .int x1, w2, .int (x3 + 1), pm_D, pm_D]) dX0_changed_102 rfl (kc_1) (pm_st_w (i := 2) rfl rfl hw2 rfl) ?_
      refine pr_goto (tgt := 88) dX0_changed_105 (by decide) ?_
      exact ih hF hw2 hk
    · refine pr_icT (tgt := 108) dX0_changed_92 (by decide) (pc_geT hc) ?_
      cases hF
      exact hk _ rfl
def L_X0_changed_130 : Nat → Nat → Int32 → Int32 → Int32 → Int32 → pm_H → Option (pm_H)
  | 0, _, _, _, _, _, _ => none
  | n + 1, x0, x1, x3, x4, x5, h =>
    if x5 < x1 then
      (pm_fR [(0, 14)] h x0).bind fun v14 =>
      (pm_ai 0 h v14 x3).bind fun v15 =>
      (F_X0_has (x4 &&& v15) x5).bind fun q16 =>
      if q16 = 0 then
        L_X0_changed_130 n x0 x1 x3 x4 (x5 + 1) h
      else
        (pm_fR [(0, 18)] h x0).bind fun v17 =>
        (pm_fR [(0, 18)] h x0).bind fun v18 =>
        (pm_ai 0 h v18 x4).bind fun v19 =>
        (pm_fR [(0, 18)] h x0).bind fun v20 =>
        (pm_ai 0 h v20 (x4 &&& ((pm_shl 1 x5) ^^^ (-1)))).bind fun v21 =>
        (F_J2_max v19 (v21 + 1)).bind fun q22 =>
        (pm_si 0 h v17 x4 q22).bind fun h23 =>
        L_X0_changed_130 n x0 x1 x3 x4 (x5 + 1) h23
    else
      some h
theorem ok_L_X0_changed_130 {d : Nat} : ∀ (n : Nat) {x0 : Nat} {x1 : Int32} {x3 : Int32} {x4 : Int32} {x5 : Int32} {w2 : Value} {h : pm_H} {q : pm_H} {res : Option Value × pm_H}, L_X0_changed_130 n x0 x1 x3 x4 x5 h = some q → pm_nolong w2 = true → (∀ z5 : Value, pm_nolong z5 = true → pm_E (d + 2) 0 cX0_changed (some .int) 192 [.ref x0, .int x1, w2, .int x3, .int x4, z5] [] q res) → pm_E (d + 2) 0 cX0_changed (some .int) 130 [.ref x0, .int x1, w2, .int x3, .int x4, .int x5] [] h res := by
  intro n
  induction n with
  | zero =>
    intro x0 x1 x3 x4 x5 w2 h q res hF hw2 hk
    rw [L_X0_changed_130] at hF
    cases hF
  | succ n ih =>
    intro x0 x1 x3 x4 x5 w2 h q res hF hw2 hk
    rw [L_X0_changed_130] at hF
    refine pr_iload dX0_changed_130 rfl ?_
    refine pr_iload_n dX0_changed_132 rfl ?_
    refine po_i hF (fun hc hF => ?_) (fun hc hF => ?_)
    · refine pr_icF (tgt := 192) dX0_changed_133 (by decide) (pc_geF hc) ?_
      refine pr_iload dX0_changed_136 rfl ?_
      refine pr_aload_n dX0_changed_138 rfl ?_
      obtain ⟨v14, hv14, hF⟩ := po_b hF
      refine pr_getR dX0_changed_139 tf_0_93 (hv14) ?_
      refine pr_iload_n dX0_changed_142 rfl ?_
      obtain ⟨v15, hv15, hF⟩ := po_b hF
      refine pr_iald dX0_changed_143 (hv15) ?_
      refine pr_iand dX0_changed_144 ?_
      refine pr_iload dX0_changed_145 rfl ?_
      obtain ⟨q16, hq16, hF⟩ := po_b hF
      refine pr_S dX0_changed_147 cs_0_191 (as := [.int (x4 &&& v15), .int x5]) (rest := []) rfl rfl rfl (lb rfl) (lb rfl) (lb rfl) (ok_F_X0_has hq16) ?_
      refine po_i hF (fun hc hF => ?_) (fun hc hF => ?_)
      · refine pr_ifT (tgt := 186) dX0_changed_150 (by decide) (pc_eqT hc) ?_
        refine pr_iinc (v := 1) (L' := [.ref x0, .int x1, w2, .int x3, .int x4, .int (x5 + 1)]) dX0_changed_186 rfl (kc_1) rfl ?_
        refine pr_goto (tgt := 130) dX0_changed_189 (by decide) ?_
        exact ih hF hw2 hk
      · refine pr_ifF (tgt := 186) dX0_changed_150 (by decide) (pc_eqF hc) ?_
        refine pr_aload_n dX0_changed_153 rfl ?_
        obtain ⟨v17, hv17, hF⟩ := po_b hF
        refine pr_getR dX0_changed_154 tf_0_107 (hv17) ?_
        refine pr_iload dX0_changed_157 rfl ?_
        refine pr_aload_n dX0_changed_159 rfl ?_
        obtain ⟨v18, hv18, hF⟩ := po_b hF
        refine pr_getR dX0_changed_160 tf_0_107 (hv18) ?_
        refine pr_iload dX0_changed_163 rfl ?_
        obtain ⟨v19, hv19, hF⟩ := po_b hF
        refine pr_iald dX0_changed_165 (hv19) ?_
        refine pr_aload_n dX0_changed_166 rfl ?_
        obtain ⟨v20, hv20, hF⟩ := po_b hF
        refine pr_getR dX0_changed_167 tf_0_107 (hv20) ?_
        refine pr_iload dX0_changed_170 rfl ?_
        refine pr_iconst (v := 1) dX0_changed_172 (kc_1) ?_
        refine pr_iload dX0_changed_173 rfl ?_
        refine pr_ishl dX0_changed_175 ?_
        refine pr_iconst (v := (-1)) dX0_changed_176 (kc_m1) ?_
        refine pr_ixor dX0_changed_177 ?_
        refine pr_iand dX0_changed_178 ?_
        obtain ⟨v21, hv21, hF⟩ := po_b hF
        refine pr_iald dX0_changed_179 (hv21) ?_
        refine pr_iconst (v := 1) dX0_changed_180 (kc_1) ?_
        refine pr_iadd dX0_changed_181 ?_
        obtain ⟨q22, hq22, hF⟩ := po_b hF
        refine pr_S dX0_changed_182 cs_0_7 (as := [.int v19, .int (v21 + 1)]) (rest := [.int x4, .ref v17]) rfl rfl rfl (lb rfl) (lb rfl) (lb rfl) (ok_F_J2_max hq22) ?_
        obtain ⟨h23, hh23, hF⟩ := po_b hF
        refine pr_iast dX0_changed_185 (hh23) ?_
        refine pr_iinc (v := 1) (L' := [.ref x0, .int x1, w2, .int x3, .int x4, .int (x5 + 1)]) dX0_changed_186 rfl (kc_1) rfl ?_
        refine pr_goto (tgt := 130) dX0_changed_189 (by decide) ?_
        exact ih hF hw2 hk
    · refine pr_icT (tgt := 192) dX0_changed_133 (by decide) (pc_geT hc) ?_
      cases hF
      exact hk _ rfl
def L_X0_changed_122 : Nat → Nat → Int32 → Int32 → Int32 → pm_H → Option (pm_H)
  | 0, _, _, _, _, _ => none
  | n + 1, x0, x1, x3, x4, h =>
    if 0 < x4 then
      (L_X0_changed_130 n x0 x1 x3 x4 0 h).bind fun q24 =>
      L_X0_changed_122 n x0 x1 x3 (x4 + (-1)) q24
    else
      some h
theorem ok_L_X0_changed_122 {d : Nat} : ∀ (n : Nat) {x0 : Nat} {x1 : Int32} {x3 : Int32} {x4 : Int32} {w2 w5 : Value} {h : pm_H} {q : pm_H} {res : Option Value × pm_H}, L_X0_changed_122 n x0 x1 x3 x4 h = some q → pm_nolong w2 = true → pm_nolong w5 = true → (∀ z4 : Value, pm_nolong z4 = true → ∀ z5 : Value, pm_nolong z5 = true → pm_E (d + 2) 0 cX0_changed (some .int) 198 [.ref x0, .int x1, w2, .int x3, z4, z5] [] q res) → pm_E (d + 2) 0 cX0_changed (some .int) 122 [.ref x0, .int x1, w2, .int x3, .int x4, w5] [] h res := by
  intro n
  induction n with
  | zero =>
    intro x0 x1 x3 x4 w2 w5 h q res hF hw2 hw5 hk
    rw [L_X0_changed_122] at hF
    cases hF
  | succ n ih =>
    intro x0 x1 x3 x4 w2 w5 h q res hF hw2 hw5 hk
    rw [L_X0_changed_122] at hF
    refine pr_iload dX0_changed_122 rfl ?_
    refine po_i hF (fun hc hF => ?_) (fun hc hF => ?_)
    · refine pr_ifF (tgt := 198) dX0_changed_124 (by decide) (pc_leF hc) ?_
      refine pr_iconst (v := 0) dX0_changed_127 (kc_0) ?_
      refine pr_istore (L' := [.ref x0, .int x1, w2, .int x3, .int x4, .int 0]) dX0_changed_128 rfl ?_
      obtain ⟨q24, hq24, hF⟩ := po_b hF
      refine ok_L_X0_changed_130 n hq24 hw2 (fun z5 hz5 => ?_)
      refine pr_iinc (v := (-1)) (L' := [.ref x0, .int x1, w2, .int x3, .int (x4 + (-1)), z5]) dX0_changed_192 rfl (kc_m1) rfl ?_
      refine pr_goto (tgt := 122) dX0_changed_195 (by decide) ?_
      exact ih hF hw2 hz5 hk
    · refine pr_ifT (tgt := 198) dX0_changed_124 (by decide) (pc_leT hc) ?_
      cases hF
      exact hk _ rfl _ hw5
def L_X0_changed_110 : Nat → Nat → Int32 → Int32 → pm_H → Option (pm_H)
  | 0, _, _, _, _ => none
  | n + 1, x0, x1, x3, h =>
    if x3 < x1 then
      (L_X0_changed_122 n x0 x1 x3 ((pm_shl 1 x1) - 1) h).bind fun q25 =>
      L_X0_changed_110 n x0 x1 (x3 + 1) q25
    else
      some h
theorem ok_L_X0_changed_110 {d : Nat} : ∀ (n : Nat) {x0 : Nat} {x1 : Int32} {x3 : Int32} {w2 w4 w5 : Value} {h : pm_H} {q : pm_H} {res : Option Value × pm_H}, L_X0_changed_110 n x0 x1 x3 h = some q → pm_nolong w2 = true → pm_nolong w4 = true → pm_nolong w5 = true → (∀ z3 : Value, pm_nolong z3 = true → ∀ z4 : Value, pm_nolong z4 = true → ∀ z5 : Value, pm_nolong z5 = true → pm_E (d + 2) 0 cX0_changed (some .int) 204 [.ref x0, .int x1, w2, z3, z4, z5] [] q res) → pm_E (d + 2) 0 cX0_changed (some .int) 110 [.ref x0, .int x1, w2, .int x3, w4, w5] [] h res := by
  intro n
  induction n with
  | zero =>
    intro x0 x1 x3 w2 w4 w5 h q res hF hw2 hw4 hw5 hk
    rw [L_X0_changed_110] at hF
    cases hF
  | succ n ih =>
    intro x0 x1 x3 w2 w4 w5 h q res hF hw2 hw4 hw5 hk
    rw [L_X0_changed_110] at hF
    refine pr_iload_n dX0_changed_110 rfl ?_
    refine pr_iload_n dX0_changed_111 rfl ?_
    refine po_i hF (fun hc hF => ?_) (fun hc hF => ?_)
    · refine pr_icF (tgt := 204) dX0_changed_112 (by decide) (pc_geF hc) ?_
      refine pr_iconst (v := 1) dX0_changed_115 (kc_1) ?_
      refine pr_iload_n dX0_changed_116 rfl ?_
      refine pr_ishl dX0_changed_117 ?_
      refine pr_iconst (v := 1) dX0_changed_118 (kc_1) ?_
      refine pr_isub dX0_changed_119 ?_
      refine pr_istore (L' := [.ref x0, .int x1, w2, .int x3, .int ((pm_shl 1 x1) - 1), w5]) dX0_changed_120 rfl ?_
      obtain ⟨q25, hq25, hF⟩ := po_b hF
      refine ok_L_X0_changed_122 n hq25 hw2 hw5 (fun z4 hz4 z5 hz5 => ?_)
      refine pr_iinc (v := 1) (L' := [.ref x0, .int x1, w2, .int (x3 + 1), z4, z5]) dX0_changed_198 rfl (kc_1) (pm_st_w (i := 2) rfl rfl hw2 rfl) ?_
      refine pr_goto (tgt := 110) dX0_changed_201 (by decide) ?_
      exact ih hF hw2 hz4 hz5 hk
    · refine pr_icT (tgt := 204) dX0_changed_112 (by decide) (pc_geT hc) ?_
      cases hF
      exact hk _ rfl _ hw4 _ hw5
def F_X0_changed (n : Nat) (h : pm_H) (a0 : Nat) (x1 : Int32) (x2 : Int32) : Option (Int32 × pm_H) :=
  (F_X0_within x1 2 8).bind fun q1 =>
  if q1 = 0 then
    some ((-1), h)
  else
    (F_X0_in x2 2).bind fun q2 =>
    if q2 = 0 then
      some ((-1), h)
    else
      (pm_fI [(0, 8)] h a0).bind fun v3 =>
      if v3 < x1 then
        some ((-1), h)
      else
        (pm_put [(0, 8, 0)] h a0 (.int 0)).bind fun h4 =>
        (L_X0_changed_35 n a0 x1 0 h4).bind fun q9 => po_s q9 (fun r => some r) fun e10 =>
        if x2 = 1 then
          (pm_fR [(0, 14)] e10 a0).bind fun v29 =>
          (if pm_cl_ e10 a0 = some 0 then F_X0_pairings n e10 a0 v29 x1 else none).bind fun q30 =>
          some (q30.1, q30.2)
        else
          (L_X0_changed_88 n a0 x1 0 e10).bind fun q13 =>
          (L_X0_changed_110 n a0 x1 0 q13).bind fun q26 =>
          (pm_fR [(0, 18)] q26 a0).bind fun v27 =>
          (pm_ai 0 q26 v27 ((pm_shl 1 x1) - 1)).bind fun v28 =>
          some (v28, q26)
theorem ok_F_X0_changed {d n : Nat} {h : pm_H} {a0 : Nat} {x1 : Int32} {x2 : Int32} {q : Int32 × pm_H} (hF : F_X0_changed n h a0 x1 x2 = some q) : pm_E (d + 2) 0 cX0_changed (some .int) 0 [.ref a0, .int x1, .int x2, pm_D, pm_D, pm_D] [] h (some (.int q.1), q.2) := by
  unfold F_X0_changed at hF
  refine pr_iload_n dX0_changed_0 rfl ?_
  refine pr_iconst (v := 2) dX0_changed_1 (kc_2) ?_
  refine pr_bipush (v := 8) dX0_changed_2 (kb_8) ?_
  obtain ⟨q1, hq1, hF⟩ := po_b hF
  refine pr_S dX0_changed_4 cs_0_120 (as := [.int x1, .int 2, .int 8]) (rest := []) rfl rfl rfl (lb rfl) (lb rfl) (lb rfl) (ok_F_X0_within hq1) ?_
  refine po_i hF (fun hc hF => ?_) (fun hc hF => ?_)
  · refine pr_ifT (tgt := 26) dX0_changed_7 (by decide) (pc_eqT hc) ?_
    refine pr_iconst (v := (-1)) dX0_changed_26 (kc_m1) ?_
    cases hF
    exact pr_iret dX0_changed_27 rfl rfl rfl
  · refine pr_ifF (tgt := 26) dX0_changed_7 (by decide) (pc_eqF hc) ?_
    refine pr_iload_n dX0_changed_10 rfl ?_
    refine pr_iconst (v := 2) dX0_changed_11 (kc_2) ?_
    obtain ⟨q2, hq2, hF⟩ := po_b hF
    refine pr_S dX0_changed_12 cs_0_144 (as := [.int x2, .int 2]) (rest := []) rfl rfl rfl (lb rfl) (lb rfl) (lb rfl) (ok_F_X0_in hq2) ?_
    refine po_i hF (fun hc hF => ?_) (fun hc hF => ?_)
    · refine pr_ifT (tgt := 26) dX0_changed_15 (by decide) (pc_eqT hc) ?_
      refine pr_iconst (v := (-1)) dX0_changed_26 (kc_m1) ?_
      cases hF
      exact pr_iret dX0_changed_27 rfl rfl rfl
    · refine pr_ifF (tgt := 26) dX0_changed_15 (by decide) (pc_eqF hc) ?_
      refine pr_iload_n dX0_changed_18 rfl ?_
      refine pr_aload_n dX0_changed_19 rfl ?_
      obtain ⟨v3, hv3, hF⟩ := po_b hF
      refine pr_getI dX0_changed_20 tf_0_113 (hv3) ?_
      refine po_i hF (fun hc hF => ?_) (fun hc hF => ?_)
      · refine pr_icF (tgt := 28) dX0_changed_23 (by decide) (pc_leF hc) ?_
        refine pr_iconst (v := (-1)) dX0_changed_26 (kc_m1) ?_
        cases hF
        exact pr_iret dX0_changed_27 rfl rfl rfl
      · refine pr_icT (tgt := 28) dX0_changed_23 (by decide) (pc_leT hc) ?_
        refine pr_aload_n dX0_changed_28 rfl ?_
        refine pr_iconst (v := 0) dX0_changed_29 (kc_0) ?_
        obtain ⟨h4, hh4, hF⟩ := po_b hF
        refine pr_put dX0_changed_30 tp_0_113 (hh4) ?_
        refine pr_iconst (v := 0) dX0_changed_33 (kc_0) ?_
        refine pr_istore_n (L' := [.ref a0, .int x1, .int x2, .int 0, pm_D, pm_D]) dX0_changed_34 rfl ?_
        obtain ⟨q9, hq9, hF⟩ := po_b hF
        refine ok_L_X0_changed_35 n hq9 rfl (fun r hq => ?_) (fun e10 hq z3 hz3 => ?_)
        · subst hq
          replace hF := po_sl hF
          cases hF
          exact rfl
        subst hq
        replace hF := po_sr hF
        refine pr_iload_n dX0_changed_71 rfl ?_
        refine pr_iconst (v := 1) dX0_changed_72 (kc_1) ?_
        refine po_i hF (fun hc hF => ?_) (fun hc hF => ?_)
        · refine pr_icF (tgt := 86) dX0_changed_73 (by decide) (pc_neF hc) ?_
          refine pr_aload_n dX0_changed_76 rfl ?_
          refine pr_aload_n dX0_changed_77 rfl ?_
          obtain ⟨v29, hv29, hF⟩ := po_b hF
          refine pr_getR dX0_changed_78 tf_0_93 (hv29) ?_
          refine pr_iload_n dX0_changed_81 rfl ?_
          obtain ⟨q30, hq30, hF⟩ := po_b hF
          refine po_i hq30 (fun hcl hq => ?_) (fun _ hq => nomatch hq)
          refine pr_V (as := [.ref v29, .int x1]) (rest := []) dX0_changed_82 cv_0_250 hcl rfl rfl rfl rfl (lb rfl) (lb rfl) (lb rfl) (ok_F_X0_pairings hq) ?_
          cases hF
          exact pr_iret dX0_changed_85 rfl rfl rfl
        · refine pr_icT (tgt := 86) dX0_changed_73 (by decide) (pc_neT hc) ?_
          refine pr_iconst (v := 0) dX0_changed_86 (kc_0) ?_
          refine pr_istore_n (L' := [.ref a0, .int x1, .int x2, .int 0, pm_D, pm_D]) dX0_changed_87 rfl ?_
          obtain ⟨q13, hq13, hF⟩ := po_b hF
          refine ok_L_X0_changed_88 n hq13 rfl (fun z3 hz3 => ?_)
          refine pr_iconst (v := 0) dX0_changed_108 (kc_0) ?_
          refine pr_istore_n (L' := [.ref a0, .int x1, .int x2, .int 0, pm_D, pm_D]) dX0_changed_109 rfl ?_
          obtain ⟨q26, hq26, hF⟩ := po_b hF
          refine ok_L_X0_changed_110 n hq26 rfl rfl rfl (fun z3 hz3 z4 hz4 z5 hz5 => ?_)
          refine pr_aload_n dX0_changed_204 rfl ?_
          obtain ⟨v27, hv27, hF⟩ := po_b hF
          refine pr_getR dX0_changed_205 tf_0_107 (hv27) ?_
          refine pr_iconst (v := 1) dX0_changed_208 (kc_1) ?_
          refine pr_iload_n dX0_changed_209 rfl ?_
          refine pr_ishl dX0_changed_210 ?_
          refine pr_iconst (v := 1) dX0_changed_211 (kc_1) ?_
          refine pr_isub dX0_changed_212 ?_
          obtain ⟨v28, hv28, hF⟩ := po_b hF
          refine pr_iald dX0_changed_213 (hv28) ?_
          cases hF
          exact pr_iret dX0_changed_214 rfl rfl rfl

def F_X0_seed (h : pm_H) (a0 : Nat) (x1 : Int32) : Option (Int32 × pm_H) :=
  (F_X0_in x1 65536).bind fun q1 =>
  if q1 = 0 then
    some (0, h)
  else
    (pm_fR [(0, 3)] h a0).bind fun v2 =>
    (pm_put [(3, 4, 0)] h v2 (.int x1)).bind fun h3 =>
    some (1, h3)
theorem ok_F_X0_seed {d : Nat} {h : pm_H} {a0 : Nat} {x1 : Int32} {q : Int32 × pm_H} (hF : F_X0_seed h a0 x1 = some q) : pm_E (d + 1) 0 cX0_seed (some .boolean) 0 [.ref a0, .int x1] [] h (some (.int q.1), q.2) := by
  unfold F_X0_seed at hF
  refine pr_iload_n dX0_seed_0 rfl ?_
  refine pr_ldc (v := 65536) dX0_seed_1 rfl ?_
  obtain ⟨q1, hq1, hF⟩ := po_b hF
  refine pr_S dX0_seed_3 cs_0_144 (as := [.int x1, .int 65536]) (rest := []) rfl rfl rfl (lb rfl) (lb rfl) (lb rfl) (ok_F_X0_in hq1) ?_
  refine po_i hF (fun hc hF => ?_) (fun hc hF => ?_)
  · refine pr_ifF (tgt := 11) dX0_seed_6 (by decide) (pc_neF hc) ?_
    refine pr_iconst (v := 0) dX0_seed_9 (kc_0) ?_
    cases hF
    exact pr_iret dX0_seed_10 rfl nb_0 rfl
  · refine pr_ifT (tgt := 11) dX0_seed_6 (by decide) (pc_neT hc) ?_
    refine pr_aload_n dX0_seed_11 rfl ?_
    obtain ⟨v2, hv2, hF⟩ := po_b hF
    refine pr_getR dX0_seed_12 tf_0_63 (hv2) ?_
    refine pr_iload_n dX0_seed_15 rfl ?_
    obtain ⟨h3, hh3, hF⟩ := po_b hF
    refine pr_put dX0_seed_16 tp_0_110 (hh3) ?_
    refine pr_iconst (v := 1) dX0_seed_19 (kc_1) ?_
    cases hF
    exact pr_iret dX0_seed_20 rfl nb_1 rfl

def F_X0_keep (n : Nat) (h : pm_H) (a0 : Nat) : Option (Int32 × pm_H) :=
  (pm_put [(0, 9, 1)] h a0 (.int 1)).bind fun h1 =>
  (pm_fR [(0, 5)] h1 a0).bind fun v2 =>
  (pm_fR [(0, 3)] h1 a0).bind fun v3 =>
  (if pm_cl_ h1 v2 = some 3 then F_X4_takes n h1 v2 v3 else none).bind fun q4 =>
  (pm_fR [(0, 3)] q4.2 a0).bind fun v5 =>
  (pm_fI [(3, 3)] q4.2 v5).bind fun v6 =>
  some (v6, q4.2)
theorem ok_F_X0_keep {d n : Nat} {h : pm_H} {a0 : Nat} {q : Int32 × pm_H} (hF : F_X0_keep n h a0 = some q) : pm_E (d + 1) 0 cX0_keep (some .int) 0 [.ref a0] [] h (some (.int q.1), q.2) := by
  unfold F_X0_keep at hF
  refine pr_aload_n dX0_keep_0 rfl ?_
  refine pr_iconst (v := 1) dX0_keep_1 (kc_1) ?_
  obtain ⟨h1, hh1, hF⟩ := po_b hF
  refine pr_put dX0_keep_2 tp_0_275 (hh1) ?_
  refine pr_aload_n dX0_keep_5 rfl ?_
  obtain ⟨v2, hv2, hF⟩ := po_b hF
  refine pr_getR dX0_keep_6 tf_0_70 (hv2) ?_
  refine pr_aload_n dX0_keep_9 rfl ?_
  obtain ⟨v3, hv3, hF⟩ := po_b hF
  refine pr_getR dX0_keep_10 tf_0_63 (hv3) ?_
  obtain ⟨q4, hq4, hF⟩ := po_b hF
  refine po_i hq4 (fun hcl hq => ?_) (fun _ hq => nomatch hq)
  refine pr_V (as := [.ref v3]) (rest := []) dX0_keep_13 cv_0_172 hcl rfl rfl rfl rfl (lb rfl) (lb rfl) (lb rfl) (ok_F_X4_takes hq) ?_
  refine pr_pop dX0_keep_16 (pv_c _) ?_
  refine pr_aload_n dX0_keep_17 rfl ?_
  obtain ⟨v5, hv5, hF⟩ := po_b hF
  refine pr_getR dX0_keep_18 tf_0_63 (hv5) ?_
  obtain ⟨v6, hv6, hF⟩ := po_b hF
  refine pr_getI dX0_keep_21 tf_0_279 (hv6) ?_
  cases hF
  exact pr_iret dX0_keep_24 rfl rfl rfl

def F_X0_undo (n : Nat) (h : pm_H) (a0 : Nat) : Option (Int32 × pm_H) :=
  (pm_fI [(0, 9)] h a0).bind fun v1 =>
  if v1 = 0 then
    some (0, h)
  else
    (pm_fR [(0, 3)] h a0).bind fun v2 =>
    (pm_fR [(0, 5)] h a0).bind fun v3 =>
    (if pm_cl_ h v2 = some 3 then F_X4_takes n h v2 v3 else none).bind fun q4 =>
    some (1, q4.2)
theorem ok_F_X0_undo {d n : Nat} {h : pm_H} {a0 : Nat} {q : Int32 × pm_H} (hF : F_X0_undo n h a0 = some q) : pm_E (d + 1) 0 cX0_undo (some .boolean) 0 [.ref a0] [] h (some (.int q.1), q.2) := by
  unfold F_X0_undo at hF
  refine pr_aload_n dX0_undo_0 rfl ?_
  obtain ⟨v1, hv1, hF⟩ := po_b hF
  refine pr_getI dX0_undo_1 tf_0_275 (hv1) ?_
  refine po_i hF (fun hc hF => ?_) (fun hc hF => ?_)
  · refine pr_ifF (tgt := 9) dX0_undo_4 (by decide) (pc_neF hc) ?_
    refine pr_iconst (v := 0) dX0_undo_7 (kc_0) ?_
    cases hF
    exact pr_iret dX0_undo_8 rfl nb_0 rfl
  · refine pr_ifT (tgt := 9) dX0_undo_4 (by decide) (pc_neT hc) ?_
    refine pr_aload_n dX0_undo_9 rfl ?_
    obtain ⟨v2, hv2, hF⟩ := po_b hF
    refine pr_getR dX0_undo_10 tf_0_63 (hv2) ?_
    refine pr_aload_n dX0_undo_13 rfl ?_
    obtain ⟨v3, hv3, hF⟩ := po_b hF
    refine pr_getR dX0_undo_14 tf_0_70 (hv3) ?_
    obtain ⟨q4, hq4, hF⟩ := po_b hF
    refine po_i hq4 (fun hcl hq => ?_) (fun _ hq => nomatch hq)
    refine pr_V (as := [.ref v3]) (rest := []) dX0_undo_17 cv_0_172 hcl rfl rfl rfl rfl (lb rfl) (lb rfl) (lb rfl) (ok_F_X4_takes hq) ?_
    refine pr_pop dX0_undo_20 (pv_c _) ?_
    refine pr_iconst (v := 1) dX0_undo_21 (kc_1) ?_
    cases hF
    exact pr_iret dX0_undo_22 rfl nb_1 rfl

def L_X0_check_28 : Nat → Nat → Int32 → Int32 → pm_H → Option ((Int32 × pm_H) ⊕ (Unit))
  | 0, _, _, _, _ => none
  | n + 1, x0, x1, x2, h =>
    if x2 < x1 then
      (if pm_cl_ h x0 = some 0 then F_X0_fed h x0 x2 else none).bind fun q4 =>
      (pm_fR [(0, 0)] h x0).bind fun v5 =>
      (if pm_cl_ h v5 = some 1 then F_X1_isTold h v5 x2 else none).bind fun q6 =>
      ((
        if q6 = 0 then
          some 255
        else
          (pm_fR [(0, 0)] h x0).bind fun v7 =>
          (pm_fR [(1, 0)] h v7).bind fun v8 =>
          (pm_ai 0 h v8 x2).bind fun v9 =>
          some v9
      ) : Option (Int32)).bind fun q10 =>
      if q4 = q10 then
        L_X0_check_28 n x0 x1 (x2 + 1) h
      else
        some (.inl (x2, h))
    else
      some (.inr ())
theorem ok_L_X0_check_28 {d : Nat} : ∀ (n : Nat) {x0 : Nat} {x1 : Int32} {x2 : Int32} {h : pm_H} {q : (Int32 × pm_H) ⊕ (Unit)} {res : Option Value × pm_H}, L_X0_check_28 n x0 x1 x2 h = some q → (∀ r, q = .inl r → res = (some (.int r.1), r.2)) → (∀ e, q = .inr e → ∀ z2 : Value, pm_nolong z2 = true → pm_E (d + 1) 0 cX0_check (some .int) 75 [.ref x0, .int x1, z2] [] h res) → pm_E (d + 1) 0 cX0_check (some .int) 28 [.ref x0, .int x1, .int x2] [] h res := by
  intro n
  induction n with
  | zero =>
    intro x0 x1 x2 h q res hF hr hk
    rw [L_X0_check_28] at hF
    cases hF
  | succ n ih =>
    intro x0 x1 x2 h q res hF hr hk
    rw [L_X0_check_28] at hF
    refine pr_iload_n dX0_check_28 rfl ?_
    refine pr_iload_n dX0_check_29 rfl ?_
    refine po_i hF (fun hc hF => ?_) (fun hc hF => ?_)
    · refine pr_icF (tgt := 75) dX0_check_30 (by decide) (pc_geF hc) ?_
      refine pr_aload_n dX0_check_33 rfl ?_
      refine pr_iload_n dX0_check_34 rfl ?_
      obtain ⟨q4, hq4, hF⟩ := po_b hF
      refine po_i hq4 (fun hcl hq => ?_) (fun _ hq => nomatch hq)
      refine pr_V (as := [.int x2]) (rest := []) dX0_check_35 cv_0_258 hcl rfl rfl rfl rfl (lb rfl) (lb rfl) (lb rfl) (ok_F_X0_fed hq) ?_
      refine pr_aload_n dX0_check_38 rfl ?_
      obtain ⟨v5, hv5, hF⟩ := po_b hF
      refine pr_getR dX0_check_39 tf_0_16 (hv5) ?_
      refine pr_iload_n dX0_check_42 rfl ?_
      obtain ⟨q6, hq6, hF⟩ := po_b hF
      refine po_i hq6 (fun hcl hq => ?_) (fun _ hq => nomatch hq)
      refine pr_V (as := [.int x2]) (rest := [.int q4]) dX0_check_43 cv_0_168 hcl rfl rfl rfl rfl (lb rfl) (lb rfl) (lb rfl) (ok_F_X1_isTold hq) ?_
      obtain ⟨q10, hq10, hF⟩ := po_b hF
      have J64 : pm_E (d + 1) 0 cX0_check (some .int) 64 [.ref x0, .int x1, .int x2] [.int q10, .int q4] h res := by
        refine po_i hF (fun hc hF => ?_) (fun hc hF => ?_)
        · refine pr_icT (tgt := 69) dX0_check_64 (by decide) (pc_eqT hc) ?_
          refine pr_iinc (v := 1) (L' := [.ref x0, .int x1, .int (x2 + 1)]) dX0_check_69 rfl (kc_1) rfl ?_
          refine pr_goto (tgt := 28) dX0_check_72 (by decide) ?_
          exact ih hF hr hk
        · refine pr_icF (tgt := 69) dX0_check_64 (by decide) (pc_eqF hc) ?_
          refine pr_iload_n dX0_check_67 rfl ?_
          cases hF
          exact pr_iret dX0_check_68 rfl rfl (hr _ rfl)
      clear hF
      have hF := hq10
      refine po_i hF (fun hc hF => ?_) (fun hc hF => ?_)
      · refine pr_ifT (tgt := 61) dX0_check_46 (by decide) (pc_eqT hc) ?_
        refine pr_sipush (v := 255) dX0_check_61 (ks_255) ?_
        cases hF
        exact J64
      · refine pr_ifF (tgt := 61) dX0_check_46 (by decide) (pc_eqF hc) ?_
        refine pr_aload_n dX0_check_49 rfl ?_
        obtain ⟨v7, hv7, hF⟩ := po_b hF
        refine pr_getR dX0_check_50 tf_0_16 (hv7) ?_
        obtain ⟨v8, hv8, hF⟩ := po_b hF
        refine pr_getR dX0_check_53 tf_0_188 (hv8) ?_
        refine pr_iload_n dX0_check_56 rfl ?_
        obtain ⟨v9, hv9, hF⟩ := po_b hF
        refine pr_iald dX0_check_57 (hv9) ?_
        refine pr_goto (tgt := 64) dX0_check_58 (by decide) ?_
        cases hF
        exact J64
    · refine pr_icT (tgt := 75) dX0_check_30 (by decide) (pc_geT hc) ?_
      cases hF
      exact hk _ rfl _ rfl
def F_X0_check (n : Nat) (h : pm_H) (a0 : Nat) (x1 : Int32) : Option (Int32 × pm_H) :=
  (F_X0_within x1 0 16).bind fun q1 =>
  if q1 = 0 then
    some ((-2), h)
  else
    (pm_fI [(0, 8)] h a0).bind fun v2 =>
    if v2 < x1 then
      some ((-2), h)
    else
      (pm_put [(0, 8, 0)] h a0 (.int 0)).bind fun h3 =>
      (L_X0_check_28 n a0 x1 0 h3).bind fun q11 => po_s q11 (fun r => some r) fun e12 =>
      some ((-1), h3)
theorem ok_F_X0_check {d n : Nat} {h : pm_H} {a0 : Nat} {x1 : Int32} {q : Int32 × pm_H} (hF : F_X0_check n h a0 x1 = some q) : pm_E (d + 1) 0 cX0_check (some .int) 0 [.ref a0, .int x1, pm_D] [] h (some (.int q.1), q.2) := by
  unfold F_X0_check at hF
  refine pr_iload_n dX0_check_0 rfl ?_
  refine pr_iconst (v := 0) dX0_check_1 (kc_0) ?_
  refine pr_bipush (v := 16) dX0_check_2 (kb_16) ?_
  obtain ⟨q1, hq1, hF⟩ := po_b hF
  refine pr_S dX0_check_4 cs_0_120 (as := [.int x1, .int 0, .int 16]) (rest := []) rfl rfl rfl (lb rfl) (lb rfl) (lb rfl) (ok_F_X0_within hq1) ?_
  refine po_i hF (fun hc hF => ?_) (fun hc hF => ?_)
  · refine pr_ifT (tgt := 18) dX0_check_7 (by decide) (pc_eqT hc) ?_
    refine pr_bipush (v := (-2)) dX0_check_18 (kb_m2) ?_
    cases hF
    exact pr_iret dX0_check_20 rfl rfl rfl
  · refine pr_ifF (tgt := 18) dX0_check_7 (by decide) (pc_eqF hc) ?_
    refine pr_iload_n dX0_check_10 rfl ?_
    refine pr_aload_n dX0_check_11 rfl ?_
    obtain ⟨v2, hv2, hF⟩ := po_b hF
    refine pr_getI dX0_check_12 tf_0_113 (hv2) ?_
    refine po_i hF (fun hc hF => ?_) (fun hc hF => ?_)
    · refine pr_icF (tgt := 21) dX0_check_15 (by decide) (pc_leF hc) ?_
      refine pr_bipush (v := (-2)) dX0_check_18 (kb_m2) ?_
      cases hF
      exact pr_iret dX0_check_20 rfl rfl rfl
    · refine pr_icT (tgt := 21) dX0_check_15 (by decide) (pc_leT hc) ?_
      refine pr_aload_n dX0_check_21 rfl ?_
      refine pr_iconst (v := 0) dX0_check_22 (kc_0) ?_
      obtain ⟨h3, hh3, hF⟩ := po_b hF
      refine pr_put dX0_check_23 tp_0_113 (hh3) ?_
      refine pr_iconst (v := 0) dX0_check_26 (kc_0) ?_
      refine pr_istore_n (L' := [.ref a0, .int x1, .int 0]) dX0_check_27 rfl ?_
      obtain ⟨q11, hq11, hF⟩ := po_b hF
      refine ok_L_X0_check_28 n hq11 (fun r hq => ?_) (fun e12 hq z2 hz2 => ?_)
      · subst hq
        replace hF := po_sl hF
        cases hF
        exact rfl
      subst hq
      replace hF := po_sr hF
      refine pr_iconst (v := (-1)) dX0_check_75 (kc_m1) ?_
      cases hF
      exact pr_iret dX0_check_76 rfl rfl rfl

def L_X0_twos_16 : Nat → Int32 → Nat → Int32 → Int32 → pm_H → Option (Int32)
  | 0, _, _, _, _, _ => none
  | n + 1, x1, x2, x3, x4, h =>
    if x4 < x3 then
      (pm_ai 0 h x2 x4).bind fun v4 =>
      (F_J6_bitCount v4).bind fun q5 =>
      L_X0_twos_16 n (x1 + q5) x2 x3 (x4 + 1) h
    else
      some x1
theorem ok_L_X0_twos_16 {d : Nat} : ∀ (n : Nat) {x1 : Int32} {x2 : Nat} {x3 : Int32} {x4 : Int32} {w0 w5 : Value} {h : pm_H} {q : Int32} {res : Option Value × pm_H}, L_X0_twos_16 n x1 x2 x3 x4 h = some q → pm_nolong w0 = true → pm_nolong w5 = true → (∀ z4 : Value, pm_nolong z4 = true → ∀ z5 : Value, pm_nolong z5 = true → pm_E (d + 1) 0 cX0_twos (some .int) 42 [w0, .int q, .ref x2, .int x3, z4, z5] [] h res) → pm_E (d + 1) 0 cX0_twos (some .int) 16 [w0, .int x1, .ref x2, .int x3, .int x4, w5] [] h res := by
  intro n
  induction n with
  | zero =>
    intro x1 x2 x3 x4 w0 w5 h q res hF hw0 hw5 hk
    rw [L_X0_twos_16] at hF
    cases hF
  | succ n ih =>
    intro x1 x2 x3 x4 w0 w5 h q res hF hw0 hw5 hk
    rw [L_X0_twos_16] at hF
    refine pr_iload dX0_twos_16 rfl ?_
    refine pr_iload_n dX0_twos_18 rfl ?_
    refine po_i hF (fun hc hF => ?_) (fun hc hF => ?_)
    · refine pr_icF (tgt := 42) dX0_twos_19 (by decide) (pc_geF hc) ?_
      refine pr_aload_n dX0_twos_22 rfl ?_
      refine pr_iload dX0_twos_23 rfl ?_
      obtain ⟨v4, hv4, hF⟩ := po_b hF
      refine pr_iald dX0_twos_25 (hv4) ?_
      refine pr_istore (L' := [w0, .int x1, .ref x2, .int x3, .int x4, .int v4]) dX0_twos_26 rfl ?_
      refine pr_iload_n dX0_twos_28 rfl ?_
      refine pr_iload dX0_twos_29 rfl ?_
      obtain ⟨q5, hq5, hF⟩ := po_b hF
      refine pr_S dX0_twos_31 cs_0_214 (as := [.int v4]) (rest := [.int x1]) rfl rfl rfl (lb rfl) (lb rfl) (lb rfl) (ok_F_J6_bitCount hq5) ?_
      refine pr_iadd dX0_twos_34 ?_
      refine pr_istore_n (L' := [w0, .int (x1 + q5), .ref x2, .int x3, .int x4, .int v4]) dX0_twos_35 (pm_st_w (i := 0) rfl rfl hw0 rfl) ?_
      refine pr_iinc (v := 1) (L' := [w0, .int (x1 + q5), .ref x2, .int x3, .int (x4 + 1), .int v4]) dX0_twos_36 rfl (kc_1) rfl ?_
      refine pr_goto (tgt := 16) dX0_twos_39 (by decide) ?_
      exact ih hF hw0 rfl hk
    · refine pr_icT (tgt := 42) dX0_twos_19 (by decide) (pc_geT hc) ?_
      cases hF
      exact hk _ rfl _ hw5
def F_X0_twos (n : Nat) (h : pm_H) (a0 : Nat) : Option (Int32) :=
  (pm_fR [(0, 0)] h a0).bind fun v1 =>
  (pm_fR [(1, 1)] h v1).bind fun v2 =>
  (pm_len h v2).bind fun v3 =>
  (L_X0_twos_16 n 0 v2 v3 0 h).bind fun q6 =>
  some (q6 / 2)
theorem ok_F_X0_twos {d n : Nat} {h : pm_H} {a0 : Nat} {q : Int32} (hF : F_X0_twos n h a0 = some q) : pm_E (d + 1) 0 cX0_twos (some .int) 0 [.ref a0, pm_D, pm_D, pm_D, pm_D, pm_D] [] h (some (.int q), h) := by
  unfold F_X0_twos at hF
  refine pr_iconst (v := 0) dX0_twos_0 (kc_0) ?_
  refine pr_istore_n (L' := [.ref a0, .int 0, pm_D, pm_D, pm_D, pm_D]) dX0_twos_1 rfl ?_
  refine pr_aload_n dX0_twos_2 rfl ?_
  obtain ⟨v1, hv1, hF⟩ := po_b hF
  refine pr_getR dX0_twos_3 tf_0_16 (hv1) ?_
  obtain ⟨v2, hv2, hF⟩ := po_b hF
  refine pr_getR dX0_twos_6 tf_0_194 (hv2) ?_
  refine pr_astore_n (L' := [.ref a0, .int 0, .ref v2, pm_D, pm_D, pm_D]) dX0_twos_9 (Or.inr ⟨_, rfl⟩) rfl ?_
  refine pr_aload_n dX0_twos_10 rfl ?_
  obtain ⟨v3, hv3, hF⟩ := po_b hF
  refine pr_alen dX0_twos_11 (hv3) ?_
  refine pr_istore_n (L' := [.ref a0, .int 0, .ref v2, .int v3, pm_D, pm_D]) dX0_twos_12 rfl ?_
  refine pr_iconst (v := 0) dX0_twos_13 (kc_0) ?_
  refine pr_istore (L' := [.ref a0, .int 0, .ref v2, .int v3, .int 0, pm_D]) dX0_twos_14 rfl ?_
  obtain ⟨q6, hq6, hF⟩ := po_b hF
  refine ok_L_X0_twos_16 n hq6 rfl rfl (fun z4 hz4 z5 hz5 => ?_)
  refine pr_iload_n dX0_twos_42 rfl ?_
  refine pr_iconst (v := 2) dX0_twos_43 (kc_2) ?_
  refine pr_idiv dX0_twos_44 (by decide) ?_
  cases hF
  exact pr_iret dX0_twos_45 rfl rfl rfl

def L_X0_favoursOfAll_4 : Nat → Nat → Int32 → Int32 → pm_H → Option (Int32)
  | 0, _, _, _, _ => none
  | n + 1, x0, x1, x2, h =>
    if x2 < 16 then
      (pm_fR [(0, 3)] h x0).bind fun v1 =>
      (if pm_cl_ h v1 = some 3 then F_X4_favoursOf n h v1 x2 0 else none).bind fun q2 =>
      L_X0_favoursOfAll_4 n x0 (x1 + q2) (x2 + 1) h
    else
      some x1
theorem ok_L_X0_favoursOfAll_4 {d : Nat} : ∀ (n : Nat) {x0 : Nat} {x1 : Int32} {x2 : Int32} {h : pm_H} {q : Int32} {res : Option Value × pm_H}, L_X0_favoursOfAll_4 n x0 x1 x2 h = some q → (∀ z2 : Value, pm_nolong z2 = true → pm_E (d + 1) 0 cX0_favoursOfAll (some .int) 28 [.ref x0, .int q, z2] [] h res) → pm_E (d + 1) 0 cX0_favoursOfAll (some .int) 4 [.ref x0, .int x1, .int x2] [] h res := by
  intro n
  induction n with
  | zero =>
    intro x0 x1 x2 h q res hF hk
    rw [L_X0_favoursOfAll_4] at hF
    cases hF
  | succ n ih =>
    intro x0 x1 x2 h q res hF hk
    rw [L_X0_favoursOfAll_4] at hF
    refine pr_iload_n dX0_favoursOfAll_4 rfl ?_
    refine pr_bipush (v := 16) dX0_favoursOfAll_5 (kb_16) ?_
    refine po_i hF (fun hc hF => ?_) (fun hc hF => ?_)
    · refine pr_icF (tgt := 28) dX0_favoursOfAll_7 (by decide) (pc_geF hc) ?_
      refine pr_iload_n dX0_favoursOfAll_10 rfl ?_
      refine pr_aload_n dX0_favoursOfAll_11 rfl ?_
      obtain ⟨v1, hv1, hF⟩ := po_b hF
      refine pr_getR dX0_favoursOfAll_12 tf_0_63 (hv1) ?_
      refine pr_iload_n dX0_favoursOfAll_15 rfl ?_
      refine pr_iconst (v := 0) dX0_favoursOfAll_16 (kc_0) ?_
      obtain ⟨q2, hq2, hF⟩ := po_b hF
      refine po_i hq2 (fun hcl hq => ?_) (fun _ hq => nomatch hq)
      refine pr_V (as := [.int x2, .int 0]) (rest := [.int x1]) dX0_favoursOfAll_17 cv_0_184 hcl rfl rfl rfl rfl (lb rfl) (lb rfl) (lb rfl) (ok_F_X4_favoursOf hq) ?_
      refine pr_iadd dX0_favoursOfAll_20 ?_
      refine pr_istore_n (L' := [.ref x0, .int (x1 + q2), .int x2]) dX0_favoursOfAll_21 rfl ?_
      refine pr_iinc (v := 1) (L' := [.ref x0, .int (x1 + q2), .int (x2 + 1)]) dX0_favoursOfAll_22 rfl (kc_1) rfl ?_
      refine pr_goto (tgt := 4) dX0_favoursOfAll_25 (by decide) ?_
      exact ih hF hk
    · refine pr_icT (tgt := 28) dX0_favoursOfAll_7 (by decide) (pc_geT hc) ?_
      cases hF
      exact hk _ rfl
def F_X0_favoursOfAll (n : Nat) (h : pm_H) (a0 : Nat) : Option (Int32) :=
  (L_X0_favoursOfAll_4 n a0 0 0 h).bind fun q3 =>
  some q3
theorem ok_F_X0_favoursOfAll {d n : Nat} {h : pm_H} {a0 : Nat} {q : Int32} (hF : F_X0_favoursOfAll n h a0 = some q) : pm_E (d + 1) 0 cX0_favoursOfAll (some .int) 0 [.ref a0, pm_D, pm_D] [] h (some (.int q), h) := by
  unfold F_X0_favoursOfAll at hF
  refine pr_iconst (v := 0) dX0_favoursOfAll_0 (kc_0) ?_
  refine pr_istore_n (L' := [.ref a0, .int 0, pm_D]) dX0_favoursOfAll_1 rfl ?_
  refine pr_iconst (v := 0) dX0_favoursOfAll_2 (kc_0) ?_
  refine pr_istore_n (L' := [.ref a0, .int 0, .int 0]) dX0_favoursOfAll_3 rfl ?_
  obtain ⟨q3, hq3, hF⟩ := po_b hF
  refine ok_L_X0_favoursOfAll_4 n hq3 (fun z2 hz2 => ?_)
  refine pr_iload_n dX0_favoursOfAll_28 rfl ?_
  cases hF
  exact pr_iret dX0_favoursOfAll_29 rfl rfl rfl

def F_X0_count (n : Nat) (h : pm_H) (a0 : Nat) (x1 : Int32) : Option (Int32) :=
  if x1.toInt < 0 ∨ 8 < x1.toInt then
    some (-1)
  else if x1 = 0 then
    (pm_fR [(0, 3)] h a0).bind fun v1 =>
    (pm_fI [(3, 3)] h v1).bind fun v2 =>
    some v2
  else if x1 = 1 then
    (pm_fR [(0, 0)] h a0).bind fun v3 =>
    (pm_fI [(1, 2)] h v3).bind fun v4 =>
    some v4
  else if x1 = 2 then
    (pm_fR [(0, 0)] h a0).bind fun v5 =>
    (pm_fI [(1, 2)] h v5).bind fun v6 =>
    (pm_fR [(0, 0)] h a0).bind fun v7 =>
    (pm_fI [(1, 3)] h v7).bind fun v8 =>
    some (v6 &&& v8)
  else if x1 = 3 then
    (if pm_cl_ h a0 = some 0 then F_X0_twos n h a0 else none).bind fun q9 =>
    some q9
  else if x1 = 4 then
    (if pm_cl_ h a0 = some 0 then F_X0_favoursOfAll n h a0 else none).bind fun q10 =>
    some q10
  else if x1 = 5 then
    (pm_fR [(0, 7)] h a0).bind fun v11 =>
    (pm_fI [(4, 3)] h v11).bind fun v12 =>
    some v12
  else if x1 = 6 then
    (pm_fI [(0, 8)] h a0).bind fun v13 =>
    some v13
  else if x1 = 7 then
    (pm_fR [(0, 3)] h a0).bind fun v14 =>
    (pm_fI [(3, 4)] h v14).bind fun v15 =>
    some v15
  else if x1 = 8 then
    (pm_fR [(0, 3)] h a0).bind fun v16 =>
    (if pm_cl_ h v16 = some 3 then F_X4_nightsOfAll n h v16 else none).bind fun q17 =>
    some q17
  else none
theorem ok_F_X0_count {d n : Nat} {h : pm_H} {a0 : Nat} {x1 : Int32} {q : Int32} (hF : F_X0_count n h a0 x1 = some q) : pm_E (d + 2) 0 cX0_count (some .int) 0 [.ref a0, .int x1] [] h (some (.int q), h) := by
  unfold F_X0_count at hF
  refine pr_iload_n dX0_count_0 rfl ?_
  refine po_i hF (fun hc hF => ?_) (fun hc hF => ?_)
  · refine pr_tabO (tgt := 123) dX0_count_1 hc (by decide) ?_
    refine pr_iconst (v := (-1)) dX0_count_123 (kc_m1) ?_
    cases hF
    exact pr_iret dX0_count_124 rfl rfl rfl
  refine po_i hF (fun he hF => ?_) (fun he0 hF => ?_)
  · refine pr_tabI (off := 51) (tgt := 52) dX0_count_1 hc (by rw [he]; rfl) (by decide) ?_
    refine pr_aload_n dX0_count_52 rfl ?_
    obtain ⟨v1, hv1, hF⟩ := po_b hF
    refine pr_getR dX0_count_53 tf_0_63 (hv1) ?_
    obtain ⟨v2, hv2, hF⟩ := po_b hF
    refine pr_getI dX0_count_56 tf_0_279 (hv2) ?_
    cases hF
    exact pr_iret dX0_count_59 rfl rfl rfl
  refine po_i hF (fun he hF => ?_) (fun he1 hF => ?_)
  · refine pr_tabI (off := 59) (tgt := 60) dX0_count_1 hc (by rw [he]; rfl) (by decide) ?_
    refine pr_aload_n dX0_count_60 rfl ?_
    obtain ⟨v3, hv3, hF⟩ := po_b hF
    refine pr_getR dX0_count_61 tf_0_16 (hv3) ?_
    obtain ⟨v4, hv4, hF⟩ := po_b hF
    refine pr_getI dX0_count_64 tf_0_22 (hv4) ?_
    cases hF
    exact pr_iret dX0_count_67 rfl rfl rfl
  refine po_i hF (fun he hF => ?_) (fun he2 hF => ?_)
  · refine pr_tabI (off := 67) (tgt := 68) dX0_count_1 hc (by rw [he]; rfl) (by decide) ?_
    refine pr_aload_n dX0_count_68 rfl ?_
    obtain ⟨v5, hv5, hF⟩ := po_b hF
    refine pr_getR dX0_count_69 tf_0_16 (hv5) ?_
    obtain ⟨v6, hv6, hF⟩ := po_b hF
    refine pr_getI dX0_count_72 tf_0_22 (hv6) ?_
    refine pr_aload_n dX0_count_75 rfl ?_
    obtain ⟨v7, hv7, hF⟩ := po_b hF
    refine pr_getR dX0_count_76 tf_0_16 (hv7) ?_
    obtain ⟨v8, hv8, hF⟩ := po_b hF
    refine pr_getI dX0_count_79 tf_0_152 (hv8) ?_
    refine pr_iand dX0_count_82 ?_
    cases hF
    exact pr_iret dX0_count_83 rfl rfl rfl
  refine po_i hF (fun he hF => ?_) (fun he3 hF => ?_)
  · refine pr_tabI (off := 83) (tgt := 84) dX0_count_1 hc (by rw [he]; rfl) (by decide) ?_
    refine pr_aload_n dX0_count_84 rfl ?_
    obtain ⟨q9, hq9, hF⟩ := po_b hF
    refine po_i hq9 (fun hcl hq => ?_) (fun _ hq => nomatch hq)
    refine pr_V (as := []) (rest := []) dX0_count_85 cv_0_282 hcl rfl rfl rfl rfl (lb rfl) (lb rfl) (lb rfl) (ok_F_X0_twos hq) ?_
    cases hF
    exact pr_iret dX0_count_88 rfl rfl rfl
  refine po_i hF (fun he hF => ?_) (fun he4 hF => ?_)
  · refine pr_tabI (off := 88) (tgt := 89) dX0_count_1 hc (by rw [he]; rfl) (by decide) ?_
    refine pr_aload_n dX0_count_89 rfl ?_
    obtain ⟨q10, hq10, hF⟩ := po_b hF
    refine po_i hq10 (fun hcl hq => ?_) (fun _ hq => nomatch hq)
    refine pr_V (as := []) (rest := []) dX0_count_90 cv_0_285 hcl rfl rfl rfl rfl (lb rfl) (lb rfl) (lb rfl) (ok_F_X0_favoursOfAll hq) ?_
    cases hF
    exact pr_iret dX0_count_93 rfl rfl rfl
  refine po_i hF (fun he hF => ?_) (fun he5 hF => ?_)
  · refine pr_tabI (off := 93) (tgt := 94) dX0_count_1 hc (by rw [he]; rfl) (by decide) ?_
    refine pr_aload_n dX0_count_94 rfl ?_
    obtain ⟨v11, hv11, hF⟩ := po_b hF
    refine pr_getR dX0_count_95 tf_0_28 (hv11) ?_
    obtain ⟨v12, hv12, hF⟩ := po_b hF
    refine pr_getI dX0_count_98 tf_0_288 (hv12) ?_
    cases hF
    exact pr_iret dX0_count_101 rfl rfl rfl
  refine po_i hF (fun he hF => ?_) (fun he6 hF => ?_)
  · refine pr_tabI (off := 101) (tgt := 102) dX0_count_1 hc (by rw [he]; rfl) (by decide) ?_
    refine pr_aload_n dX0_count_102 rfl ?_
    obtain ⟨v13, hv13, hF⟩ := po_b hF
    refine pr_getI dX0_count_103 tf_0_113 (hv13) ?_
    cases hF
    exact pr_iret dX0_count_106 rfl rfl rfl
  refine po_i hF (fun he hF => ?_) (fun he7 hF => ?_)
  · refine pr_tabI (off := 106) (tgt := 107) dX0_count_1 hc (by rw [he]; rfl) (by decide) ?_
    refine pr_aload_n dX0_count_107 rfl ?_
    obtain ⟨v14, hv14, hF⟩ := po_b hF
    refine pr_getR dX0_count_108 tf_0_63 (hv14) ?_
    obtain ⟨v15, hv15, hF⟩ := po_b hF
    refine pr_getI dX0_count_111 tf_0_110 (hv15) ?_
    cases hF
    exact pr_iret dX0_count_114 rfl rfl rfl
  refine po_i hF (fun he hF => ?_) (fun he8 hF => ?_)
  · refine pr_tabI (off := 114) (tgt := 115) dX0_count_1 hc (by rw [he]; rfl) (by decide) ?_
    refine pr_aload_n dX0_count_115 rfl ?_
    obtain ⟨v16, hv16, hF⟩ := po_b hF
    refine pr_getR dX0_count_116 tf_0_63 (hv16) ?_
    obtain ⟨q17, hq17, hF⟩ := po_b hF
    refine po_i hq17 (fun hcl hq => ?_) (fun _ hq => nomatch hq)
    refine pr_V (as := []) (rest := []) dX0_count_119 cv_0_178 hcl rfl rfl rfl rfl (lb rfl) (lb rfl) (lb rfl) (ok_F_X4_nightsOfAll hq) ?_
    cases hF
    exact pr_iret dX0_count_122 rfl rfl rfl
  cases hF

def F_X6_init (h : pm_H) (a0 : Nat) : Option (pm_H) :=
  (pm_na h 0 274).bind fun h1 =>
  (pm_put [(5, 0, 2)] h1 a0 (.ref h.2.1)).bind fun h2 =>
  (pm_na h2 0 274).bind fun h3 =>
  (pm_put [(5, 1, 2)] h3 a0 (.ref h2.2.1)).bind fun h4 =>
  (pm_na h4 0 274).bind fun h5 =>
  (pm_put [(5, 2, 2)] h5 a0 (.ref h4.2.1)).bind fun h6 =>
  (pm_na h6 0 16).bind fun h7 =>
  (pm_put [(5, 3, 2)] h7 a0 (.ref h6.2.1)).bind fun h8 =>
  (pm_na h8 0 16).bind fun h9 =>
  (pm_put [(5, 4, 2)] h9 a0 (.ref h8.2.1)).bind fun h10 =>
  (pm_na h10 0 16).bind fun h11 =>
  (pm_put [(5, 5, 2)] h11 a0 (.ref h10.2.1)).bind fun h12 =>
  (pm_na h12 0 16).bind fun h13 =>
  (pm_put [(5, 6, 2)] h13 a0 (.ref h12.2.1)).bind fun h14 =>
  (pm_na h14 1 260).bind fun h15 =>
  (pm_put [(5, 11, 2)] h15 a0 (.ref h14.2.1)).bind fun h16 =>
  (pm_na h16 0 260).bind fun h17 =>
  (pm_put [(5, 22, 2)] h17 a0 (.ref h16.2.1)).bind fun h18 =>
  (pm_na h18 0 260).bind fun h19 =>
  (pm_put [(5, 23, 2)] h19 a0 (.ref h18.2.1)).bind fun h20 =>
  (pm_na h20 0 16).bind fun h21 =>
  (pm_put [(5, 24, 2)] h21 a0 (.ref h20.2.1)).bind fun h22 =>
  (pm_na h22 0 16).bind fun h23 =>
  (pm_put [(5, 25, 2)] h23 a0 (.ref h22.2.1)).bind fun h24 =>
  (pm_na h24 0 16).bind fun h25 =>
  (pm_put [(5, 26, 2)] h25 a0 (.ref h24.2.1)).bind fun h26 =>
  (pm_na h26 0 16).bind fun h27 =>
  (pm_put [(5, 27, 2)] h27 a0 (.ref h26.2.1)).bind fun h28 =>
  (pm_na h28 0 260).bind fun h29 =>
  (pm_put [(5, 28, 2)] h29 a0 (.ref h28.2.1)).bind fun h30 =>
  (pm_na h30 0 16).bind fun h31 =>
  (pm_put [(5, 29, 2)] h31 a0 (.ref h30.2.1)).bind fun h32 =>
  (pm_na h32 0 16).bind fun h33 =>
  (pm_put [(5, 30, 2)] h33 a0 (.ref h32.2.1)).bind fun h34 =>
  (pm_na h34 0 16).bind fun h35 =>
  (pm_put [(5, 31, 2)] h35 a0 (.ref h34.2.1)).bind fun h36 =>
  (pm_na h36 0 16).bind fun h37 =>
  (pm_put [(5, 32, 2)] h37 a0 (.ref h36.2.1)).bind fun h38 =>
  (pm_na h38 0 260).bind fun h39 =>
  (pm_put [(5, 33, 2)] h39 a0 (.ref h38.2.1)).bind fun h40 =>
  (pm_na h40 0 10).bind fun h41 =>
  (pm_put [(5, 34, 2)] h41 a0 (.ref h40.2.1)).bind fun h42 =>
  (pm_na h42 0 16).bind fun h43 =>
  (pm_put [(5, 36, 2)] h43 a0 (.ref h42.2.1)).bind fun h44 =>
  (pm_na h44 0 16).bind fun h45 =>
  (pm_put [(5, 40, 2)] h45 a0 (.ref h44.2.1)).bind fun h46 =>
  (pm_na h46 2 65536).bind fun h47 =>
  (pm_put [(5, 45, 2)] h47 a0 (.ref h46.2.1)).bind fun h48 =>
  (pm_na h48 0 16).bind fun h49 =>
  (pm_put [(5, 46, 2)] h49 a0 (.ref h48.2.1)).bind fun h50 =>
  (pm_na h50 0 65536).bind fun h51 =>
  (pm_put [(5, 47, 2)] h51 a0 (.ref h50.2.1)).bind fun h52 =>
  (pm_na h52 0 256).bind fun h53 =>
  (pm_put [(5, 48, 2)] h53 a0 (.ref h52.2.1)).bind fun h54 =>
  (pm_na h54 0 8).bind fun h55 =>
  (pm_put [(5, 49, 2)] h55 a0 (.ref h54.2.1)).bind fun h56 =>
  (pm_na h56 0 2048).bind fun h57 =>
  (pm_put [(5, 50, 2)] h57 a0 (.ref h56.2.1)).bind fun h58 =>
  (pm_fR [(5, 0)] h58 a0).bind fun v59 =>
  (pm_si 0 h58 v59 273 1).bind fun h60 =>
  some h60
theorem ok_F_X6_init {d : Nat} {h : pm_H} {a0 : Nat} {q : pm_H} (hF : F_X6_init h a0 = some q) : pm_E (d + 0) 56 cX6_init (none) 0 [.ref a0] [] h (none, q) := by
  unfold F_X6_init at hF
  refine pr_aload_n dX6_init_0 rfl ?_
  refine pr_objI dX6_init_1 rfl rfl (lb rfl) ?_
  refine pr_aload_n dX6_init_4 rfl ?_
  refine pr_sipush (v := 274) dX6_init_5 (ks_274) ?_
  obtain ⟨h1, hh1, hF⟩ := po_b hF
  refine pr_newa (t := 0) dX6_init_8 rfl (hh1) ?_
  obtain ⟨h2, hh2, hF⟩ := po_b hF
  refine pr_put dX6_init_10 tp_56_7 (hh2) ?_
  refine pr_aload_n dX6_init_13 rfl ?_
  refine pr_sipush (v := 274) dX6_init_14 (ks_274) ?_
  obtain ⟨h3, hh3, hF⟩ := po_b hF
  refine pr_newa (t := 0) dX6_init_17 rfl (hh3) ?_
  obtain ⟨h4, hh4, hF⟩ := po_b hF
  refine pr_put dX6_init_19 tp_56_13 (hh4) ?_
  refine pr_aload_n dX6_init_22 rfl ?_
  refine pr_sipush (v := 274) dX6_init_23 (ks_274) ?_
  obtain ⟨h5, hh5, hF⟩ := po_b hF
  refine pr_newa (t := 0) dX6_init_26 rfl (hh5) ?_
  obtain ⟨h6, hh6, hF⟩ := po_b hF
  refine pr_put dX6_init_28 tp_56_16 (hh6) ?_
  refine pr_aload_n dX6_init_31 rfl ?_
  refine pr_bipush (v := 16) dX6_init_32 (kb_16) ?_
  obtain ⟨h7, hh7, hF⟩ := po_b hF
  refine pr_newa (t := 0) dX6_init_34 rfl (hh7) ?_
  obtain ⟨h8, hh8, hF⟩ := po_b hF
  refine pr_put dX6_init_36 tp_56_19 (hh8) ?_
  refine pr_aload_n dX6_init_39 rfl ?_
  refine pr_bipush (v := 16) dX6_init_40 (kb_16) ?_
  obtain ⟨h9, hh9, hF⟩ := po_b hF
  refine pr_newa (t := 0) dX6_init_42 rfl (hh9) ?_
  obtain ⟨h10, hh10, hF⟩ := po_b hF
  refine pr_put dX6_init_44 tp_56_22 (hh10) ?_
  refine pr_aload_n dX6_init_47 rfl ?_
  refine pr_bipush (v := 16) dX6_init_48 (kb_16) ?_
  obtain ⟨h11, hh11, hF⟩ := po_b hF
  refine pr_newa (t := 0) dX6_init_50 rfl (hh11) ?_
  obtain ⟨h12, hh12, hF⟩ := po_b hF
  refine pr_put dX6_init_52 tp_56_25 (hh12) ?_
  refine pr_aload_n dX6_init_55 rfl ?_
  refine pr_bipush (v := 16) dX6_init_56 (kb_16) ?_
  obtain ⟨h13, hh13, hF⟩ := po_b hF
  refine pr_newa (t := 0) dX6_init_58 rfl (hh13) ?_
  obtain ⟨h14, hh14, hF⟩ := po_b hF
  refine pr_put dX6_init_60 tp_56_28 (hh14) ?_
  refine pr_aload_n dX6_init_63 rfl ?_
  refine pr_sipush (v := 260) dX6_init_64 (ks_260) ?_
  obtain ⟨h15, hh15, hF⟩ := po_b hF
  refine pr_newa (t := 1) dX6_init_67 rfl (hh15) ?_
  obtain ⟨h16, hh16, hF⟩ := po_b hF
  refine pr_put dX6_init_69 tp_56_31 (hh16) ?_
  refine pr_aload_n dX6_init_72 rfl ?_
  refine pr_sipush (v := 260) dX6_init_73 (ks_260) ?_
  obtain ⟨h17, hh17, hF⟩ := po_b hF
  refine pr_newa (t := 0) dX6_init_76 rfl (hh17) ?_
  obtain ⟨h18, hh18, hF⟩ := po_b hF
  refine pr_put dX6_init_78 tp_56_35 (hh18) ?_
  refine pr_aload_n dX6_init_81 rfl ?_
  refine pr_sipush (v := 260) dX6_init_82 (ks_260) ?_
  obtain ⟨h19, hh19, hF⟩ := po_b hF
  refine pr_newa (t := 0) dX6_init_85 rfl (hh19) ?_
  obtain ⟨h20, hh20, hF⟩ := po_b hF
  refine pr_put dX6_init_87 tp_56_38 (hh20) ?_
  refine pr_aload_n dX6_init_90 rfl ?_
  refine pr_bipush (v := 16) dX6_init_91 (kb_16) ?_
  obtain ⟨h21, hh21, hF⟩ := po_b hF
  refine pr_newa (t := 0) dX6_init_93 rfl (hh21) ?_
  obtain ⟨h22, hh22, hF⟩ := po_b hF
  refine pr_put dX6_init_95 tp_56_41 (hh22) ?_
  refine pr_aload_n dX6_init_98 rfl ?_
  refine pr_bipush (v := 16) dX6_init_99 (kb_16) ?_
  obtain ⟨h23, hh23, hF⟩ := po_b hF
  refine pr_newa (t := 0) dX6_init_101 rfl (hh23) ?_
  obtain ⟨h24, hh24, hF⟩ := po_b hF
  refine pr_put dX6_init_103 tp_56_44 (hh24) ?_
  refine pr_aload_n dX6_init_106 rfl ?_
  refine pr_bipush (v := 16) dX6_init_107 (kb_16) ?_
  obtain ⟨h25, hh25, hF⟩ := po_b hF
  refine pr_newa (t := 0) dX6_init_109 rfl (hh25) ?_
  obtain ⟨h26, hh26, hF⟩ := po_b hF
  refine pr_put dX6_init_111 tp_56_47 (hh26) ?_
  refine pr_aload_n dX6_init_114 rfl ?_
  refine pr_bipush (v := 16) dX6_init_115 (kb_16) ?_
  obtain ⟨h27, hh27, hF⟩ := po_b hF
  refine pr_newa (t := 0) dX6_init_117 rfl (hh27) ?_
  obtain ⟨h28, hh28, hF⟩ := po_b hF
  refine pr_put dX6_init_119 tp_56_50 (hh28) ?_
  refine pr_aload_n dX6_init_122 rfl ?_
  refine pr_sipush (v := 260) dX6_init_123 (ks_260) ?_
  obtain ⟨h29, hh29, hF⟩ := po_b hF
  refine pr_newa (t := 0) dX6_init_126 rfl (hh29) ?_
  obtain ⟨h30, hh30, hF⟩ := po_b hF
  refine pr_put dX6_init_128 tp_56_53 (hh30) ?_
  refine pr_aload_n dX6_init_131 rfl ?_
  refine pr_bipush (v := 16) dX6_init_132 (kb_16) ?_
  obtain ⟨h31, hh31, hF⟩ := po_b hF
  refine pr_newa (t := 0) dX6_init_134 rfl (hh31) ?_
  obtain ⟨h32, hh32, hF⟩ := po_b hF
  refine pr_put dX6_init_136 tp_56_56 (hh32) ?_
  refine pr_aload_n dX6_init_139 rfl ?_
  refine pr_bipush (v := 16) dX6_init_140 (kb_16) ?_
  obtain ⟨h33, hh33, hF⟩ := po_b hF
  refine pr_newa (t := 0) dX6_init_142 rfl (hh33) ?_
  obtain ⟨h34, hh34, hF⟩ := po_b hF
  refine pr_put dX6_init_144 tp_56_59 (hh34) ?_
  refine pr_aload_n dX6_init_147 rfl ?_
  refine pr_bipush (v := 16) dX6_init_148 (kb_16) ?_
  obtain ⟨h35, hh35, hF⟩ := po_b hF
  refine pr_newa (t := 0) dX6_init_150 rfl (hh35) ?_
  obtain ⟨h36, hh36, hF⟩ := po_b hF
  refine pr_put dX6_init_152 tp_56_62 (hh36) ?_
  refine pr_aload_n dX6_init_155 rfl ?_
  refine pr_bipush (v := 16) dX6_init_156 (kb_16) ?_
  obtain ⟨h37, hh37, hF⟩ := po_b hF
  refine pr_newa (t := 0) dX6_init_158 rfl (hh37) ?_
  obtain ⟨h38, hh38, hF⟩ := po_b hF
  refine pr_put dX6_init_160 tp_56_65 (hh38) ?_
  refine pr_aload_n dX6_init_163 rfl ?_
  refine pr_sipush (v := 260) dX6_init_164 (ks_260) ?_
  obtain ⟨h39, hh39, hF⟩ := po_b hF
  refine pr_newa (t := 0) dX6_init_167 rfl (hh39) ?_
  obtain ⟨h40, hh40, hF⟩ := po_b hF
  refine pr_put dX6_init_169 tp_56_68 (hh40) ?_
  refine pr_aload_n dX6_init_172 rfl ?_
  refine pr_bipush (v := 10) dX6_init_173 (kb_10) ?_
  obtain ⟨h41, hh41, hF⟩ := po_b hF
  refine pr_newa (t := 0) dX6_init_175 rfl (hh41) ?_
  obtain ⟨h42, hh42, hF⟩ := po_b hF
  refine pr_put dX6_init_177 tp_56_71 (hh42) ?_
  refine pr_aload_n dX6_init_180 rfl ?_
  refine pr_bipush (v := 16) dX6_init_181 (kb_16) ?_
  obtain ⟨h43, hh43, hF⟩ := po_b hF
  refine pr_newa (t := 0) dX6_init_183 rfl (hh43) ?_
  obtain ⟨h44, hh44, hF⟩ := po_b hF
  refine pr_put dX6_init_185 tp_56_74 (hh44) ?_
  refine pr_aload_n dX6_init_188 rfl ?_
  refine pr_bipush (v := 16) dX6_init_189 (kb_16) ?_
  obtain ⟨h45, hh45, hF⟩ := po_b hF
  refine pr_newa (t := 0) dX6_init_191 rfl (hh45) ?_
  obtain ⟨h46, hh46, hF⟩ := po_b hF
  refine pr_put dX6_init_193 tp_56_77 (hh46) ?_
  refine pr_aload_n dX6_init_196 rfl ?_
  refine pr_ldc (v := 65536) dX6_init_197 rfl ?_
  obtain ⟨h47, hh47, hF⟩ := po_b hF
  refine pr_newa (t := 2) dX6_init_199 rfl (hh47) ?_
  obtain ⟨h48, hh48, hF⟩ := po_b hF
  refine pr_put dX6_init_201 tp_56_81 (hh48) ?_
  refine pr_aload_n dX6_init_204 rfl ?_
  refine pr_bipush (v := 16) dX6_init_205 (kb_16) ?_
  obtain ⟨h49, hh49, hF⟩ := po_b hF
  refine pr_newa (t := 0) dX6_init_207 rfl (hh49) ?_
  obtain ⟨h50, hh50, hF⟩ := po_b hF
  refine pr_put dX6_init_209 tp_56_85 (hh50) ?_
  refine pr_aload_n dX6_init_212 rfl ?_
  refine pr_ldc (v := 65536) dX6_init_213 rfl ?_
  obtain ⟨h51, hh51, hF⟩ := po_b hF
  refine pr_newa (t := 0) dX6_init_215 rfl (hh51) ?_
  obtain ⟨h52, hh52, hF⟩ := po_b hF
  refine pr_put dX6_init_217 tp_56_88 (hh52) ?_
  refine pr_aload_n dX6_init_220 rfl ?_
  refine pr_sipush (v := 256) dX6_init_221 (ks_256) ?_
  obtain ⟨h53, hh53, hF⟩ := po_b hF
  refine pr_newa (t := 0) dX6_init_224 rfl (hh53) ?_
  obtain ⟨h54, hh54, hF⟩ := po_b hF
  refine pr_put dX6_init_226 tp_56_91 (hh54) ?_
  refine pr_aload_n dX6_init_229 rfl ?_
  refine pr_bipush (v := 8) dX6_init_230 (kb_8) ?_
  obtain ⟨h55, hh55, hF⟩ := po_b hF
  refine pr_newa (t := 0) dX6_init_232 rfl (hh55) ?_
  obtain ⟨h56, hh56, hF⟩ := po_b hF
  refine pr_put dX6_init_234 tp_56_94 (hh56) ?_
  refine pr_aload_n dX6_init_237 rfl ?_
  refine pr_sipush (v := 2048) dX6_init_238 (ks_2048) ?_
  obtain ⟨h57, hh57, hF⟩ := po_b hF
  refine pr_newa (t := 0) dX6_init_241 rfl (hh57) ?_
  obtain ⟨h58, hh58, hF⟩ := po_b hF
  refine pr_put dX6_init_243 tp_56_97 (hh58) ?_
  refine pr_aload_n dX6_init_246 rfl ?_
  obtain ⟨v59, hv59, hF⟩ := po_b hF
  refine pr_getR dX6_init_247 tf_56_7 (hv59) ?_
  refine pr_sipush (v := 273) dX6_init_250 (ks_273) ?_
  refine pr_iconst (v := 1) dX6_init_253 (kc_1) ?_
  obtain ⟨h60, hh60, hF⟩ := po_b hF
  refine pr_iast dX6_init_254 (hh60) ?_
  cases hF
  exact pr_vret dX6_init_255 rfl rfl
