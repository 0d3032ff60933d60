set_option maxRecDepth 100000
def L_X6_twos_4 : Nat → Nat → Int32 → Int32 → pm_H → Option (Int32)
  | 0, _, _, _, _ => none
  | n + 1, x0, x1, x2, h =>
    if x2 < 16 then
      (pm_fR [(5, 4)] h x0).bind fun v1 =>
      (pm_ai 0 h v1 x2).bind fun v2 =>
      (F_X6_bits n v2).bind fun q3 =>
      L_X6_twos_4 n x0 (x1 + q3) (x2 + 1) h
    else
      some x1
theorem ok_L_X6_twos_4 {d : Nat} : ∀ (n : Nat) {x0 : Nat} {x1 : Int32} {x2 : Int32} {h : pm_H} {q : Int32} {res : Option Value × pm_H}, L_X6_twos_4 n x0 x1 x2 h = some q → (∀ z2 : Value, pm_nolong z2 = true → pm_E (d + 1) 6 cX6_twos (some .int) 28 [.ref x0, .int q, z2] [] h res) → pm_E (d + 1) 6 cX6_twos (some .int) 4 [.ref x0, .int x1, .int x2] [] h res := by
  intro n
  induction n with
  | zero =>
    intro x0 x1 x2 h q res hF hk
    rw [L_X6_twos_4] at hF
    cases hF
  | succ n ih =>
    intro x0 x1 x2 h q res hF hk
    rw [L_X6_twos_4] at hF
    refine pr_iload_n dX6_twos_4 rfl ?_
    refine pr_bipush (v := 16) dX6_twos_5 (kb_16) ?_
    refine po_i hF (fun hc hF => ?_) (fun hc hF => ?_)
    · refine pr_icF (tgt := 28) dX6_twos_7 (by decide) (pc_geF hc) ?_
      refine pr_iload_n dX6_twos_10 rfl ?_
      refine pr_aload_n dX6_twos_11 rfl ?_
      obtain ⟨v1, hv1, hF⟩ := po_b hF
      refine pr_getR dX6_twos_12 tf_6_22 (hv1) ?_
      refine pr_iload_n dX6_twos_15 rfl ?_
      obtain ⟨v2, hv2, hF⟩ := po_b hF
      refine pr_iald dX6_twos_16 (hv2) ?_
      obtain ⟨q3, hq3, hF⟩ := po_b hF
      refine pr_S dX6_twos_17 cs_6_276 (as := [.int v2]) (rest := [.int x1]) rfl rfl rfl (lb rfl) (lb rfl) (lb rfl) (ok_F_X6_bits hq3) ?_
      refine pr_iadd dX6_twos_20 ?_
      refine pr_istore_n (L' := [.ref x0, .int (x1 + q3), .int x2]) dX6_twos_21 rfl ?_
      refine pr_iinc (v := 1) (L' := [.ref x0, .int (x1 + q3), .int (x2 + 1)]) dX6_twos_22 rfl (kc_1) rfl ?_
      refine pr_goto (tgt := 4) dX6_twos_25 (by decide) ?_
      exact ih hF hk
    · refine pr_icT (tgt := 28) dX6_twos_7 (by decide) (pc_geT hc) ?_
      cases hF
      exact hk _ rfl
def F_X6_twos (n : Nat) (h : pm_H) (a0 : Nat) : Option (Int32) :=
  (L_X6_twos_4 n a0 0 0 h).bind fun q4 =>
  some (q4 / 2)
theorem ok_F_X6_twos {d n : Nat} {h : pm_H} {a0 : Nat} {q : Int32} (hF : F_X6_twos n h a0 = some q) : pm_E (d + 1) 6 cX6_twos (some .int) 0 [.ref a0, pm_D, pm_D] [] h (some (.int q), h) := by
  unfold F_X6_twos at hF
  refine pr_iconst (v := 0) dX6_twos_0 (kc_0) ?_
  refine pr_istore_n (L' := [.ref a0, .int 0, pm_D]) dX6_twos_1 rfl ?_
  refine pr_iconst (v := 0) dX6_twos_2 (kc_0) ?_
  refine pr_istore_n (L' := [.ref a0, .int 0, .int 0]) dX6_twos_3 rfl ?_
  obtain ⟨q4, hq4, hF⟩ := po_b hF
  refine ok_L_X6_twos_4 n hq4 (fun z2 hz2 => ?_)
  refine pr_iload_n dX6_twos_28 rfl ?_
  refine pr_iconst (v := 2) dX6_twos_29 (kc_2) ?_
  refine pr_idiv dX6_twos_30 (by decide) ?_
  cases hF
  exact pr_iret dX6_twos_31 rfl rfl rfl

def L_X6_favoursOfAll_4 : Nat → Nat → Int32 → Int32 → pm_H → Option (Int32)
  | 0, _, _, _, _ => none
  | n + 1, x0, x1, x2, h =>
    if x2 < 16 then
      (if pm_cl_ h x0 = some 5 then F_X6_favoursToAll n h x0 x2 else none).bind fun q1 =>
      L_X6_favoursOfAll_4 n x0 (x1 + q1) (x2 + 1) h
    else
      some x1
theorem ok_L_X6_favoursOfAll_4 {d : Nat} : ∀ (n : Nat) {x0 : Nat} {x1 : Int32} {x2 : Int32} {h : pm_H} {q : Int32} {res : Option Value × pm_H}, L_X6_favoursOfAll_4 n x0 x1 x2 h = some q → (∀ z2 : Value, pm_nolong z2 = true → pm_E (d + 2) 6 cX6_favoursOfAll (some .int) 24 [.ref x0, .int q, z2] [] h res) → pm_E (d + 2) 6 cX6_favoursOfAll (some .int) 4 [.ref x0, .int x1, .int x2] [] h res := by
  intro n
  induction n with
  | zero =>
    intro x0 x1 x2 h q res hF hk
    rw [L_X6_favoursOfAll_4] at hF
    cases hF
  | succ n ih =>
    intro x0 x1 x2 h q res hF hk
    rw [L_X6_favoursOfAll_4] at hF
    refine pr_iload_n dX6_favoursOfAll_4 rfl ?_
    refine pr_bipush (v := 16) dX6_favoursOfAll_5 (kb_16) ?_
    refine po_i hF (fun hc hF => ?_) (fun hc hF => ?_)
    · refine pr_icF (tgt := 24) dX6_favoursOfAll_7 (by decide) (pc_geF hc) ?_
      refine pr_iload_n dX6_favoursOfAll_10 rfl ?_
      refine pr_aload_n dX6_favoursOfAll_11 rfl ?_
      refine pr_iload_n dX6_favoursOfAll_12 rfl ?_
      obtain ⟨q1, hq1, hF⟩ := po_b hF
      refine po_i hq1 (fun hcl hq => ?_) (fun _ hq => nomatch hq)
      refine pr_V (as := [.int x2]) (rest := [.int x1]) dX6_favoursOfAll_13 cv_6_331 hcl rfl rfl rfl rfl (lb rfl) (lb rfl) (lb rfl) (ok_F_X6_favoursToAll hq) ?_
      refine pr_iadd dX6_favoursOfAll_16 ?_
      refine pr_istore_n (L' := [.ref x0, .int (x1 + q1), .int x2]) dX6_favoursOfAll_17 rfl ?_
      refine pr_iinc (v := 1) (L' := [.ref x0, .int (x1 + q1), .int (x2 + 1)]) dX6_favoursOfAll_18 rfl (kc_1) rfl ?_
      refine pr_goto (tgt := 4) dX6_favoursOfAll_21 (by decide) ?_
      exact ih hF hk
    · refine pr_icT (tgt := 24) dX6_favoursOfAll_7 (by decide) (pc_geT hc) ?_
      cases hF
      exact hk _ rfl
def F_X6_favoursOfAll (n : Nat) (h : pm_H) (a0 : Nat) : Option (Int32) :=
  (L_X6_favoursOfAll_4 n a0 0 0 h).bind fun q2 =>
  some q2
theorem ok_F_X6_favoursOfAll {d n : Nat} {h : pm_H} {a0 : Nat} {q : Int32} (hF : F_X6_favoursOfAll n h a0 = some q) : pm_E (d + 2) 6 cX6_favoursOfAll (some .int) 0 [.ref a0, pm_D, pm_D] [] h (some (.int q), h) := by
  unfold F_X6_favoursOfAll at hF
  refine pr_iconst (v := 0) dX6_favoursOfAll_0 (kc_0) ?_
  refine pr_istore_n (L' := [.ref a0, .int 0, pm_D]) dX6_favoursOfAll_1 rfl ?_
  refine pr_iconst (v := 0) dX6_favoursOfAll_2 (kc_0) ?_
  refine pr_istore_n (L' := [.ref a0, .int 0, .int 0]) dX6_favoursOfAll_3 rfl ?_
  obtain ⟨q2, hq2, hF⟩ := po_b hF
  refine ok_L_X6_favoursOfAll_4 n hq2 (fun z2 hz2 => ?_)
  refine pr_iload_n dX6_favoursOfAll_24 rfl ?_
  cases hF
  exact pr_iret dX6_favoursOfAll_25 rfl rfl rfl

def F_X6_count (n : Nat) (h : pm_H) (a0 : Nat) (x1 : Int32) : Option (Int32) :=
  if x1.toInt < 0 ∨ 8 < x1.toInt then
    some (-1)
  else if x1 = 0 then
    (pm_fR [(5, 0)] h a0).bind fun v1 =>
    (pm_ai 0 h v1 272).bind fun v2 =>
    some v2
  else if x1 = 1 then
    (pm_fI [(5, 7)] h a0).bind fun v3 =>
    some v3
  else if x1 = 2 then
    (pm_fI [(5, 8)] h a0).bind fun v4 =>
    some v4
  else if x1 = 3 then
    (if pm_cl_ h a0 = some 5 then F_X6_twos n h a0 else none).bind fun q5 =>
    some q5
  else if x1 = 4 then
    (if pm_cl_ h a0 = some 5 then F_X6_favoursOfAll n h a0 else none).bind fun q6 =>
    some q6
  else if x1 = 5 then
    (pm_fI [(5, 21)] h a0).bind fun v7 =>
    some v7
  else if x1 = 6 then
    (pm_fI [(5, 12)] h a0).bind fun v8 =>
    some v8
  else if x1 = 7 then
    (pm_fR [(5, 0)] h a0).bind fun v9 =>
    (pm_ai 0 h v9 273).bind fun v10 =>
    some v10
  else if x1 = 8 then
    (if pm_cl_ h a0 = some 5 then F_X6_nightsOfAll n h a0 else none).bind fun q11 =>
    some q11
  else none
theorem ok_F_X6_count {d n : Nat} {h : pm_H} {a0 : Nat} {x1 : Int32} {q : Int32} (hF : F_X6_count n h a0 x1 = some q) : pm_E (d + 3) 6 cX6_count (some .int) 0 [.ref a0, .int x1] [] h (some (.int q), h) := by
  unfold F_X6_count at hF
  refine pr_iload_n dX6_count_0 rfl ?_
  refine po_i hF (fun hc hF => ?_) (fun hc hF => ?_)
  · refine pr_tabO (tgt := 105) dX6_count_1 hc (by decide) ?_
    refine pr_iconst (v := (-1)) dX6_count_105 (kc_m1) ?_
    cases hF
    exact pr_iret dX6_count_106 rfl rfl rfl
  refine po_i hF (fun he hF => ?_) (fun he0 hF => ?_)
  · refine pr_tabI (off := 51) (tgt := 52) dX6_count_1 hc (by rw [he]; rfl) (by decide) ?_
    refine pr_aload_n dX6_count_52 rfl ?_
    obtain ⟨v1, hv1, hF⟩ := po_b hF
    refine pr_getR dX6_count_53 tf_6_7 (hv1) ?_
    refine pr_sipush (v := 272) dX6_count_56 (ks_272) ?_
    obtain ⟨v2, hv2, hF⟩ := po_b hF
    refine pr_iald dX6_count_59 (hv2) ?_
    cases hF
    exact pr_iret dX6_count_60 rfl rfl rfl
  refine po_i hF (fun he hF => ?_) (fun he1 hF => ?_)
  · refine pr_tabI (off := 60) (tgt := 61) dX6_count_1 hc (by rw [he]; rfl) (by decide) ?_
    refine pr_aload_n dX6_count_61 rfl ?_
    obtain ⟨v3, hv3, hF⟩ := po_b hF
    refine pr_getI dX6_count_62 tf_6_108 (hv3) ?_
    cases hF
    exact pr_iret dX6_count_65 rfl rfl rfl
  refine po_i hF (fun he hF => ?_) (fun he2 hF => ?_)
  · refine pr_tabI (off := 65) (tgt := 66) dX6_count_1 hc (by rw [he]; rfl) (by decide) ?_
    refine pr_aload_n dX6_count_66 rfl ?_
    obtain ⟨v4, hv4, hF⟩ := po_b hF
    refine pr_getI dX6_count_67 tf_6_227 (hv4) ?_
    cases hF
    exact pr_iret dX6_count_70 rfl rfl rfl
  refine po_i hF (fun he hF => ?_) (fun he3 hF => ?_)
  · refine pr_tabI (off := 70) (tgt := 71) dX6_count_1 hc (by rw [he]; rfl) (by decide) ?_
    refine pr_aload_n dX6_count_71 rfl ?_
    obtain ⟨q5, hq5, hF⟩ := po_b hF
    refine po_i hq5 (fun hcl hq => ?_) (fun _ hq => nomatch hq)
    refine pr_V (as := []) (rest := []) dX6_count_72 cv_6_403 hcl rfl rfl rfl rfl (lb rfl) (lb rfl) (lb rfl) (ok_F_X6_twos hq) ?_
    cases hF
    exact pr_iret dX6_count_75 rfl rfl rfl
  refine po_i hF (fun he hF => ?_) (fun he4 hF => ?_)
  · refine pr_tabI (off := 75) (tgt := 76) dX6_count_1 hc (by rw [he]; rfl) (by decide) ?_
    refine pr_aload_n dX6_count_76 rfl ?_
    obtain ⟨q6, hq6, hF⟩ := po_b hF
    refine po_i hq6 (fun hcl hq => ?_) (fun _ hq => nomatch hq)
    refine pr_V (as := []) (rest := []) dX6_count_77 cv_6_406 hcl rfl rfl rfl rfl (lb rfl) (lb rfl) (lb rfl) (ok_F_X6_favoursOfAll hq) ?_
    cases hF
    exact pr_iret dX6_count_80 rfl rfl rfl
  refine po_i hF (fun he hF => ?_) (fun he5 hF => ?_)
  · refine pr_tabI (off := 80) (tgt := 81) dX6_count_1 hc (by rw [he]; rfl) (by decide) ?_
    refine pr_aload_n dX6_count_81 rfl ?_
    obtain ⟨v7, hv7, hF⟩ := po_b hF
    refine pr_getI dX6_count_82 tf_6_216 (hv7) ?_
    cases hF
    exact pr_iret dX6_count_85 rfl rfl rfl
  refine po_i hF (fun he hF => ?_) (fun he6 hF => ?_)
  · refine pr_tabI (off := 85) (tgt := 86) dX6_count_1 hc (by rw [he]; rfl) (by decide) ?_
    refine pr_aload_n dX6_count_86 rfl ?_
    obtain ⟨v8, hv8, hF⟩ := po_b hF
    refine pr_getI dX6_count_87 tf_6_116 (hv8) ?_
    cases hF
    exact pr_iret dX6_count_90 rfl rfl rfl
  refine po_i hF (fun he hF => ?_) (fun he7 hF => ?_)
  · refine pr_tabI (off := 90) (tgt := 91) dX6_count_1 hc (by rw [he]; rfl) (by decide) ?_
    refine pr_aload_n dX6_count_91 rfl ?_
    obtain ⟨v9, hv9, hF⟩ := po_b hF
    refine pr_getR dX6_count_92 tf_6_7 (hv9) ?_
    refine pr_sipush (v := 273) dX6_count_95 (ks_273) ?_
    obtain ⟨v10, hv10, hF⟩ := po_b hF
    refine pr_iald dX6_count_98 (hv10) ?_
    cases hF
    exact pr_iret dX6_count_99 rfl rfl rfl
  refine po_i hF (fun he hF => ?_) (fun he8 hF => ?_)
  · refine pr_tabI (off := 99) (tgt := 100) dX6_count_1 hc (by rw [he]; rfl) (by decide) ?_
    refine pr_aload_n dX6_count_100 rfl ?_
    obtain ⟨q11, hq11, hF⟩ := po_b hF
    refine po_i hq11 (fun hcl hq => ?_) (fun _ hq => nomatch hq)
    refine pr_V (as := []) (rest := []) dX6_count_101 cv_6_328 hcl rfl rfl rfl rfl (lb rfl) (lb rfl) (lb rfl) (ok_F_X6_nightsOfAll hq) ?_
    cases hF
    exact pr_iret dX6_count_104 rfl rfl rfl
  cases hF

def L_L_law_18 : Nat → Nat → Nat → Nat → Int32 → pm_H → Option ((Int32 × pm_H) ⊕ (pm_H))
  | 0, _, _, _, _, _ => none
  | n + 1, x0, x1, x2, x3, h =>
    (pm_len h x0).bind fun v3 =>
    if (v3 - 6) < x3 then
      some (.inr h)
    else
      (pm_ai 0 h x0 x3).bind fun v4 =>
      if (v4 &&& 63).toInt < 0 ∨ 34 < (v4 &&& 63).toInt then
        L_L_law_18 n x0 x1 x2 (x3 + 6) h
      else if (v4 &&& 63) = 0 then
        (pm_ai 0 h x0 (x3 + 1)).bind fun v5 =>
        (pm_ai 0 h x0 (x3 + 2)).bind fun v6 =>
        (pm_ai 0 h x0 (x3 + 3)).bind fun v7 =>
        (pm_ai 0 h x0 (x3 + 4)).bind fun v8 =>
        (pm_ai 0 h x0 (x3 + 5)).bind fun v9 =>
        (if pm_cl_ h x1 = some 0 then F_X0_feed n h x1 v5 v6 v7 v8 v9 else none).bind fun q10 =>
        (pm_ai 0 q10.2 x0 (x3 + 1)).bind fun v11 =>
        (pm_ai 0 q10.2 x0 (x3 + 2)).bind fun v12 =>
        (pm_ai 0 q10.2 x0 (x3 + 3)).bind fun v13 =>
        (pm_ai 0 q10.2 x0 (x3 + 4)).bind fun v14 =>
        (pm_ai 0 q10.2 x0 (x3 + 5)).bind fun v15 =>
        (if pm_cl_ q10.2 x2 = some 5 then F_X6_feed n q10.2 x2 v11 v12 v13 v14 v15 else none).bind fun q16 =>
        if q10.1 = q16.1 then
          L_L_law_18 n x0 x1 x2 (x3 + 6) q16.2
        else
          some (.inl (0, q16.2))
      else if (v4 &&& 63) = 1 then
        (pm_ai 0 h x0 (x3 + 1)).bind fun v17 =>
        (if pm_cl_ h x1 = some 0 then F_X0_law n h x1 v17 else none).bind fun q18 =>
        (pm_ai 0 q18.2 x0 (x3 + 1)).bind fun v19 =>
        (if pm_cl_ q18.2 x2 = some 5 then F_X6_law n q18.2 x2 v19 else none).bind fun q20 =>
        if q18.1 = q20.1 then
          L_L_law_18 n x0 x1 x2 (x3 + 6) q20.2
        else
          some (.inl (0, q20.2))
      else if (v4 &&& 63) = 2 then
        (pm_ai 0 h x0 (x3 + 1)).bind fun v21 =>
        (if pm_cl_ h x1 = some 0 then F_X0_orders n h x1 v21 else none).bind fun q22 =>
        (pm_ai 0 q22.2 x0 (x3 + 1)).bind fun v23 =>
        (if pm_cl_ q22.2 x2 = some 5 then F_X6_orders n q22.2 x2 v23 else none).bind fun q24 =>
        if q22.1 = q24.1 then
          L_L_law_18 n x0 x1 x2 (x3 + 6) q24.2
        else
          some (.inl (0, q24.2))
      else if (v4 &&& 63) = 3 then
        (pm_ai 0 h x0 (x3 + 1)).bind fun v25 =>
        (pm_ai 0 h x0 (x3 + 2)).bind fun v26 =>
        (if pm_cl_ h x1 = some 0 then F_X0_dance n h x1 v25 v26 else none).bind fun q27 =>
        (pm_ai 0 q27.2 x0 (x3 + 1)).bind fun v28 =>
        (pm_ai 0 q27.2 x0 (x3 + 2)).bind fun v29 =>
        (if pm_cl_ q27.2 x2 = some 5 then F_X6_dance n q27.2 x2 v28 v29 else none).bind fun q30 =>
        if q27.1 = q30.1 then
          L_L_law_18 n x0 x1 x2 (x3 + 6) q30.2
        else
          some (.inl (0, q30.2))
      else if (v4 &&& 63) = 4 then
        (pm_ai 0 h x0 (x3 + 1)).bind fun v31 =>
        (if pm_cl_ h x1 = some 0 then F_X0_evenings n h x1 v31 else none).bind fun q32 =>
        (pm_ai 0 q32.2 x0 (x3 + 1)).bind fun v33 =>
        (if pm_cl_ q32.2 x2 = some 5 then F_X6_evenings n q32.2 x2 v33 else none).bind fun q34 =>
        if q32.1 = q34.1 then
          L_L_law_18 n x0 x1 x2 (x3 + 6) q34.2
        else
          some (.inl (0, q34.2))
      else if (v4 &&& 63) = 5 then
        (pm_ai 0 h x0 (x3 + 1)).bind fun v35 =>
        (pm_ai 0 h x0 (x3 + 2)).bind fun v36 =>
        (if pm_cl_ h x1 = some 0 then F_X0_tried n h x1 v35 v36 else none).bind fun q37 =>
        (pm_ai 0 q37.2 x0 (x3 + 1)).bind fun v38 =>
        (pm_ai 0 q37.2 x0 (x3 + 2)).bind fun v39 =>
        (if pm_cl_ q37.2 x2 = some 5 then F_X6_tried n q37.2 x2 v38 v39 else none).bind fun q40 =>
        if q37.1 = q40.1 then
          L_L_law_18 n x0 x1 x2 (x3 + 6) q40.2
        else
          some (.inl (0, q40.2))
      else if (v4 &&& 63) = 6 then
        (pm_ai 0 h x0 (x3 + 1)).bind fun v41 =>
        (pm_ai 0 h x0 (x3 + 2)).bind fun v42 =>
        (if pm_cl_ h x1 = some 0 then F_X0_personIs n h x1 v41 v42 else none).bind fun q43 =>
        (pm_ai 0 h x0 (x3 + 1)).bind fun v44 =>
        (pm_ai 0 h x0 (x3 + 2)).bind fun v45 =>
        (if pm_cl_ h x2 = some 5 then F_X6_personIs n h x2 v44 v45 else none).bind fun q46 =>
        if q43 = q46 then
          L_L_law_18 n x0 x1 x2 (x3 + 6) h
        else
          some (.inl (0, h))
      else if (v4 &&& 63) = 7 then
        (pm_ai 0 h x0 (x3 + 1)).bind fun v47 =>
        (pm_ai 0 h x0 (x3 + 2)).bind fun v48 =>
        (if pm_cl_ h x1 = some 0 then F_X0_favours h x1 v47 v48 else none).bind fun q49 =>
        (pm_ai 0 h x0 (x3 + 1)).bind fun v50 =>
        (pm_ai 0 h x0 (x3 + 2)).bind fun v51 =>
        (if pm_cl_ h x2 = some 5 then F_X6_favours h x2 v50 v51 else none).bind fun q52 =>
        if q49 = q52 then
          L_L_law_18 n x0 x1 x2 (x3 + 6) h
        else
          some (.inl (0, h))
      else if (v4 &&& 63) = 8 then
        (pm_ai 0 h x0 (x3 + 1)).bind fun v53 =>
        (if pm_cl_ h x1 = some 0 then F_X0_stayOut n h x1 v53 else none).bind fun q54 =>
        (pm_ai 0 h x0 (x3 + 1)).bind fun v55 =>
        (if pm_cl_ h x2 = some 5 then F_X6_stayOut n h x2 v55 else none).bind fun q56 =>
        if q54 = q56 then
          L_L_law_18 n x0 x1 x2 (x3 + 6) h
        else
          some (.inl (0, h))
      else if (v4 &&& 63) = 9 then
        (pm_ai 0 h x0 (x3 + 1)).bind fun v57 =>
        (pm_ai 0 h x0 (x3 + 2)).bind fun v58 =>
        (if pm_cl_ h x1 = some 0 then F_X0_inOrder n h x1 v57 v58 else none).bind fun q59 =>
        (pm_ai 0 q59.2 x0 (x3 + 1)).bind fun v60 =>
        (pm_ai 0 q59.2 x0 (x3 + 2)).bind fun v61 =>
        (if pm_cl_ q59.2 x2 = some 5 then F_X6_inOrder n q59.2 x2 v60 v61 else none).bind fun q62 =>
        if q59.1 = q62 then
          L_L_law_18 n x0 x1 x2 (x3 + 6) q59.2
        else
          some (.inl (0, q59.2))
      else if (v4 &&& 63) = 10 then
        (pm_ai 0 h x0 (x3 + 1)).bind fun v63 =>
        (if pm_cl_ h x1 = some 0 then F_X0_ways n h x1 v63 else none).bind fun q64 =>
        (pm_ai 0 q64.2 x0 (x3 + 1)).bind fun v65 =>
        (if pm_cl_ q64.2 x2 = some 5 then F_X6_ways n q64.2 x2 v65 else none).bind fun q66 =>
        if (lg_cmp q64.1 q66.1) = 0 then
          L_L_law_18 n x0 x1 x2 (x3 + 6) q66.2
        else
          some (.inl (0, q66.2))
      else if (v4 &&& 63) = 11 then
        (pm_ai 0 h x0 (x3 + 1)).bind fun v67 =>
        (if pm_cl_ h x1 = some 0 then F_X0_keepsOut n h x1 v67 else none).bind fun q68 =>
        (pm_ai 0 q68.2 x0 (x3 + 1)).bind fun v69 =>
        (if pm_cl_ q68.2 x2 = some 5 then F_X6_keepsOut n q68.2 x2 v69 else none).bind fun q70 =>
        if q68.1 = q70.1 then
          L_L_law_18 n x0 x1 x2 (x3 + 6) q70.2
        else
          some (.inl (0, q70.2))
      else if (v4 &&& 63) = 12 then
        (pm_ai 0 h x0 (x3 + 1)).bind fun v71 =>
        (pm_ai 0 h x0 (x3 + 2)).bind fun v72 =>
        (if pm_cl_ h x1 = some 0 then F_X0_chain n h x1 v71 v72 else none).bind fun q73 =>
        (pm_ai 0 h x0 (x3 + 1)).bind fun v74 =>
        (pm_ai 0 h x0 (x3 + 2)).bind fun v75 =>
        (if pm_cl_ h x2 = some 5 then F_X6_chain n h x2 v74 v75 else none).bind fun q76 =>
        if q73 = q76 then
          L_L_law_18 n x0 x1 x2 (x3 + 6) h
        else
          some (.inl (0, h))
      else if (v4 &&& 63) = 13 then
        (pm_ai 0 h x0 (x3 + 1)).bind fun v77 =>
        (if pm_cl_ h x1 = some 0 then F_X0_party n h x1 v77 else none).bind fun q78 =>
        (pm_ai 0 h x0 (x3 + 1)).bind fun v79 =>
        (if pm_cl_ h x2 = some 5 then F_X6_party n h x2 v79 else none).bind fun q80 =>
        if q78 = q80 then
          L_L_law_18 n x0 x1 x2 (x3 + 6) h
        else
          some (.inl (0, h))
      else if (v4 &&& 63) = 14 then
        (if pm_cl_ h x1 = some 0 then F_X0_twoStreets n h x1 else none).bind fun q81 =>
        (if pm_cl_ h x2 = some 5 then F_X6_twoStreets n h x2 else none).bind fun q82 =>
        if q81 = q82 then
          L_L_law_18 n x0 x1 x2 (x3 + 6) h
        else
          some (.inl (0, h))
      else if (v4 &&& 63) = 15 then
        (pm_ai 0 h x0 (x3 + 1)).bind fun v83 =>
        (if pm_cl_ h x1 = some 0 then F_X0_parties n h x1 v83 else none).bind fun q84 =>
        (pm_ai 0 q84.2 x0 (x3 + 1)).bind fun v85 =>
        (if pm_cl_ q84.2 x2 = some 5 then F_X6_parties n q84.2 x2 v85 else none).bind fun q86 =>
        if q84.1 = q86.1 then
          L_L_law_18 n x0 x1 x2 (x3 + 6) q86.2
        else
          some (.inl (0, q86.2))
      else if (v4 &&& 63) = 16 then
        (pm_ai 0 h x0 (x3 + 1)).bind fun v87 =>
        (if pm_cl_ h x1 = some 0 then F_X0_mended n h x1 v87 else none).bind fun q88 =>
        (pm_ai 0 h x0 (x3 + 1)).bind fun v89 =>
        (if pm_cl_ h x2 = some 5 then F_X6_mended n h x2 v89 else none).bind fun q90 =>
        if q88 = q90 then
          L_L_law_18 n x0 x1 x2 (x3 + 6) h
        else
          some (.inl (0, h))
      else if (v4 &&& 63) = 17 then
        (pm_ai 0 h x0 (x3 + 1)).bind fun v91 =>
        (if pm_cl_ h x1 = some 0 then F_X0_longest n h x1 v91 else none).bind fun q92 =>
        (pm_ai 0 q92.2 x0 (x3 + 1)).bind fun v93 =>
        (if pm_cl_ q92.2 x2 = some 5 then F_X6_longest n q92.2 x2 v93 else none).bind fun q94 =>
        if q92.1 = q94.1 then
          L_L_law_18 n x0 x1 x2 (x3 + 6) q94.2
        else
          some (.inl (0, q94.2))
      else if (v4 &&& 63) = 18 then
        (pm_ai 0 h x0 (x3 + 1)).bind fun v95 =>
        (if pm_cl_ h x1 = some 0 then F_X0_luckless n h x1 v95 else none).bind fun q96 =>
        (pm_ai 0 h x0 (x3 + 1)).bind fun v97 =>
        (if pm_cl_ h x2 = some 5 then F_X6_luckless n h x2 v97 else none).bind fun q98 =>
        if q96 = q98 then
          L_L_law_18 n x0 x1 x2 (x3 + 6) h
        else
          some (.inl (0, h))
      else if (v4 &&& 63) = 19 then
        (pm_ai 0 h x0 (x3 + 1)).bind fun v99 =>
        (if pm_cl_ h x1 = some 0 then F_X0_stretch n h x1 v99 else none).bind fun q100 =>
        (pm_ai 0 h x0 (x3 + 1)).bind fun v101 =>
        (if pm_cl_ h x2 = some 5 then F_X6_stretch n h x2 v101 else none).bind fun q102 =>
        if q100 = q102 then
          L_L_law_18 n x0 x1 x2 (x3 + 6) h
        else
          some (.inl (0, h))
      else if (v4 &&& 63) = 20 then
        (pm_ai 0 h x0 (x3 + 1)).bind fun v103 =>
        (if pm_cl_ h x1 = some 0 then F_X0_inDebt n h x1 v103 else none).bind fun q104 =>
        (pm_ai 0 h x0 (x3 + 1)).bind fun v105 =>
        (if pm_cl_ h x2 = some 5 then F_X6_inDebt n h x2 v105 else none).bind fun q106 =>
        if q104 = q106 then
          L_L_law_18 n x0 x1 x2 (x3 + 6) h
        else
          some (.inl (0, h))
      else if (v4 &&& 63) = 21 then
        (pm_ai 0 h x0 (x3 + 1)).bind fun v107 =>
        (if pm_cl_ h x1 = some 0 then F_X0_meeting n h x1 v107 else none).bind fun q108 =>
        (pm_ai 0 h x0 (x3 + 1)).bind fun v109 =>
        (if pm_cl_ h x2 = some 5 then F_X6_meeting n h x2 v109 else none).bind fun q110 =>
        if q108 = q110 then
          L_L_law_18 n x0 x1 x2 (x3 + 6) h
        else
          some (.inl (0, h))
      else if (v4 &&& 63) = 22 then
        (pm_ai 0 h x0 (x3 + 1)).bind fun v111 =>
        (pm_ai 0 h x0 (x3 + 2)).bind fun v112 =>
        (if pm_cl_ h x1 = some 0 then F_X0_across n h x1 v111 v112 else none).bind fun q113 =>
        (pm_ai 0 q113.2 x0 (x3 + 1)).bind fun v114 =>
        (pm_ai 0 q113.2 x0 (x3 + 2)).bind fun v115 =>
        (if pm_cl_ q113.2 x2 = some 5 then F_X6_across n q113.2 x2 v114 v115 else none).bind fun q116 =>
        if q113.1 = q116.1 then
          L_L_law_18 n x0 x1 x2 (x3 + 6) q116.2
        else
          some (.inl (0, q116.2))
      else if (v4 &&& 63) = 23 then
        (pm_ai 0 h x0 (x3 + 1)).bind fun v117 =>
        (pm_ai 0 h x0 (x3 + 2)).bind fun v118 =>
        (if pm_cl_ h x1 = some 0 then F_X0_calls n h x1 v117 v118 else none).bind fun q119 =>
        (pm_ai 0 q119.2 x0 (x3 + 1)).bind fun v120 =>
        (pm_ai 0 q119.2 x0 (x3 + 2)).bind fun v121 =>
        (if pm_cl_ q119.2 x2 = some 5 then F_X6_calls n q119.2 x2 v120 v121 else none).bind fun q122 =>
        if q119.1 = q122.1 then
          L_L_law_18 n x0 x1 x2 (x3 + 6) q122.2
        else
          some (.inl (0, q122.2))
      else if (v4 &&& 63) = 24 then
        (pm_ai 0 h x0 (x3 + 1)).bind fun v123 =>
        (if pm_cl_ h x1 = some 0 then F_X0_madeEven n h x1 v123 else none).bind fun q124 =>
        (pm_ai 0 h x0 (x3 + 1)).bind fun v125 =>
        (if pm_cl_ h x2 = some 5 then F_X6_madeEven n h x2 v125 else none).bind fun q126 =>
        if q124 = q126 then
          L_L_law_18 n x0 x1 x2 (x3 + 6) h
        else
          some (.inl (0, h))
      else if (v4 &&& 63) = 25 then
        (if pm_cl_ h x1 = some 0 then F_X0_mostOwed n h x1 else none).bind fun q127 =>
        (if pm_cl_ h x2 = some 5 then F_X6_mostOwed n h x2 else none).bind fun q128 =>
        if q127 = q128 then
          L_L_law_18 n x0 x1 x2 (x3 + 6) h
        else
          some (.inl (0, h))
      else if (v4 &&& 63) = 26 then
        (pm_ai 0 h x0 (x3 + 1)).bind fun v129 =>
        (pm_ai 0 h x0 (x3 + 2)).bind fun v130 =>
        (if pm_cl_ h x1 = some 0 then F_X0_hermit n h x1 v129 v130 else none).bind fun q131 =>
        (pm_ai 0 q131.2 x0 (x3 + 1)).bind fun v132 =>
        (pm_ai 0 q131.2 x0 (x3 + 2)).bind fun v133 =>
        (if pm_cl_ q131.2 x2 = some 5 then F_X6_hermit n q131.2 x2 v132 v133 else none).bind fun q134 =>
        if q131.1 = q134.1 then
          L_L_law_18 n x0 x1 x2 (x3 + 6) q134.2
        else
          some (.inl (0, q134.2))
      else if (v4 &&& 63) = 27 then
        (pm_ai 0 h x0 (x3 + 1)).bind fun v135 =>
        (if pm_cl_ h x1 = some 0 then F_X0_burglar n h x1 v135 else none).bind fun q136 =>
        (pm_ai 0 q136.2 x0 (x3 + 1)).bind fun v137 =>
        (if pm_cl_ q136.2 x2 = some 5 then F_X6_burglar n q136.2 x2 v137 else none).bind fun q138 =>
        if q136.1 = q138.1 then
          L_L_law_18 n x0 x1 x2 (x3 + 6) q138.2
        else
          some (.inl (0, q138.2))
      else if (v4 &&& 63) = 28 then
        (pm_ai 0 h x0 (x3 + 1)).bind fun v139 =>
        (pm_ai 0 h x0 (x3 + 2)).bind fun v140 =>
        (if pm_cl_ h x1 = some 0 then F_X0_changed n h x1 v139 v140 else none).bind fun q141 =>
        (pm_ai 0 q141.2 x0 (x3 + 1)).bind fun v142 =>
        (pm_ai 0 q141.2 x0 (x3 + 2)).bind fun v143 =>
        (if pm_cl_ q141.2 x2 = some 5 then F_X6_changed n q141.2 x2 v142 v143 else none).bind fun q144 =>
        if q141.1 = q144.1 then
          L_L_law_18 n x0 x1 x2 (x3 + 6) q144.2
        else
          some (.inl (0, q144.2))
      else if (v4 &&& 63) = 29 then
        (pm_ai 0 h x0 (x3 + 1)).bind fun v145 =>
        (pm_ai 0 h x0 (x3 + 2)).bind fun v146 =>
        (if pm_cl_ h x1 = some 0 then F_X0_between n h x1 v145 v146 else none).bind fun q147 =>
        (pm_ai 0 h x0 (x3 + 1)).bind fun v148 =>
        (pm_ai 0 h x0 (x3 + 2)).bind fun v149 =>
        (if pm_cl_ h x2 = some 5 then F_X6_between n h x2 v148 v149 else none).bind fun q150 =>
        if q147 = q150 then
          L_L_law_18 n x0 x1 x2 (x3 + 6) h
        else
          some (.inl (0, h))
      else if (v4 &&& 63) = 30 then
        (pm_ai 0 h x0 (x3 + 1)).bind fun v151 =>
        (if pm_cl_ h x1 = some 0 then F_X0_seed h x1 v151 else none).bind fun q152 =>
        (pm_ai 0 q152.2 x0 (x3 + 1)).bind fun v153 =>
        (if pm_cl_ q152.2 x2 = some 5 then F_X6_seed q152.2 x2 v153 else none).bind fun q154 =>
        if q152.1 = q154.1 then
          L_L_law_18 n x0 x1 x2 (x3 + 6) q154.2
        else
          some (.inl (0, q154.2))
      else if (v4 &&& 63) = 31 then
        (if pm_cl_ h x1 = some 0 then F_X0_keep n h x1 else none).bind fun q155 =>
        (if pm_cl_ q155.2 x2 = some 5 then F_X6_keep n q155.2 x2 else none).bind fun q156 =>
        if q155.1 = q156.1 then
          L_L_law_18 n x0 x1 x2 (x3 + 6) q156.2
        else
          some (.inl (0, q156.2))
      else if (v4 &&& 63) = 32 then
        (if pm_cl_ h x1 = some 0 then F_X0_undo n h x1 else none).bind fun q157 =>
        (if pm_cl_ q157.2 x2 = some 5 then F_X6_undo n q157.2 x2 else none).bind fun q158 =>
        if q157.1 = q158.1 then
          L_L_law_18 n x0 x1 x2 (x3 + 6) q158.2
        else
          some (.inl (0, q158.2))
      else if (v4 &&& 63) = 33 then
        (pm_ai 0 h x0 (x3 + 1)).bind fun v159 =>
        (if pm_cl_ h x1 = some 0 then F_X0_check n h x1 v159 else none).bind fun q160 =>
        (pm_ai 0 q160.2 x0 (x3 + 1)).bind fun v161 =>
        (if pm_cl_ q160.2 x2 = some 5 then F_X6_check n q160.2 x2 v161 else none).bind fun q162 =>
        if q160.1 = q162.1 then
          L_L_law_18 n x0 x1 x2 (x3 + 6) q162.2
        else
          some (.inl (0, q162.2))
      else if (v4 &&& 63) = 34 then
        (pm_ai 0 h x0 (x3 + 1)).bind fun v163 =>
        (if pm_cl_ h x1 = some 0 then F_X0_count n h x1 v163 else none).bind fun q164 =>
        (pm_ai 0 h x0 (x3 + 1)).bind fun v165 =>
        (if pm_cl_ h x2 = some 5 then F_X6_count n h x2 v165 else none).bind fun q166 =>
        if q164 = q166 then
          L_L_law_18 n x0 x1 x2 (x3 + 6) h
        else
          some (.inl (0, h))
      else none
theorem ok_L_L_law_18 {d : Nat} : ∀ (n : Nat) {x0 : Nat} {x1 : Nat} {x2 : Nat} {x3 : Int32} {h : pm_H} {q : (Int32 × pm_H) ⊕ (pm_H)} {res : Option Value × pm_H}, L_L_law_18 n x0 x1 x2 x3 h = some q → (∀ r, q = .inl r → res = (some (.int r.1), r.2)) → (∀ e, q = .inr e → ∀ z3 : Value, pm_nolong z3 = true → pm_E (d + 617) 19 cL_law ((some .boolean)) 1110 [.ref x0, .ref x1, .ref x2, z3] [] e res) → pm_E (d + 617) 19 cL_law ((some .boolean)) 18 [.ref x0, .ref x1, .ref x2, .int x3] [] h res := by
  intro n
  induction n with
  | zero =>
    intro x0 x1 x2 x3 h q res hF hr hk
    rw [L_L_law_18] at hF
    cases hF
  | succ n ih =>
    intro x0 x1 x2 x3 h q res hF hr hk
    rw [L_L_law_18] at hF
    refine pr_iload_n dL_law_18 rfl ?_
    refine pr_aload_n dL_law_19 rfl ?_
    obtain ⟨v3, hv3, hF⟩ := po_b hF
    refine pr_alen dL_law_20 (hv3) ?_
    refine pr_bipush (v := 6) dL_law_21 (kb_6) ?_
    refine pr_isub dL_law_23 ?_
    refine po_i hF (fun hc hF => ?_) (fun hc hF => ?_)
    · refine pr_icT (tgt := 1110) dL_law_24 (by decide) (pc_gtT hc) ?_
      cases hF
      exact hk _ rfl _ rfl
    · refine pr_icF (tgt := 1110) dL_law_24 (by decide) (pc_gtF hc) ?_
      refine pr_aload_n dL_law_27 rfl ?_
      refine pr_iload_n dL_law_28 rfl ?_
      obtain ⟨v4, hv4, hF⟩ := po_b hF
      refine pr_iald dL_law_29 (hv4) ?_
      refine pr_bipush (v := 63) dL_law_30 (kb_63) ?_
      refine pr_iand dL_law_32 ?_
      refine po_i hF (fun hc hF => ?_) (fun hc hF => ?_)
      · refine pr_tabO (tgt := 1104) dL_law_33 hc (by decide) ?_
        refine pr_iinc (v := 6) (L' := [.ref x0, .ref x1, .ref x2, .int (x3 + 6)]) dL_law_1104 rfl (kc_6) rfl ?_
        refine pr_goto (tgt := 18) dL_law_1107 (by decide) ?_
        exact ih hF hr hk
      refine po_i hF (fun he hF => ?_) (fun he0 hF => ?_)
      · refine pr_tabI (off := 155) (tgt := 188) dL_law_33 hc (by rw [he]; rfl) (by decide) ?_
        refine pr_aload_n dL_law_188 rfl ?_
        refine pr_aload_n dL_law_189 rfl ?_
        refine pr_iload_n dL_law_190 rfl ?_
        refine pr_iconst (v := 1) dL_law_191 (kc_1) ?_
        refine pr_iadd dL_law_192 ?_
        obtain ⟨v5, hv5, hF⟩ := po_b hF
        refine pr_iald dL_law_193 (hv5) ?_
        refine pr_aload_n dL_law_194 rfl ?_
        refine pr_iload_n dL_law_195 rfl ?_
        refine pr_iconst (v := 2) dL_law_196 (kc_2) ?_
        refine pr_iadd dL_law_197 ?_
        obtain ⟨v6, hv6, hF⟩ := po_b hF
        refine pr_iald dL_law_198 (hv6) ?_
        refine pr_aload_n dL_law_199 rfl ?_
        refine pr_iload_n dL_law_200 rfl ?_
        refine pr_iconst (v := 3) dL_law_201 (kc_3) ?_
        refine pr_iadd dL_law_202 ?_
        obtain ⟨v7, hv7, hF⟩ := po_b hF
        refine pr_iald dL_law_203 (hv7) ?_
        refine pr_aload_n dL_law_204 rfl ?_
        refine pr_iload_n dL_law_205 rfl ?_
        refine pr_iconst (v := 4) dL_law_206 (kc_4) ?_
        refine pr_iadd dL_law_207 ?_
        obtain ⟨v8, hv8, hF⟩ := po_b hF
        refine pr_iald dL_law_208 (hv8) ?_
        refine pr_aload_n dL_law_209 rfl ?_
        refine pr_iload_n dL_law_210 rfl ?_
        refine pr_iconst (v := 5) dL_law_211 (kc_5) ?_
        refine pr_iadd dL_law_212 ?_
        obtain ⟨v9, hv9, hF⟩ := po_b hF
        refine pr_iald dL_law_213 (hv9) ?_
        obtain ⟨q10, hq10, hF⟩ := po_b hF
        refine po_i hq10 (fun hcl hq => ?_) (fun _ hq => nomatch hq)
        refine pr_V (as := [.int v5, .int v6, .int v7, .int v8, .int v9]) (rest := []) dL_law_214 cv_19_13 hcl rfl rfl rfl rfl (lb rfl) (lb rfl) (lb rfl) (ok_F_X0_feed hq) ?_
        refine pr_aload_n dL_law_217 rfl ?_
        refine pr_aload_n dL_law_218 rfl ?_
        refine pr_iload_n dL_law_219 rfl ?_
        refine pr_iconst (v := 1) dL_law_220 (kc_1) ?_
        refine pr_iadd dL_law_221 ?_
        obtain ⟨v11, hv11, hF⟩ := po_b hF
        refine pr_iald dL_law_222 (hv11) ?_
        refine pr_aload_n dL_law_223 rfl ?_
        refine pr_iload_n dL_law_224 rfl ?_
        refine pr_iconst (v := 2) dL_law_225 (kc_2) ?_
        refine pr_iadd dL_law_226 ?_
        obtain ⟨v12, hv12, hF⟩ := po_b hF
        refine pr_iald dL_law_227 (hv12) ?_
        refine pr_aload_n dL_law_228 rfl ?_
        refine pr_iload_n dL_law_229 rfl ?_
        refine pr_iconst (v := 3) dL_law_230 (kc_3) ?_
        refine pr_iadd dL_law_231 ?_
        obtain ⟨v13, hv13, hF⟩ := po_b hF
        refine pr_iald dL_law_232 (hv13) ?_
        refine pr_aload_n dL_law_233 rfl ?_
        refine pr_iload_n dL_law_234 rfl ?_
        refine pr_iconst (v := 4) dL_law_235 (kc_4) ?_
        refine pr_iadd dL_law_236 ?_
        obtain ⟨v14, hv14, hF⟩ := po_b hF
        refine pr_iald dL_law_237 (hv14) ?_
        refine pr_aload_n dL_law_238 rfl ?_
        refine pr_iload_n dL_law_239 rfl ?_
        refine pr_iconst (v := 5) dL_law_240 (kc_5) ?_
        refine pr_iadd dL_law_241 ?_
        obtain ⟨v15, hv15, hF⟩ := po_b hF
        refine pr_iald dL_law_242 (hv15) ?_
        obtain ⟨q16, hq16, hF⟩ := po_b hF
        refine po_i hq16 (fun hcl hq => ?_) (fun _ hq => nomatch hq)
        refine pr_V (as := [.int v11, .int v12, .int v13, .int v14, .int v15]) (rest := [.int q10.1]) dL_law_243 cv_19_17 hcl rfl rfl rfl rfl (lb rfl) (lb rfl) (lb rfl) (ok_F_X6_feed hq) ?_
        refine po_i hF (fun hc hF => ?_) (fun hc hF => ?_)
        · refine pr_icT (tgt := 1104) dL_law_246 (by decide) (pc_eqT hc) ?_
          refine pr_iinc (v := 6) (L' := [.ref x0, .ref x1, .ref x2, .int (x3 + 6)]) dL_law_1104 rfl (kc_6) rfl ?_
          refine pr_goto (tgt := 18) dL_law_1107 (by decide) ?_
          exact ih hF hr hk
        · refine pr_icF (tgt := 1104) dL_law_246 (by decide) (pc_eqF hc) ?_
          refine pr_iconst (v := 0) dL_law_249 (kc_0) ?_
          cases hF
          exact pr_iret dL_law_250 rfl nb_0 (hr _ rfl)
      refine po_i hF (fun he hF => ?_) (fun he1 hF => ?_)
      · refine pr_tabI (off := 218) (tgt := 251) dL_law_33 hc (by rw [he]; rfl) (by decide) ?_
        refine pr_aload_n dL_law_251 rfl ?_
        refine pr_aload_n dL_law_252 rfl ?_
        refine pr_iload_n dL_law_253 rfl ?_
        refine pr_iconst (v := 1) dL_law_254 (kc_1) ?_
        refine pr_iadd dL_law_255 ?_
        obtain ⟨v17, hv17, hF⟩ := po_b hF
        refine pr_iald dL_law_256 (hv17) ?_
        obtain ⟨q18, hq18, hF⟩ := po_b hF
        refine po_i hq18 (fun hcl hq => ?_) (fun _ hq => nomatch hq)
        refine pr_V (as := [.int v17]) (rest := []) dL_law_257 cv_19_18 hcl rfl rfl rfl rfl (lb rfl) (lb rfl) (lb rfl) (ok_F_X0_law hq) ?_
        refine pr_aload_n dL_law_260 rfl ?_
        refine pr_aload_n dL_law_261 rfl ?_
        refine pr_iload_n dL_law_262 rfl ?_
        refine pr_iconst (v := 1) dL_law_263 (kc_1) ?_
        refine pr_iadd dL_law_264 ?_
        obtain ⟨v19, hv19, hF⟩ := po_b hF
        refine pr_iald dL_law_265 (hv19) ?_
        obtain ⟨q20, hq20, hF⟩ := po_b hF
        refine po_i hq20 (fun hcl hq => ?_) (fun _ hq => nomatch hq)
        refine pr_V (as := [.int v19]) (rest := [.int q18.1]) dL_law_266 cv_19_22 hcl rfl rfl rfl rfl (lb rfl) (lb rfl) (lb rfl) (ok_F_X6_law hq) ?_
        refine po_i hF (fun hc hF => ?_) (fun hc hF => ?_)
        · refine pr_icT (tgt := 1104) dL_law_269 (by decide) (pc_eqT hc) ?_
          refine pr_iinc (v := 6) (L' := [.ref x0, .ref x1, .ref x2, .int (x3 + 6)]) dL_law_1104 rfl (kc_6) rfl ?_
          refine pr_goto (tgt := 18) dL_law_1107 (by decide) ?_
          exact ih hF hr hk
        · refine pr_icF (tgt := 1104) dL_law_269 (by decide) (pc_eqF hc) ?_
          refine pr_iconst (v := 0) dL_law_272 (kc_0) ?_
          cases hF
          exact pr_iret dL_law_273 rfl nb_0 (hr _ rfl)
      refine po_i hF (fun he hF => ?_) (fun he2 hF => ?_)
      · refine pr_tabI (off := 241) (tgt := 274) dL_law_33 hc (by rw [he]; rfl) (by decide) ?_
        refine pr_aload_n dL_law_274 rfl ?_
        refine pr_aload_n dL_law_275 rfl ?_
        refine pr_iload_n dL_law_276 rfl ?_
        refine pr_iconst (v := 1) dL_law_277 (kc_1) ?_
        refine pr_iadd dL_law_278 ?_
        obtain ⟨v21, hv21, hF⟩ := po_b hF
        refine pr_iald dL_law_279 (hv21) ?_
        obtain ⟨q22, hq22, hF⟩ := po_b hF
        refine po_i hq22 (fun hcl hq => ?_) (fun _ hq => nomatch hq)
        refine pr_V (as := [.int v21]) (rest := []) dL_law_280 cv_19_23 hcl rfl rfl rfl rfl (lb rfl) (lb rfl) (lb rfl) (ok_F_X0_orders hq) ?_
        refine pr_aload_n dL_law_283 rfl ?_
        refine pr_aload_n dL_law_284 rfl ?_
        refine pr_iload_n dL_law_285 rfl ?_
        refine pr_iconst (v := 1) dL_law_286 (kc_1) ?_
        refine pr_iadd dL_law_287 ?_
        obtain ⟨v23, hv23, hF⟩ := po_b hF
        refine pr_iald dL_law_288 (hv23) ?_
        obtain ⟨q24, hq24, hF⟩ := po_b hF
        refine po_i hq24 (fun hcl hq => ?_) (fun _ hq => nomatch hq)
        refine pr_V (as := [.int v23]) (rest := [.int q22.1]) dL_law_289 cv_19_26 hcl rfl rfl rfl rfl (lb rfl) (lb rfl) (lb rfl) (ok_F_X6_orders hq) ?_
        refine po_i hF (fun hc hF => ?_) (fun hc hF => ?_)
        · refine pr_icT (tgt := 1104) dL_law_292 (by decide) (pc_eqT hc) ?_
          refine pr_iinc (v := 6) (L' := [.ref x0, .ref x1, .ref x2, .int (x3 + 6)]) dL_law_1104 rfl (kc_6) rfl ?_
          refine pr_goto (tgt := 18) dL_law_1107 (by decide) ?_
          exact ih hF hr hk
        · refine pr_icF (tgt := 1104) dL_law_292 (by decide) (pc_eqF hc) ?_
          refine pr_iconst (v := 0) dL_law_295 (kc_0) ?_
          cases hF
          exact pr_iret dL_law_296 rfl nb_0 (hr _ rfl)
      refine po_i hF (fun he hF => ?_) (fun he3 hF => ?_)
      · refine pr_tabI (off := 264) (tgt := 297) dL_law_33 hc (by rw [he]; rfl) (by decide) ?_
        refine pr_aload_n dL_law_297 rfl ?_
        refine pr_aload_n dL_law_298 rfl ?_
        refine pr_iload_n dL_law_299 rfl ?_
        refine pr_iconst (v := 1) dL_law_300 (kc_1) ?_
        refine pr_iadd dL_law_301 ?_
        obtain ⟨v25, hv25, hF⟩ := po_b hF
        refine pr_iald dL_law_302 (hv25) ?_
        refine pr_aload_n dL_law_303 rfl ?_
        refine pr_iload_n dL_law_304 rfl ?_
        refine pr_iconst (v := 2) dL_law_305 (kc_2) ?_
        refine pr_iadd dL_law_306 ?_
        obtain ⟨v26, hv26, hF⟩ := po_b hF
        refine pr_iald dL_law_307 (hv26) ?_
        obtain ⟨q27, hq27, hF⟩ := po_b hF
        refine po_i hq27 (fun hcl hq => ?_) (fun _ hq => nomatch hq)
        refine pr_V (as := [.int v25, .int v26]) (rest := []) dL_law_308 cv_19_27 hcl rfl rfl rfl rfl (lb rfl) (lb rfl) (lb rfl) (ok_F_X0_dance hq) ?_
        refine pr_aload_n dL_law_311 rfl ?_
        refine pr_aload_n dL_law_312 rfl ?_
        refine pr_iload_n dL_law_313 rfl ?_
        refine pr_iconst (v := 1) dL_law_314 (kc_1) ?_
        refine pr_iadd dL_law_315 ?_
        obtain ⟨v28, hv28, hF⟩ := po_b hF
        refine pr_iald dL_law_316 (hv28) ?_
        refine pr_aload_n dL_law_317 rfl ?_
        refine pr_iload_n dL_law_318 rfl ?_
        refine pr_iconst (v := 2) dL_law_319 (kc_2) ?_
        refine pr_iadd dL_law_320 ?_
        obtain ⟨v29, hv29, hF⟩ := po_b hF
        refine pr_iald dL_law_321 (hv29) ?_
        obtain ⟨q30, hq30, hF⟩ := po_b hF
        refine po_i hq30 (fun hcl hq => ?_) (fun _ hq => nomatch hq)
        refine pr_V (as := [.int v28, .int v29]) (rest := [.int q27.1]) dL_law_322 cv_19_31 hcl rfl rfl rfl rfl (lb rfl) (lb rfl) (lb rfl) (ok_F_X6_dance hq) ?_
        refine po_i hF (fun hc hF => ?_) (fun hc hF => ?_)
        · refine pr_icT (tgt := 1104) dL_law_325 (by decide) (pc_eqT hc) ?_
          refine pr_iinc (v := 6) (L' := [.ref x0, .ref x1, .ref x2, .int (x3 + 6)]) dL_law_1104 rfl (kc_6) rfl ?_
          refine pr_goto (tgt := 18) dL_law_1107 (by decide) ?_
          exact ih hF hr hk
        · refine pr_icF (tgt := 1104) dL_law_325 (by decide) (pc_eqF hc) ?_
          refine pr_iconst (v := 0) dL_law_328 (kc_0) ?_
          cases hF
          exact pr_iret dL_law_329 rfl nb_0 (hr _ rfl)
      refine po_i hF (fun he hF => ?_) (fun he4 hF => ?_)
      · refine pr_tabI (off := 297) (tgt := 330) dL_law_33 hc (by rw [he]; rfl) (by decide) ?_
        refine pr_aload_n dL_law_330 rfl ?_
        refine pr_aload_n dL_law_331 rfl ?_
        refine pr_iload_n dL_law_332 rfl ?_
        refine pr_iconst (v := 1) dL_law_333 (kc_1) ?_
        refine pr_iadd dL_law_334 ?_
        obtain ⟨v31, hv31, hF⟩ := po_b hF
        refine pr_iald dL_law_335 (hv31) ?_
        obtain ⟨q32, hq32, hF⟩ := po_b hF
        refine po_i hq32 (fun hcl hq => ?_) (fun _ hq => nomatch hq)
        refine pr_V (as := [.int v31]) (rest := []) dL_law_336 cv_19_32 hcl rfl rfl rfl rfl (lb rfl) (lb rfl) (lb rfl) (ok_F_X0_evenings hq) ?_
        refine pr_aload_n dL_law_339 rfl ?_
        refine pr_aload_n dL_law_340 rfl ?_
        refine pr_iload_n dL_law_341 rfl ?_
        refine pr_iconst (v := 1) dL_law_342 (kc_1) ?_
        refine pr_iadd dL_law_343 ?_
        obtain ⟨v33, hv33, hF⟩ := po_b hF
        refine pr_iald dL_law_344 (hv33) ?_
        obtain ⟨q34, hq34, hF⟩ := po_b hF
        refine po_i hq34 (fun hcl hq => ?_) (fun _ hq => nomatch hq)
        refine pr_V (as := [.int v33]) (rest := [.int q32.1]) dL_law_345 cv_19_35 hcl rfl rfl rfl rfl (lb rfl) (lb rfl) (lb rfl) (ok_F_X6_evenings hq) ?_
        refine po_i hF (fun hc hF => ?_) (fun hc hF => ?_)
        · refine pr_icT (tgt := 1104) dL_law_348 (by decide) (pc_eqT hc) ?_
          refine pr_iinc (v := 6) (L' := [.ref x0, .ref x1, .ref x2, .int (x3 + 6)]) dL_law_1104 rfl (kc_6) rfl ?_
          refine pr_goto (tgt := 18) dL_law_1107 (by decide) ?_
          exact ih hF hr hk
        · refine pr_icF (tgt := 1104) dL_law_348 (by decide) (pc_eqF hc) ?_
          refine pr_iconst (v := 0) dL_law_351 (kc_0) ?_
          cases hF
          exact pr_iret dL_law_352 rfl nb_0 (hr _ rfl)
      refine po_i hF (fun he hF => ?_) (fun he5 hF => ?_)
      · refine pr_tabI (off := 320) (tgt := 353) dL_law_33 hc (by rw [he]; rfl) (by decide) ?_
        refine pr_aload_n dL_law_353 rfl ?_
        refine pr_aload_n dL_law_354 rfl ?_
        refine pr_iload_n dL_law_355 rfl ?_
        refine pr_iconst (v := 1) dL_law_356 (kc_1) ?_
        refine pr_iadd dL_law_357 ?_
        obtain ⟨v35, hv35, hF⟩ := po_b hF
        refine pr_iald dL_law_358 (hv35) ?_
        refine pr_aload_n dL_law_359 rfl ?_
        refine pr_iload_n dL_law_360 rfl ?_
        refine pr_iconst (v := 2) dL_law_361 (kc_2) ?_
        refine pr_iadd dL_law_362 ?_
        obtain ⟨v36, hv36, hF⟩ := po_b hF
        refine pr_iald dL_law_363 (hv36) ?_
        obtain ⟨q37, hq37, hF⟩ := po_b hF
        refine po_i hq37 (fun hcl hq => ?_) (fun _ hq => nomatch hq)
        refine pr_V (as := [.int v35, .int v36]) (rest := []) dL_law_364 cv_19_36 hcl rfl rfl rfl rfl (lb rfl) (lb rfl) (lb rfl) (ok_F_X0_tried hq) ?_
        refine pr_aload_n dL_law_367 rfl ?_
        refine pr_aload_n dL_law_368 rfl ?_
        refine pr_iload_n dL_law_369 rfl ?_
        refine pr_iconst (v := 1) dL_law_370 (kc_1) ?_
        refine pr_iadd dL_law_371 ?_
        obtain ⟨v38, hv38, hF⟩ := po_b hF
        refine pr_iald dL_law_372 (hv38) ?_
        refine pr_aload_n dL_law_373 rfl ?_
        refine pr_iload_n dL_law_374 rfl ?_
        refine pr_iconst (v := 2) dL_law_375 (kc_2) ?_
        refine pr_iadd dL_law_376 ?_
        obtain ⟨v39, hv39, hF⟩ := po_b hF
        refine pr_iald dL_law_377 (hv39) ?_
        obtain ⟨q40, hq40, hF⟩ := po_b hF
        refine po_i hq40 (fun hcl hq => ?_) (fun _ hq => nomatch hq)
        refine pr_V (as := [.int v38, .int v39]) (rest := [.int q37.1]) dL_law_378 cv_19_39 hcl rfl rfl rfl rfl (lb rfl) (lb rfl) (lb rfl) (ok_F_X6_tried hq) ?_
        refine po_i hF (fun hc hF => ?_) (fun hc hF => ?_)
        · refine pr_icT (tgt := 1104) dL_law_381 (by decide) (pc_eqT hc) ?_
          refine pr_iinc (v := 6) (L' := [.ref x0, .ref x1, .ref x2, .int (x3 + 6)]) dL_law_1104 rfl (kc_6) rfl ?_
          refine pr_goto (tgt := 18) dL_law_1107 (by decide) ?_
          exact ih hF hr hk
        · refine pr_icF (tgt := 1104) dL_law_381 (by decide) (pc_eqF hc) ?_
          refine pr_iconst (v := 0) dL_law_384 (kc_0) ?_
          cases hF
          exact pr_iret dL_law_385 rfl nb_0 (hr _ rfl)
      refine po_i hF (fun he hF => ?_) (fun he6 hF => ?_)
      · refine pr_tabI (off := 353) (tgt := 386) dL_law_33 hc (by rw [he]; rfl) (by decide) ?_
        refine pr_aload_n dL_law_386 rfl ?_
        refine pr_aload_n dL_law_387 rfl ?_
        refine pr_iload_n dL_law_388 rfl ?_
        refine pr_iconst (v := 1) dL_law_389 (kc_1) ?_
        refine pr_iadd dL_law_390 ?_
        obtain ⟨v41, hv41, hF⟩ := po_b hF
        refine pr_iald dL_law_391 (hv41) ?_
        refine pr_aload_n dL_law_392 rfl ?_
        refine pr_iload_n dL_law_393 rfl ?_
        refine pr_iconst (v := 2) dL_law_394 (kc_2) ?_
        refine pr_iadd dL_law_395 ?_
        obtain ⟨v42, hv42, hF⟩ := po_b hF
        refine pr_iald dL_law_396 (hv42) ?_
        obtain ⟨q43, hq43, hF⟩ := po_b hF
        refine po_i hq43 (fun hcl hq => ?_) (fun _ hq => nomatch hq)
        refine pr_V (as := [.int v41, .int v42]) (rest := []) dL_law_397 cv_19_40 hcl rfl rfl rfl rfl (lb rfl) (lb rfl) (lb rfl) (ok_F_X0_personIs hq) ?_
        refine pr_aload_n dL_law_400 rfl ?_
        refine pr_aload_n dL_law_401 rfl ?_
        refine pr_iload_n dL_law_402 rfl ?_
        refine pr_iconst (v := 1) dL_law_403 (kc_1) ?_
        refine pr_iadd dL_law_404 ?_
        obtain ⟨v44, hv44, hF⟩ := po_b hF
        refine pr_iald dL_law_405 (hv44) ?_
        refine pr_aload_n dL_law_406 rfl ?_
        refine pr_iload_n dL_law_407 rfl ?_
        refine pr_iconst (v := 2) dL_law_408 (kc_2) ?_
        refine pr_iadd dL_law_409 ?_
        obtain ⟨v45, hv45, hF⟩ := po_b hF
        refine pr_iald dL_law_410 (hv45) ?_
        obtain ⟨q46, hq46, hF⟩ := po_b hF
        refine po_i hq46 (fun hcl hq => ?_) (fun _ hq => nomatch hq)
        refine pr_V (as := [.int v44, .int v45]) (rest := [.int q43]) dL_law_411 cv_19_43 hcl rfl rfl rfl rfl (lb rfl) (lb rfl) (lb rfl) (ok_F_X6_personIs hq) ?_
        refine po_i hF (fun hc hF => ?_) (fun hc hF => ?_)
        · refine pr_icT (tgt := 1104) dL_law_414 (by decide) (pc_eqT hc) ?_
          refine pr_iinc (v := 6) (L' := [.ref x0, .ref x1, .ref x2, .int (x3 + 6)]) dL_law_1104 rfl (kc_6) rfl ?_
          refine pr_goto (tgt := 18) dL_law_1107 (by decide) ?_
          exact ih hF hr hk
        · refine pr_icF (tgt := 1104) dL_law_414 (by decide) (pc_eqF hc) ?_
          refine pr_iconst (v := 0) dL_law_417 (kc_0) ?_
          cases hF
          exact pr_iret dL_law_418 rfl nb_0 (hr _ rfl)
      refine po_i hF (fun he hF => ?_) (fun he7 hF => ?_)
      · refine pr_tabI (off := 386) (tgt := 419) dL_law_33 hc (by rw [he]; rfl) (by decide) ?_
        refine pr_aload_n dL_law_419 rfl ?_
        refine pr_aload_n dL_law_420 rfl ?_
        refine pr_iload_n dL_law_421 rfl ?_
        refine pr_iconst (v := 1) dL_law_422 (kc_1) ?_
        refine pr_iadd dL_law_423 ?_
        obtain ⟨v47, hv47, hF⟩ := po_b hF
        refine pr_iald dL_law_424 (hv47) ?_
        refine pr_aload_n dL_law_425 rfl ?_
        refine pr_iload_n dL_law_426 rfl ?_
        refine pr_iconst (v := 2) dL_law_427 (kc_2) ?_
        refine pr_iadd dL_law_428 ?_
        obtain ⟨v48, hv48, hF⟩ := po_b hF
        refine pr_iald dL_law_429 (hv48) ?_
        obtain ⟨q49, hq49, hF⟩ := po_b hF
        refine po_i hq49 (fun hcl hq => ?_) (fun _ hq => nomatch hq)
        refine pr_V (as := [.int v47, .int v48]) (rest := []) dL_law_430 cv_19_44 hcl rfl rfl rfl rfl (lb rfl) (lb rfl) (lb rfl) (ok_F_X0_favours hq) ?_
        refine pr_aload_n dL_law_433 rfl ?_
        refine pr_aload_n dL_law_434 rfl ?_
        refine pr_iload_n dL_law_435 rfl ?_
        refine pr_iconst (v := 1) dL_law_436 (kc_1) ?_
        refine pr_iadd dL_law_437 ?_
        obtain ⟨v50, hv50, hF⟩ := po_b hF
        refine pr_iald dL_law_438 (hv50) ?_
        refine pr_aload_n dL_law_439 rfl ?_
        refine pr_iload_n dL_law_440 rfl ?_
        refine pr_iconst (v := 2) dL_law_441 (kc_2) ?_
        refine pr_iadd dL_law_442 ?_
        obtain ⟨v51, hv51, hF⟩ := po_b hF
        refine pr_iald dL_law_443 (hv51) ?_
        obtain ⟨q52, hq52, hF⟩ := po_b hF
        refine po_i hq52 (fun hcl hq => ?_) (fun _ hq => nomatch hq)
        refine pr_V (as := [.int v50, .int v51]) (rest := [.int q49]) dL_law_444 cv_19_47 hcl rfl rfl rfl rfl (lb rfl) (lb rfl) (lb rfl) (ok_F_X6_favours hq) ?_
        refine po_i hF (fun hc hF => ?_) (fun hc hF => ?_)
        · refine pr_icT (tgt := 1104) dL_law_447 (by decide) (pc_eqT hc) ?_
          refine pr_iinc (v := 6) (L' := [.ref x0, .ref x1, .ref x2, .int (x3 + 6)]) dL_law_1104 rfl (kc_6) rfl ?_
          refine pr_goto (tgt := 18) dL_law_1107 (by decide) ?_
          exact ih hF hr hk
        · refine pr_icF (tgt := 1104) dL_law_447 (by decide) (pc_eqF hc) ?_
          refine pr_iconst (v := 0) dL_law_450 (kc_0) ?_
          cases hF
          exact pr_iret dL_law_451 rfl nb_0 (hr _ rfl)
      refine po_i hF (fun he hF => ?_) (fun he8 hF => ?_)
      · refine pr_tabI (off := 419) (tgt := 452) dL_law_33 hc (by rw [he]; rfl) (by decide) ?_
        refine pr_aload_n dL_law_452 rfl ?_
        refine pr_aload_n dL_law_453 rfl ?_
        refine pr_iload_n dL_law_454 rfl ?_
        refine pr_iconst (v := 1) dL_law_455 (kc_1) ?_
        refine pr_iadd dL_law_456 ?_
        obtain ⟨v53, hv53, hF⟩ := po_b hF
        refine pr_iald dL_law_457 (hv53) ?_
        obtain ⟨q54, hq54, hF⟩ := po_b hF
        refine po_i hq54 (fun hcl hq => ?_) (fun _ hq => nomatch hq)
        refine pr_V (as := [.int v53]) (rest := []) dL_law_458 cv_19_48 hcl rfl rfl rfl rfl (lb rfl) (lb rfl) (lb rfl) (ok_F_X0_stayOut hq) ?_
        refine pr_aload_n dL_law_461 rfl ?_
        refine pr_aload_n dL_law_462 rfl ?_
        refine pr_iload_n dL_law_463 rfl ?_
        refine pr_iconst (v := 1) dL_law_464 (kc_1) ?_
        refine pr_iadd dL_law_465 ?_
        obtain ⟨v55, hv55, hF⟩ := po_b hF
        refine pr_iald dL_law_466 (hv55) ?_
        obtain ⟨q56, hq56, hF⟩ := po_b hF
        refine po_i hq56 (fun hcl hq => ?_) (fun _ hq => nomatch hq)
        refine pr_V (as := [.int v55]) (rest := [.int q54]) dL_law_467 cv_19_51 hcl rfl rfl rfl rfl (lb rfl) (lb rfl) (lb rfl) (ok_F_X6_stayOut hq) ?_
        refine po_i hF (fun hc hF => ?_) (fun hc hF => ?_)
        · refine pr_icT (tgt := 1104) dL_law_470 (by decide) (pc_eqT hc) ?_
          refine pr_iinc (v := 6) (L' := [.ref x0, .ref x1, .ref x2, .int (x3 + 6)]) dL_law_1104 rfl (kc_6) rfl ?_
          refine pr_goto (tgt := 18) dL_law_1107 (by decide) ?_
          exact ih hF hr hk
        · refine pr_icF (tgt := 1104) dL_law_470 (by decide) (pc_eqF hc) ?_
          refine pr_iconst (v := 0) dL_law_473 (kc_0) ?_
          cases hF
          exact pr_iret dL_law_474 rfl nb_0 (hr _ rfl)
      refine po_i hF (fun he hF => ?_) (fun he9 hF => ?_)
      · refine pr_tabI (off := 442) (tgt := 475) dL_law_33 hc (by rw [he]; rfl) (by decide) ?_
        refine pr_aload_n dL_law_475 rfl ?_
        refine pr_aload_n dL_law_476 rfl ?_
        refine pr_iload_n dL_law_477 rfl ?_
        refine pr_iconst (v := 1) dL_law_478 (kc_1) ?_
        refine pr_iadd dL_law_479 ?_
        obtain ⟨v57, hv57, hF⟩ := po_b hF
        refine pr_iald dL_law_480 (hv57) ?_
        refine pr_aload_n dL_law_481 rfl ?_
        refine pr_iload_n dL_law_482 rfl ?_
        refine pr_iconst (v := 2) dL_law_483 (kc_2) ?_
        refine pr_iadd dL_law_484 ?_
        obtain ⟨v58, hv58, hF⟩ := po_b hF
        refine pr_iald dL_law_485 (hv58) ?_
        obtain ⟨q59, hq59, hF⟩ := po_b hF
        refine po_i hq59 (fun hcl hq => ?_) (fun _ hq => nomatch hq)
        refine pr_V (as := [.int v57, .int v58]) (rest := []) dL_law_486 cv_19_52 hcl rfl rfl rfl rfl (lb rfl) (lb rfl) (lb rfl) (ok_F_X0_inOrder hq) ?_
        refine pr_aload_n dL_law_489 rfl ?_
        refine pr_aload_n dL_law_490 rfl ?_
        refine pr_iload_n dL_law_491 rfl ?_
        refine pr_iconst (v := 1) dL_law_492 (kc_1) ?_
        refine pr_iadd dL_law_493 ?_
        obtain ⟨v60, hv60, hF⟩ := po_b hF
        refine pr_iald dL_law_494 (hv60) ?_
        refine pr_aload_n dL_law_495 rfl ?_
        refine pr_iload_n dL_law_496 rfl ?_
        refine pr_iconst (v := 2) dL_law_497 (kc_2) ?_
        refine pr_iadd dL_law_498 ?_
        obtain ⟨v61, hv61, hF⟩ := po_b hF
        refine pr_iald dL_law_499 (hv61) ?_
        obtain ⟨q62, hq62, hF⟩ := po_b hF
        refine po_i hq62 (fun hcl hq => ?_) (fun _ hq => nomatch hq)
        refine pr_V (as := [.int v60, .int v61]) (rest := [.int q59.1]) dL_law_500 cv_19_55 hcl rfl rfl rfl rfl (lb rfl) (lb rfl) (lb rfl) (ok_F_X6_inOrder hq) ?_
        refine po_i hF (fun hc hF => ?_) (fun hc hF => ?_)
        · refine pr_icT (tgt := 1104) dL_law_503 (by decide) (pc_eqT hc) ?_
          refine pr_iinc (v := 6) (L' := [.ref x0, .ref x1, .ref x2, .int (x3 + 6)]) dL_law_1104 rfl (kc_6) rfl ?_
          refine pr_goto (tgt := 18) dL_law_1107 (by decide) ?_
          exact ih hF hr hk
        · refine pr_icF (tgt := 1104) dL_law_503 (by decide) (pc_eqF hc) ?_
          refine pr_iconst (v := 0) dL_law_506 (kc_0) ?_
          cases hF
          exact pr_iret dL_law_507 rfl nb_0 (hr _ rfl)
      refine po_i hF (fun he hF => ?_) (fun he10 hF => ?_)
      · refine pr_tabI (off := 475) (tgt := 508) dL_law_33 hc (by rw [he]; rfl) (by decide) ?_
        refine pr_aload_n dL_law_508 rfl ?_
        refine pr_aload_n dL_law_509 rfl ?_
        refine pr_iload_n dL_law_510 rfl ?_
        refine pr_iconst (v := 1) dL_law_511 (kc_1) ?_
        refine pr_iadd dL_law_512 ?_
        obtain ⟨v63, hv63, hF⟩ := po_b hF
        refine pr_iald dL_law_513 (hv63) ?_
        obtain ⟨q64, hq64, hF⟩ := po_b hF
        refine po_i hq64 (fun hcl hq => ?_) (fun _ hq => nomatch hq)
        refine pr_V (as := [.int v63]) (rest := []) dL_law_514 cv_19_56 hcl rfl rfl rfl rfl (lb rfl) (lb rfl) (lb rfl) (ok_F_X0_ways hq) ?_
        refine pr_aload_n dL_law_517 rfl ?_
        refine pr_aload_n dL_law_518 rfl ?_
        refine pr_iload_n dL_law_519 rfl ?_
        refine pr_iconst (v := 1) dL_law_520 (kc_1) ?_
        refine pr_iadd dL_law_521 ?_
        obtain ⟨v65, hv65, hF⟩ := po_b hF
        refine pr_iald dL_law_522 (hv65) ?_
        obtain ⟨q66, hq66, hF⟩ := po_b hF
        refine po_i hq66 (fun hcl hq => ?_) (fun _ hq => nomatch hq)
        refine pr_V (as := [.int v65]) (rest := [.long q64.1]) dL_law_523 cv_19_60 hcl rfl rfl rfl rfl (lb rfl) (lb rfl) (lb rfl) (ok_F_X6_ways hq) ?_
        refine pr_lcmp dL_law_526 ?_
        refine po_i hF (fun hc hF => ?_) (fun hc hF => ?_)
        · refine pr_ifT (tgt := 1104) dL_law_527 (by decide) (pc_eqT hc) ?_
          refine pr_iinc (v := 6) (L' := [.ref x0, .ref x1, .ref x2, .int (x3 + 6)]) dL_law_1104 rfl (kc_6) rfl ?_
          refine pr_goto (tgt := 18) dL_law_1107 (by decide) ?_
          exact ih hF hr hk
        · refine pr_ifF (tgt := 1104) dL_law_527 (by decide) (pc_eqF hc) ?_
          refine pr_iconst (v := 0) dL_law_530 (kc_0) ?_
          cases hF
          exact pr_iret dL_law_531 rfl nb_0 (hr _ rfl)
      refine po_i hF (fun he hF => ?_) (fun he11 hF => ?_)
      · refine pr_tabI (off := 499) (tgt := 532) dL_law_33 hc (by rw [he]; rfl) (by decide) ?_
        refine pr_aload_n dL_law_532 rfl ?_
        refine pr_aload_n dL_law_533 rfl ?_
        refine pr_iload_n dL_law_534 rfl ?_
        refine pr_iconst (v := 1) dL_law_535 (kc_1) ?_
        refine pr_iadd dL_law_536 ?_
        obtain ⟨v67, hv67, hF⟩ := po_b hF
        refine pr_iald dL_law_537 (hv67) ?_
        obtain ⟨q68, hq68, hF⟩ := po_b hF
        refine po_i hq68 (fun hcl hq => ?_) (fun _ hq => nomatch hq)
        refine pr_V (as := [.int v67]) (rest := []) dL_law_538 cv_19_61 hcl rfl rfl rfl rfl (lb rfl) (lb rfl) (lb rfl) (ok_F_X0_keepsOut hq) ?_
        refine pr_aload_n dL_law_541 rfl ?_
        refine pr_aload_n dL_law_542 rfl ?_
        refine pr_iload_n dL_law_543 rfl ?_
        refine pr_iconst (v := 1) dL_law_544 (kc_1) ?_
        refine pr_iadd dL_law_545 ?_
        obtain ⟨v69, hv69, hF⟩ := po_b hF
        refine pr_iald dL_law_546 (hv69) ?_
        obtain ⟨q70, hq70, hF⟩ := po_b hF
        refine po_i hq70 (fun hcl hq => ?_) (fun _ hq => nomatch hq)
        refine pr_V (as := [.int v69]) (rest := [.int q68.1]) dL_law_547 cv_19_64 hcl rfl rfl rfl rfl (lb rfl) (lb rfl) (lb rfl) (ok_F_X6_keepsOut hq) ?_
        refine po_i hF (fun hc hF => ?_) (fun hc hF => ?_)
        · refine pr_icT (tgt := 1104) dL_law_550 (by decide) (pc_eqT hc) ?_
          refine pr_iinc (v := 6) (L' := [.ref x0, .ref x1, .ref x2, .int (x3 + 6)]) dL_law_1104 rfl (kc_6) rfl ?_
          refine pr_goto (tgt := 18) dL_law_1107 (by decide) ?_
          exact ih hF hr hk
        · refine pr_icF (tgt := 1104) dL_law_550 (by decide) (pc_eqF hc) ?_
          refine pr_iconst (v := 0) dL_law_553 (kc_0) ?_
          cases hF
          exact pr_iret dL_law_554 rfl nb_0 (hr _ rfl)
      refine po_i hF (fun he hF => ?_) (fun he12 hF => ?_)
      · refine pr_tabI (off := 522) (tgt := 555) dL_law_33 hc (by rw [he]; rfl) (by decide) ?_
        refine pr_aload_n dL_law_555 rfl ?_
        refine pr_aload_n dL_law_556 rfl ?_
        refine pr_iload_n dL_law_557 rfl ?_
        refine pr_iconst (v := 1) dL_law_558 (kc_1) ?_
        refine pr_iadd dL_law_559 ?_
        obtain ⟨v71, hv71, hF⟩ := po_b hF
        refine pr_iald dL_law_560 (hv71) ?_
        refine pr_aload_n dL_law_561 rfl ?_
        refine pr_iload_n dL_law_562 rfl ?_
        refine pr_iconst (v := 2) dL_law_563 (kc_2) ?_
        refine pr_iadd dL_law_564 ?_
        obtain ⟨v72, hv72, hF⟩ := po_b hF
        refine pr_iald dL_law_565 (hv72) ?_
        obtain ⟨q73, hq73, hF⟩ := po_b hF
        refine po_i hq73 (fun hcl hq => ?_) (fun _ hq => nomatch hq)
        refine pr_V (as := [.int v71, .int v72]) (rest := []) dL_law_566 cv_19_65 hcl rfl rfl rfl rfl (lb rfl) (lb rfl) (lb rfl) (ok_F_X0_chain hq) ?_
        refine pr_aload_n dL_law_569 rfl ?_
        refine pr_aload_n dL_law_570 rfl ?_
        refine pr_iload_n dL_law_571 rfl ?_
        refine pr_iconst (v := 1) dL_law_572 (kc_1) ?_
        refine pr_iadd dL_law_573 ?_
        obtain ⟨v74, hv74, hF⟩ := po_b hF
        refine pr_iald dL_law_574 (hv74) ?_
        refine pr_aload_n dL_law_575 rfl ?_
        refine pr_iload_n dL_law_576 rfl ?_
        refine pr_iconst (v := 2) dL_law_577 (kc_2) ?_
        refine pr_iadd dL_law_578 ?_
        obtain ⟨v75, hv75, hF⟩ := po_b hF
        refine pr_iald dL_law_579 (hv75) ?_
        obtain ⟨q76, hq76, hF⟩ := po_b hF
        refine po_i hq76 (fun hcl hq => ?_) (fun _ hq => nomatch hq)
        refine pr_V (as := [.int v74, .int v75]) (rest := [.int q73]) dL_law_580 cv_19_68 hcl rfl rfl rfl rfl (lb rfl) (lb rfl) (lb rfl) (ok_F_X6_chain hq) ?_
        refine po_i hF (fun hc hF => ?_) (fun hc hF => ?_)
        · refine pr_icT (tgt := 1104) dL_law_583 (by decide) (pc_eqT hc) ?_
          refine pr_iinc (v := 6) (L' := [.ref x0, .ref x1, .ref x2, .int (x3 + 6)]) dL_law_1104 rfl (kc_6) rfl ?_
          refine pr_goto (tgt := 18) dL_law_1107 (by decide) ?_
          exact ih hF hr hk
        · refine pr_icF (tgt := 1104) dL_law_583 (by decide) (pc_eqF hc) ?_
          refine pr_iconst (v := 0) dL_law_586 (kc_0) ?_
          cases hF
          exact pr_iret dL_law_587 rfl nb_0 (hr _ rfl)
      refine po_i hF (fun he hF => ?_) (fun he13 hF => ?_)
      · refine pr_tabI (off := 555) (tgt := 588) dL_law_33 hc (by rw [he]; rfl) (by decide) ?_
        refine pr_aload_n dL_law_588 rfl ?_
        refine pr_aload_n dL_law_589 rfl ?_
        refine pr_iload_n dL_law_590 rfl ?_
        refine pr_iconst (v := 1) dL_law_591 (kc_1) ?_
        refine pr_iadd dL_law_592 ?_
        obtain ⟨v77, hv77, hF⟩ := po_b hF
        refine pr_iald dL_law_593 (hv77) ?_
        obtain ⟨q78, hq78, hF⟩ := po_b hF
        refine po_i hq78 (fun hcl hq => ?_) (fun _ hq => nomatch hq)
        refine pr_V (as := [.int v77]) (rest := []) dL_law_594 cv_19_69 hcl rfl rfl rfl rfl (lb rfl) (lb rfl) (lb rfl) (ok_F_X0_party hq) ?_
        refine pr_aload_n dL_law_597 rfl ?_
        refine pr_aload_n dL_law_598 rfl ?_
        refine pr_iload_n dL_law_599 rfl ?_
        refine pr_iconst (v := 1) dL_law_600 (kc_1) ?_
        refine pr_iadd dL_law_601 ?_
        obtain ⟨v79, hv79, hF⟩ := po_b hF
        refine pr_iald dL_law_602 (hv79) ?_
        obtain ⟨q80, hq80, hF⟩ := po_b hF
        refine po_i hq80 (fun hcl hq => ?_) (fun _ hq => nomatch hq)
        refine pr_V (as := [.int v79]) (rest := [.int q78]) dL_law_603 cv_19_72 hcl rfl rfl rfl rfl (lb rfl) (lb rfl) (lb rfl) (ok_F_X6_party hq) ?_
        refine po_i hF (fun hc hF => ?_) (fun hc hF => ?_)
        · refine pr_icT (tgt := 1104) dL_law_606 (by decide) (pc_eqT hc) ?_
          refine pr_iinc (v := 6) (L' := [.ref x0, .ref x1, .ref x2, .int (x3 + 6)]) dL_law_1104 rfl (kc_6) rfl ?_
          refine pr_goto (tgt := 18) dL_law_1107 (by decide) ?_
          exact ih hF hr hk
        · refine pr_icF (tgt := 1104) dL_law_606 (by decide) (pc_eqF hc) ?_
          refine pr_iconst (v := 0) dL_law_609 (kc_0) ?_
          cases hF
          exact pr_iret dL_law_610 rfl nb_0 (hr _ rfl)
      refine po_i hF (fun he hF => ?_) (fun he14 hF => ?_)
      · refine pr_tabI (off := 578) (tgt := 611) dL_law_33 hc (by rw [he]; rfl) (by decide) ?_
        refine pr_aload_n dL_law_611 rfl ?_
        obtain ⟨q81, hq81, hF⟩ := po_b hF
        refine po_i hq81 (fun hcl hq => ?_) (fun _ hq => nomatch hq)
        refine pr_V (as := []) (rest := []) dL_law_612 cv_19_73 hcl rfl rfl rfl rfl (lb rfl) (lb rfl) (lb rfl) (ok_F_X0_twoStreets hq) ?_
        refine pr_aload_n dL_law_615 rfl ?_
        obtain ⟨q82, hq82, hF⟩ := po_b hF
        refine po_i hq82 (fun hcl hq => ?_) (fun _ hq => nomatch hq)
        refine pr_V (as := []) (rest := [.int q81]) dL_law_616 cv_19_77 hcl rfl rfl rfl rfl (lb rfl) (lb rfl) (lb rfl) (ok_F_X6_twoStreets hq) ?_
        refine po_i hF (fun hc hF => ?_) (fun hc hF => ?_)
        · refine pr_icT (tgt := 1104) dL_law_619 (by decide) (pc_eqT hc) ?_
          refine pr_iinc (v := 6) (L' := [.ref x0, .ref x1, .ref x2, .int (x3 + 6)]) dL_law_1104 rfl (kc_6) rfl ?_
          refine pr_goto (tgt := 18) dL_law_1107 (by decide) ?_
          exact ih hF hr hk
        · refine pr_icF (tgt := 1104) dL_law_619 (by decide) (pc_eqF hc) ?_
          refine pr_iconst (v := 0) dL_law_622 (kc_0) ?_
          cases hF
          exact pr_iret dL_law_623 rfl nb_0 (hr _ rfl)
      refine po_i hF (fun he hF => ?_) (fun he15 hF => ?_)
      · refine pr_tabI (off := 591) (tgt := 624) dL_law_33 hc (by rw [he]; rfl) (by decide) ?_
        refine pr_aload_n dL_law_624 rfl ?_
        refine pr_aload_n dL_law_625 rfl ?_
        refine pr_iload_n dL_law_626 rfl ?_
        refine pr_iconst (v := 1) dL_law_627 (kc_1) ?_
        refine pr_iadd dL_law_628 ?_
        obtain ⟨v83, hv83, hF⟩ := po_b hF
        refine pr_iald dL_law_629 (hv83) ?_
        obtain ⟨q84, hq84, hF⟩ := po_b hF
        refine po_i hq84 (fun hcl hq => ?_) (fun _ hq => nomatch hq)
        refine pr_V (as := [.int v83]) (rest := []) dL_law_630 cv_19_78 hcl rfl rfl rfl rfl (lb rfl) (lb rfl) (lb rfl) (ok_F_X0_parties hq) ?_
        refine pr_aload_n dL_law_633 rfl ?_
        refine pr_aload_n dL_law_634 rfl ?_
        refine pr_iload_n dL_law_635 rfl ?_
        refine pr_iconst (v := 1) dL_law_636 (kc_1) ?_
        refine pr_iadd dL_law_637 ?_
        obtain ⟨v85, hv85, hF⟩ := po_b hF
        refine pr_iald dL_law_638 (hv85) ?_
        obtain ⟨q86, hq86, hF⟩ := po_b hF
        refine po_i hq86 (fun hcl hq => ?_) (fun _ hq => nomatch hq)
        refine pr_V (as := [.int v85]) (rest := [.int q84.1]) dL_law_639 cv_19_81 hcl rfl rfl rfl rfl (lb rfl) (lb rfl) (lb rfl) (ok_F_X6_parties hq) ?_
        refine po_i hF (fun hc hF => ?_) (fun hc hF => ?_)
        · refine pr_icT (tgt := 1104) dL_law_642 (by decide) (pc_eqT hc) ?_
          refine pr_iinc (v := 6) (L' := [.ref x0, .ref x1, .ref x2, .int (x3 + 6)]) dL_law_1104 rfl (kc_6) rfl ?_
          refine pr_goto (tgt := 18) dL_law_1107 (by decide) ?_
          exact ih hF hr hk
        · refine pr_icF (tgt := 1104) dL_law_642 (by decide) (pc_eqF hc) ?_
          refine pr_iconst (v := 0) dL_law_645 (kc_0) ?_
          cases hF
          exact pr_iret dL_law_646 rfl nb_0 (hr _ rfl)
      refine po_i hF (fun he hF => ?_) (fun he16 hF => ?_)
      · refine pr_tabI (off := 614) (tgt := 647) dL_law_33 hc (by rw [he]; rfl) (by decide) ?_
        refine pr_aload_n dL_law_647 rfl ?_
        refine pr_aload_n dL_law_648 rfl ?_
        refine pr_iload_n dL_law_649 rfl ?_
        refine pr_iconst (v := 1) dL_law_650 (kc_1) ?_
        refine pr_iadd dL_law_651 ?_
        obtain ⟨v87, hv87, hF⟩ := po_b hF
        refine pr_iald dL_law_652 (hv87) ?_
        obtain ⟨q88, hq88, hF⟩ := po_b hF
        refine po_i hq88 (fun hcl hq => ?_) (fun _ hq => nomatch hq)
        refine pr_V (as := [.int v87]) (rest := []) dL_law_653 cv_19_82 hcl rfl rfl rfl rfl (lb rfl) (lb rfl) (lb rfl) (ok_F_X0_mended hq) ?_
        refine pr_aload_n dL_law_656 rfl ?_
        refine pr_aload_n dL_law_657 rfl ?_
        refine pr_iload_n dL_law_658 rfl ?_
        refine pr_iconst (v := 1) dL_law_659 (kc_1) ?_
        refine pr_iadd dL_law_660 ?_
        obtain ⟨v89, hv89, hF⟩ := po_b hF
        refine pr_iald dL_law_661 (hv89) ?_
        obtain ⟨q90, hq90, hF⟩ := po_b hF
        refine po_i hq90 (fun hcl hq => ?_) (fun _ hq => nomatch hq)
        refine pr_V (as := [.int v89]) (rest := [.int q88]) dL_law_662 cv_19_85 hcl rfl rfl rfl rfl (lb rfl) (lb rfl) (lb rfl) (ok_F_X6_mended hq) ?_
        refine po_i hF (fun hc hF => ?_) (fun hc hF => ?_)
        · refine pr_icT (tgt := 1104) dL_law_665 (by decide) (pc_eqT hc) ?_
          refine pr_iinc (v := 6) (L' := [.ref x0, .ref x1, .ref x2, .int (x3 + 6)]) dL_law_1104 rfl (kc_6) rfl ?_
          refine pr_goto (tgt := 18) dL_law_1107 (by decide) ?_
          exact ih hF hr hk
        · refine pr_icF (tgt := 1104) dL_law_665 (by decide) (pc_eqF hc) ?_
          refine pr_iconst (v := 0) dL_law_668 (kc_0) ?_
          cases hF
          exact pr_iret dL_law_669 rfl nb_0 (hr _ rfl)
      refine po_i hF (fun he hF => ?_) (fun he17 hF => ?_)
      · refine pr_tabI (off := 637) (tgt := 670) dL_law_33 hc (by rw [he]; rfl) (by decide) ?_
        refine pr_aload_n dL_law_670 rfl ?_
        refine pr_aload_n dL_law_671 rfl ?_
        refine pr_iload_n dL_law_672 rfl ?_
        refine pr_iconst (v := 1) dL_law_673 (kc_1) ?_
        refine pr_iadd dL_law_674 ?_
        obtain ⟨v91, hv91, hF⟩ := po_b hF
        refine pr_iald dL_law_675 (hv91) ?_
        obtain ⟨q92, hq92, hF⟩ := po_b hF
        refine po_i hq92 (fun hcl hq => ?_) (fun _ hq => nomatch hq)
        refine pr_V (as := [.int v91]) (rest := []) dL_law_676 cv_19_86 hcl rfl rfl rfl rfl (lb rfl) (lb rfl) (lb rfl) (ok_F_X0_longest hq) ?_
        refine pr_aload_n dL_law_679 rfl ?_
        refine pr_aload_n dL_law_680 rfl ?_
        refine pr_iload_n dL_law_681 rfl ?_
        refine pr_iconst (v := 1) dL_law_682 (kc_1) ?_
        refine pr_iadd dL_law_683 ?_
        obtain ⟨v93, hv93, hF⟩ := po_b hF
        refine pr_iald dL_law_684 (hv93) ?_
        obtain ⟨q94, hq94, hF⟩ := po_b hF
        refine po_i hq94 (fun hcl hq => ?_) (fun _ hq => nomatch hq)
        refine pr_V (as := [.int v93]) (rest := [.int q92.1]) dL_law_685 cv_19_89 hcl rfl rfl rfl rfl (lb rfl) (lb rfl) (lb rfl) (ok_F_X6_longest hq) ?_
        refine po_i hF (fun hc hF => ?_) (fun hc hF => ?_)
        · refine pr_icT (tgt := 1104) dL_law_688 (by decide) (pc_eqT hc) ?_
          refine pr_iinc (v := 6) (L' := [.ref x0, .ref x1, .ref x2, .int (x3 + 6)]) dL_law_1104 rfl (kc_6) rfl ?_
          refine pr_goto (tgt := 18) dL_law_1107 (by decide) ?_
          exact ih hF hr hk
        · refine pr_icF (tgt := 1104) dL_law_688 (by decide) (pc_eqF hc) ?_
          refine pr_iconst (v := 0) dL_law_691 (kc_0) ?_
          cases hF
          exact pr_iret dL_law_692 rfl nb_0 (hr _ rfl)
      refine po_i hF (fun he hF => ?_) (fun he18 hF => ?_)
      · refine pr_tabI (off := 660) (tgt := 693) dL_law_33 hc (by rw [he]; rfl) (by decide) ?_
        refine pr_aload_n dL_law_693 rfl ?_
        refine pr_aload_n dL_law_694 rfl ?_
        refine pr_iload_n dL_law_695 rfl ?_
        refine pr_iconst (v := 1) dL_law_696 (kc_1) ?_
        refine pr_iadd dL_law_697 ?_
        obtain ⟨v95, hv95, hF⟩ := po_b hF
        refine pr_iald dL_law_698 (hv95) ?_
        obtain ⟨q96, hq96, hF⟩ := po_b hF
        refine po_i hq96 (fun hcl hq => ?_) (fun _ hq => nomatch hq)
        refine pr_V (as := [.int v95]) (rest := []) dL_law_699 cv_19_90 hcl rfl rfl rfl rfl (lb rfl) (lb rfl) (lb rfl) (ok_F_X0_luckless hq) ?_
        refine pr_aload_n dL_law_702 rfl ?_
        refine pr_aload_n dL_law_703 rfl ?_
        refine pr_iload_n dL_law_704 rfl ?_
        refine pr_iconst (v := 1) dL_law_705 (kc_1) ?_
        refine pr_iadd dL_law_706 ?_
        obtain ⟨v97, hv97, hF⟩ := po_b hF
        refine pr_iald dL_law_707 (hv97) ?_
        obtain ⟨q98, hq98, hF⟩ := po_b hF
        refine po_i hq98 (fun hcl hq => ?_) (fun _ hq => nomatch hq)
        refine pr_V (as := [.int v97]) (rest := [.int q96]) dL_law_708 cv_19_93 hcl rfl rfl rfl rfl (lb rfl) (lb rfl) (lb rfl) (ok_F_X6_luckless hq) ?_
        refine po_i hF (fun hc hF => ?_) (fun hc hF => ?_)
        · refine pr_icT (tgt := 1104) dL_law_711 (by decide) (pc_eqT hc) ?_
          refine pr_iinc (v := 6) (L' := [.ref x0, .ref x1, .ref x2, .int (x3 + 6)]) dL_law_1104 rfl (kc_6) rfl ?_
          refine pr_goto (tgt := 18) dL_law_1107 (by decide) ?_
          exact ih hF hr hk
        · refine pr_icF (tgt := 1104) dL_law_711 (by decide) (pc_eqF hc) ?_
          refine pr_iconst (v := 0) dL_law_714 (kc_0) ?_
          cases hF
          exact pr_iret dL_law_715 rfl nb_0 (hr _ rfl)
      refine po_i hF (fun he hF => ?_) (fun he19 hF => ?_)
      · refine pr_tabI (off := 683) (tgt := 716) dL_law_33 hc (by rw [he]; rfl) (by decide) ?_
        refine pr_aload_n dL_law_716 rfl ?_
        refine pr_aload_n dL_law_717 rfl ?_
        refine pr_iload_n dL_law_718 rfl ?_
        refine pr_iconst (v := 1) dL_law_719 (kc_1) ?_
        refine pr_iadd dL_law_720 ?_
        obtain ⟨v99, hv99, hF⟩ := po_b hF
        refine pr_iald dL_law_721 (hv99) ?_
        obtain ⟨q100, hq100, hF⟩ := po_b hF
        refine po_i hq100 (fun hcl hq => ?_) (fun _ hq => nomatch hq)
        refine pr_V (as := [.int v99]) (rest := []) dL_law_722 cv_19_94 hcl rfl rfl rfl rfl (lb rfl) (lb rfl) (lb rfl) (ok_F_X0_stretch hq) ?_
        refine pr_aload_n dL_law_725 rfl ?_
        refine pr_aload_n dL_law_726 rfl ?_
        refine pr_iload_n dL_law_727 rfl ?_
        refine pr_iconst (v := 1) dL_law_728 (kc_1) ?_
        refine pr_iadd dL_law_729 ?_
        obtain ⟨v101, hv101, hF⟩ := po_b hF
        refine pr_iald dL_law_730 (hv101) ?_
        obtain ⟨q102, hq102, hF⟩ := po_b hF
        refine po_i hq102 (fun hcl hq => ?_) (fun _ hq => nomatch hq)
        refine pr_V (as := [.int v101]) (rest := [.int q100]) dL_law_731 cv_19_97 hcl rfl rfl rfl rfl (lb rfl) (lb rfl) (lb rfl) (ok_F_X6_stretch hq) ?_
        refine po_i hF (fun hc hF => ?_) (fun hc hF => ?_)
        · refine pr_icT (tgt := 1104) dL_law_734 (by decide) (pc_eqT hc) ?_
          refine pr_iinc (v := 6) (L' := [.ref x0, .ref x1, .ref x2, .int (x3 + 6)]) dL_law_1104 rfl (kc_6) rfl ?_
          refine pr_goto (tgt := 18) dL_law_1107 (by decide) ?_
          exact ih hF hr hk
        · refine pr_icF (tgt := 1104) dL_law_734 (by decide) (pc_eqF hc) ?_
          refine pr_iconst (v := 0) dL_law_737 (kc_0) ?_
          cases hF
          exact pr_iret dL_law_738 rfl nb_0 (hr _ rfl)
      refine po_i hF (fun he hF => ?_) (fun he20 hF => ?_)
      · refine pr_tabI (off := 706) (tgt := 739) dL_law_33 hc (by rw [he]; rfl) (by decide) ?_
        refine pr_aload_n dL_law_739 rfl ?_
        refine pr_aload_n dL_law_740 rfl ?_
        refine pr_iload_n dL_law_741 rfl ?_
        refine pr_iconst (v := 1) dL_law_742 (kc_1) ?_
        refine pr_iadd dL_law_743 ?_
        obtain ⟨v103, hv103, hF⟩ := po_b hF
        refine pr_iald dL_law_744 (hv103) ?_
        obtain ⟨q104, hq104, hF⟩ := po_b hF
        refine po_i hq104 (fun hcl hq => ?_) (fun _ hq => nomatch hq)
        refine pr_V (as := [.int v103]) (rest := []) dL_law_745 cv_19_98 hcl rfl rfl rfl rfl (lb rfl) (lb rfl) (lb rfl) (ok_F_X0_inDebt hq) ?_
        refine pr_aload_n dL_law_748 rfl ?_
        refine pr_aload_n dL_law_749 rfl ?_
        refine pr_iload_n dL_law_750 rfl ?_
        refine pr_iconst (v := 1) dL_law_751 (kc_1) ?_
        refine pr_iadd dL_law_752 ?_
        obtain ⟨v105, hv105, hF⟩ := po_b hF
        refine pr_iald dL_law_753 (hv105) ?_
        obtain ⟨q106, hq106, hF⟩ := po_b hF
        refine po_i hq106 (fun hcl hq => ?_) (fun _ hq => nomatch hq)
        refine pr_V (as := [.int v105]) (rest := [.int q104]) dL_law_754 cv_19_101 hcl rfl rfl rfl rfl (lb rfl) (lb rfl) (lb rfl) (ok_F_X6_inDebt hq) ?_
        refine po_i hF (fun hc hF => ?_) (fun hc hF => ?_)
        · refine pr_icT (tgt := 1104) dL_law_757 (by decide) (pc_eqT hc) ?_
          refine pr_iinc (v := 6) (L' := [.ref x0, .ref x1, .ref x2, .int (x3 + 6)]) dL_law_1104 rfl (kc_6) rfl ?_
          refine pr_goto (tgt := 18) dL_law_1107 (by decide) ?_
          exact ih hF hr hk
        · refine pr_icF (tgt := 1104) dL_law_757 (by decide) (pc_eqF hc) ?_
          refine pr_iconst (v := 0) dL_law_760 (kc_0) ?_
          cases hF
          exact pr_iret dL_law_761 rfl nb_0 (hr _ rfl)
      refine po_i hF (fun he hF => ?_) (fun he21 hF => ?_)
      · refine pr_tabI (off := 729) (tgt := 762) dL_law_33 hc (by rw [he]; rfl) (by decide) ?_
        refine pr_aload_n dL_law_762 rfl ?_
        refine pr_aload_n dL_law_763 rfl ?_
        refine pr_iload_n dL_law_764 rfl ?_
        refine pr_iconst (v := 1) dL_law_765 (kc_1) ?_
        refine pr_iadd dL_law_766 ?_
        obtain ⟨v107, hv107, hF⟩ := po_b hF
        refine pr_iald dL_law_767 (hv107) ?_
        obtain ⟨q108, hq108, hF⟩ := po_b hF
        refine po_i hq108 (fun hcl hq => ?_) (fun _ hq => nomatch hq)
        refine pr_V (as := [.int v107]) (rest := []) dL_law_768 cv_19_102 hcl rfl rfl rfl rfl (lb rfl) (lb rfl) (lb rfl) (ok_F_X0_meeting hq) ?_
        refine pr_aload_n dL_law_771 rfl ?_
        refine pr_aload_n dL_law_772 rfl ?_
        refine pr_iload_n dL_law_773 rfl ?_
        refine pr_iconst (v := 1) dL_law_774 (kc_1) ?_
        refine pr_iadd dL_law_775 ?_
        obtain ⟨v109, hv109, hF⟩ := po_b hF
        refine pr_iald dL_law_776 (hv109) ?_
        obtain ⟨q110, hq110, hF⟩ := po_b hF
        refine po_i hq110 (fun hcl hq => ?_) (fun _ hq => nomatch hq)
        refine pr_V (as := [.int v109]) (rest := [.int q108]) dL_law_777 cv_19_105 hcl rfl rfl rfl rfl (lb rfl) (lb rfl) (lb rfl) (ok_F_X6_meeting hq) ?_
        refine po_i hF (fun hc hF => ?_) (fun hc hF => ?_)
        · refine pr_icT (tgt := 1104) dL_law_780 (by decide) (pc_eqT hc) ?_
          refine pr_iinc (v := 6) (L' := [.ref x0, .ref x1, .ref x2, .int (x3 + 6)]) dL_law_1104 rfl (kc_6) rfl ?_
          refine pr_goto (tgt := 18) dL_law_1107 (by decide) ?_
          exact ih hF hr hk
        · refine pr_icF (tgt := 1104) dL_law_780 (by decide) (pc_eqF hc) ?_
          refine pr_iconst (v := 0) dL_law_783 (kc_0) ?_
          cases hF
          exact pr_iret dL_law_784 rfl nb_0 (hr _ rfl)
      refine po_i hF (fun he hF => ?_) (fun he22 hF => ?_)
      · refine pr_tabI (off := 752) (tgt := 785) dL_law_33 hc (by rw [he]; rfl) (by decide) ?_
        refine pr_aload_n dL_law_785 rfl ?_
        refine pr_aload_n dL_law_786 rfl ?_
        refine pr_iload_n dL_law_787 rfl ?_
        refine pr_iconst (v := 1) dL_law_788 (kc_1) ?_
        refine pr_iadd dL_law_789 ?_
        obtain ⟨v111, hv111, hF⟩ := po_b hF
        refine pr_iald dL_law_790 (hv111) ?_
        refine pr_aload_n dL_law_791 rfl ?_
        refine pr_iload_n dL_law_792 rfl ?_
        refine pr_iconst (v := 2) dL_law_793 (kc_2) ?_
        refine pr_iadd dL_law_794 ?_
        obtain ⟨v112, hv112, hF⟩ := po_b hF
        refine pr_iald dL_law_795 (hv112) ?_
        obtain ⟨q113, hq113, hF⟩ := po_b hF
        refine po_i hq113 (fun hcl hq => ?_) (fun _ hq => nomatch hq)
        refine pr_V (as := [.int v111, .int v112]) (rest := []) dL_law_796 cv_19_106 hcl rfl rfl rfl rfl (lb rfl) (lb rfl) (lb rfl) (ok_F_X0_across hq) ?_
        refine pr_aload_n dL_law_799 rfl ?_
        refine pr_aload_n dL_law_800 rfl ?_
        refine pr_iload_n dL_law_801 rfl ?_
        refine pr_iconst (v := 1) dL_law_802 (kc_1) ?_
        refine pr_iadd dL_law_803 ?_
        obtain ⟨v114, hv114, hF⟩ := po_b hF
        refine pr_iald dL_law_804 (hv114) ?_
        refine pr_aload_n dL_law_805 rfl ?_
        refine pr_iload_n dL_law_806 rfl ?_
        refine pr_iconst (v := 2) dL_law_807 (kc_2) ?_
        refine pr_iadd dL_law_808 ?_
        obtain ⟨v115, hv115, hF⟩ := po_b hF
        refine pr_iald dL_law_809 (hv115) ?_
        obtain ⟨q116, hq116, hF⟩ := po_b hF
        refine po_i hq116 (fun hcl hq => ?_) (fun _ hq => nomatch hq)
        refine pr_V (as := [.int v114, .int v115]) (rest := [.int q113.1]) dL_law_810 cv_19_109 hcl rfl rfl rfl rfl (lb rfl) (lb rfl) (lb rfl) (ok_F_X6_across hq) ?_
        refine po_i hF (fun hc hF => ?_) (fun hc hF => ?_)
        · refine pr_icT (tgt := 1104) dL_law_813 (by decide) (pc_eqT hc) ?_
          refine pr_iinc (v := 6) (L' := [.ref x0, .ref x1, .ref x2, .int (x3 + 6)]) dL_law_1104 rfl (kc_6) rfl ?_
          refine pr_goto (tgt := 18) dL_law_1107 (by decide) ?_
          exact ih hF hr hk
        · refine pr_icF (tgt := 1104) dL_law_813 (by decide) (pc_eqF hc) ?_
          refine pr_iconst (v := 0) dL_law_816 (kc_0) ?_
          cases hF
          exact pr_iret dL_law_817 rfl nb_0 (hr _ rfl)
      refine po_i hF (fun he hF => ?_) (fun he23 hF => ?_)
      · refine pr_tabI (off := 785) (tgt := 818) dL_law_33 hc (by rw [he]; rfl) (by decide) ?_
        refine pr_aload_n dL_law_818 rfl ?_
        refine pr_aload_n dL_law_819 rfl ?_
        refine pr_iload_n dL_law_820 rfl ?_
        refine pr_iconst (v := 1) dL_law_821 (kc_1) ?_
        refine pr_iadd dL_law_822 ?_
        obtain ⟨v117, hv117, hF⟩ := po_b hF
        refine pr_iald dL_law_823 (hv117) ?_
        refine pr_aload_n dL_law_824 rfl ?_
        refine pr_iload_n dL_law_825 rfl ?_
        refine pr_iconst (v := 2) dL_law_826 (kc_2) ?_
        refine pr_iadd dL_law_827 ?_
        obtain ⟨v118, hv118, hF⟩ := po_b hF
        refine pr_iald dL_law_828 (hv118) ?_
        obtain ⟨q119, hq119, hF⟩ := po_b hF
        refine po_i hq119 (fun hcl hq => ?_) (fun _ hq => nomatch hq)
        refine pr_V (as := [.int v117, .int v118]) (rest := []) dL_law_829 cv_19_110 hcl rfl rfl rfl rfl (lb rfl) (lb rfl) (lb rfl) (ok_F_X0_calls hq) ?_
        refine pr_aload_n dL_law_832 rfl ?_
        refine pr_aload_n dL_law_833 rfl ?_
        refine pr_iload_n dL_law_834 rfl ?_
        refine pr_iconst (v := 1) dL_law_835 (kc_1) ?_
        refine pr_iadd dL_law_836 ?_
        obtain ⟨v120, hv120, hF⟩ := po_b hF
        refine pr_iald dL_law_837 (hv120) ?_
        refine pr_aload_n dL_law_838 rfl ?_
        refine pr_iload_n dL_law_839 rfl ?_
        refine pr_iconst (v := 2) dL_law_840 (kc_2) ?_
        refine pr_iadd dL_law_841 ?_
        obtain ⟨v121, hv121, hF⟩ := po_b hF
        refine pr_iald dL_law_842 (hv121) ?_
        obtain ⟨q122, hq122, hF⟩ := po_b hF
        refine po_i hq122 (fun hcl hq => ?_) (fun _ hq => nomatch hq)
        refine pr_V (as := [.int v120, .int v121]) (rest := [.int q119.1]) dL_law_843 cv_19_113 hcl rfl rfl rfl rfl (lb rfl) (lb rfl) (lb rfl) (ok_F_X6_calls hq) ?_
        refine po_i hF (fun hc hF => ?_) (fun hc hF => ?_)
        · refine pr_icT (tgt := 1104) dL_law_846 (by decide) (pc_eqT hc) ?_
          refine pr_iinc (v := 6) (L' := [.ref x0, .ref x1, .ref x2, .int (x3 + 6)]) dL_law_1104 rfl (kc_6) rfl ?_
          refine pr_goto (tgt := 18) dL_law_1107 (by decide) ?_
          exact ih hF hr hk
        · refine pr_icF (tgt := 1104) dL_law_846 (by decide) (pc_eqF hc) ?_
          refine pr_iconst (v := 0) dL_law_849 (kc_0) ?_
          cases hF
          exact pr_iret dL_law_850 rfl nb_0 (hr _ rfl)
      refine po_i hF (fun he hF => ?_) (fun he24 hF => ?_)
      · refine pr_tabI (off := 818) (tgt := 851) dL_law_33 hc (by rw [he]; rfl) (by decide) ?_
        refine pr_aload_n dL_law_851 rfl ?_
        refine pr_aload_n dL_law_852 rfl ?_
        refine pr_iload_n dL_law_853 rfl ?_
        refine pr_iconst (v := 1) dL_law_854 (kc_1) ?_
        refine pr_iadd dL_law_855 ?_
        obtain ⟨v123, hv123, hF⟩ := po_b hF
        refine pr_iald dL_law_856 (hv123) ?_
        obtain ⟨q124, hq124, hF⟩ := po_b hF
        refine po_i hq124 (fun hcl hq => ?_) (fun _ hq => nomatch hq)
        refine pr_V (as := [.int v123]) (rest := []) dL_law_857 cv_19_114 hcl rfl rfl rfl rfl (lb rfl) (lb rfl) (lb rfl) (ok_F_X0_madeEven hq) ?_
        refine pr_aload_n dL_law_860 rfl ?_
        refine pr_aload_n dL_law_861 rfl ?_
        refine pr_iload_n dL_law_862 rfl ?_
        refine pr_iconst (v := 1) dL_law_863 (kc_1) ?_
        refine pr_iadd dL_law_864 ?_
        obtain ⟨v125, hv125, hF⟩ := po_b hF
        refine pr_iald dL_law_865 (hv125) ?_
        obtain ⟨q126, hq126, hF⟩ := po_b hF
        refine po_i hq126 (fun hcl hq => ?_) (fun _ hq => nomatch hq)
        refine pr_V (as := [.int v125]) (rest := [.int q124]) dL_law_866 cv_19_117 hcl rfl rfl rfl rfl (lb rfl) (lb rfl) (lb rfl) (ok_F_X6_madeEven hq) ?_
        refine po_i hF (fun hc hF => ?_) (fun hc hF => ?_)
        · refine pr_icT (tgt := 1104) dL_law_869 (by decide) (pc_eqT hc) ?_
          refine pr_iinc (v := 6) (L' := [.ref x0, .ref x1, .ref x2, .int (x3 + 6)]) dL_law_1104 rfl (kc_6) rfl ?_
          refine pr_goto (tgt := 18) dL_law_1107 (by decide) ?_
          exact ih hF hr hk
        · refine pr_icF (tgt := 1104) dL_law_869 (by decide) (pc_eqF hc) ?_
          refine pr_iconst (v := 0) dL_law_872 (kc_0) ?_
          cases hF
          exact pr_iret dL_law_873 rfl nb_0 (hr _ rfl)
      refine po_i hF (fun he hF => ?_) (fun he25 hF => ?_)
      · refine pr_tabI (off := 841) (tgt := 874) dL_law_33 hc (by rw [he]; rfl) (by decide) ?_
        refine pr_aload_n dL_law_874 rfl ?_
        obtain ⟨q127, hq127, hF⟩ := po_b hF
        refine po_i hq127 (fun hcl hq => ?_) (fun _ hq => nomatch hq)
        refine pr_V (as := []) (rest := []) dL_law_875 cv_19_118 hcl rfl rfl rfl rfl (lb rfl) (lb rfl) (lb rfl) (ok_F_X0_mostOwed hq) ?_
        refine pr_aload_n dL_law_878 rfl ?_
        obtain ⟨q128, hq128, hF⟩ := po_b hF
        refine po_i hq128 (fun hcl hq => ?_) (fun _ hq => nomatch hq)
        refine pr_V (as := []) (rest := [.int q127]) dL_law_879 cv_19_121 hcl rfl rfl rfl rfl (lb rfl) (lb rfl) (lb rfl) (ok_F_X6_mostOwed hq) ?_
        refine po_i hF (fun hc hF => ?_) (fun hc hF => ?_)
        · refine pr_icT (tgt := 1104) dL_law_882 (by decide) (pc_eqT hc) ?_
          refine pr_iinc (v := 6) (L' := [.ref x0, .ref x1, .ref x2, .int (x3 + 6)]) dL_law_1104 rfl (kc_6) rfl ?_
          refine pr_goto (tgt := 18) dL_law_1107 (by decide) ?_
          exact ih hF hr hk
        · refine pr_icF (tgt := 1104) dL_law_882 (by decide) (pc_eqF hc) ?_
          refine pr_iconst (v := 0) dL_law_885 (kc_0) ?_
          cases hF
          exact pr_iret dL_law_886 rfl nb_0 (hr _ rfl)
      refine po_i hF (fun he hF => ?_) (fun he26 hF => ?_)
      · refine pr_tabI (off := 854) (tgt := 887) dL_law_33 hc (by rw [he]; rfl) (by decide) ?_
        refine pr_aload_n dL_law_887 rfl ?_
        refine pr_aload_n dL_law_888 rfl ?_
        refine pr_iload_n dL_law_889 rfl ?_
        refine pr_iconst (v := 1) dL_law_890 (kc_1) ?_
        refine pr_iadd dL_law_891 ?_
        obtain ⟨v129, hv129, hF⟩ := po_b hF
        refine pr_iald dL_law_892 (hv129) ?_
        refine pr_aload_n dL_law_893 rfl ?_
        refine pr_iload_n dL_law_894 rfl ?_
        refine pr_iconst (v := 2) dL_law_895 (kc_2) ?_
        refine pr_iadd dL_law_896 ?_
        obtain ⟨v130, hv130, hF⟩ := po_b hF
        refine pr_iald dL_law_897 (hv130) ?_
        obtain ⟨q131, hq131, hF⟩ := po_b hF
        refine po_i hq131 (fun hcl hq => ?_) (fun _ hq => nomatch hq)
        refine pr_V (as := [.int v129, .int v130]) (rest := []) dL_law_898 cv_19_122 hcl rfl rfl rfl rfl (lb rfl) (lb rfl) (lb rfl) (ok_F_X0_hermit hq) ?_
        refine pr_aload_n dL_law_901 rfl ?_
        refine pr_aload_n dL_law_902 rfl ?_
        refine pr_iload_n dL_law_903 rfl ?_
        refine pr_iconst (v := 1) dL_law_904 (kc_1) ?_
        refine pr_iadd dL_law_905 ?_
        obtain ⟨v132, hv132, hF⟩ := po_b hF
        refine pr_iald dL_law_906 (hv132) ?_
        refine pr_aload_n dL_law_907 rfl ?_
        refine pr_iload_n dL_law_908 rfl ?_
        refine pr_iconst (v := 2) dL_law_909 (kc_2) ?_
        refine pr_iadd dL_law_910 ?_
        obtain ⟨v133, hv133, hF⟩ := po_b hF
        refine pr_iald dL_law_911 (hv133) ?_
        obtain ⟨q134, hq134, hF⟩ := po_b hF
        refine po_i hq134 (fun hcl hq => ?_) (fun _ hq => nomatch hq)
        refine pr_V (as := [.int v132, .int v133]) (rest := [.int q131.1]) dL_law_912 cv_19_125 hcl rfl rfl rfl rfl (lb rfl) (lb rfl) (lb rfl) (ok_F_X6_hermit hq) ?_
        refine po_i hF (fun hc hF => ?_) (fun hc hF => ?_)
        · refine pr_icT (tgt := 1104) dL_law_915 (by decide) (pc_eqT hc) ?_
          refine pr_iinc (v := 6) (L' := [.ref x0, .ref x1, .ref x2, .int (x3 + 6)]) dL_law_1104 rfl (kc_6) rfl ?_
          refine pr_goto (tgt := 18) dL_law_1107 (by decide) ?_
          exact ih hF hr hk
        · refine pr_icF (tgt := 1104) dL_law_915 (by decide) (pc_eqF hc) ?_
          refine pr_iconst (v := 0) dL_law_918 (kc_0) ?_
          cases hF
          exact pr_iret dL_law_919 rfl nb_0 (hr _ rfl)
      refine po_i hF (fun he hF => ?_) (fun he27 hF => ?_)
      · refine pr_tabI (off := 887) (tgt := 920) dL_law_33 hc (by rw [he]; rfl) (by decide) ?_
        refine pr_aload_n dL_law_920 rfl ?_
        refine pr_aload_n dL_law_921 rfl ?_
        refine pr_iload_n dL_law_922 rfl ?_
        refine pr_iconst (v := 1) dL_law_923 (kc_1) ?_
        refine pr_iadd dL_law_924 ?_
        obtain ⟨v135, hv135, hF⟩ := po_b hF
        refine pr_iald dL_law_925 (hv135) ?_
        obtain ⟨q136, hq136, hF⟩ := po_b hF
        refine po_i hq136 (fun hcl hq => ?_) (fun _ hq => nomatch hq)
        refine pr_V (as := [.int v135]) (rest := []) dL_law_926 cv_19_126 hcl rfl rfl rfl rfl (lb rfl) (lb rfl) (lb rfl) (ok_F_X0_burglar hq) ?_
        refine pr_aload_n dL_law_929 rfl ?_
        refine pr_aload_n dL_law_930 rfl ?_
        refine pr_iload_n dL_law_931 rfl ?_
        refine pr_iconst (v := 1) dL_law_932 (kc_1) ?_
        refine pr_iadd dL_law_933 ?_
        obtain ⟨v137, hv137, hF⟩ := po_b hF
        refine pr_iald dL_law_934 (hv137) ?_
        obtain ⟨q138, hq138, hF⟩ := po_b hF
        refine po_i hq138 (fun hcl hq => ?_) (fun _ hq => nomatch hq)
        refine pr_V (as := [.int v137]) (rest := [.int q136.1]) dL_law_935 cv_19_129 hcl rfl rfl rfl rfl (lb rfl) (lb rfl) (lb rfl) (ok_F_X6_burglar hq) ?_
        refine po_i hF (fun hc hF => ?_) (fun hc hF => ?_)
        · refine pr_icT (tgt := 1104) dL_law_938 (by decide) (pc_eqT hc) ?_
          refine pr_iinc (v := 6) (L' := [.ref x0, .ref x1, .ref x2, .int (x3 + 6)]) dL_law_1104 rfl (kc_6) rfl ?_
          refine pr_goto (tgt := 18) dL_law_1107 (by decide) ?_
          exact ih hF hr hk
        · refine pr_icF (tgt := 1104) dL_law_938 (by decide) (pc_eqF hc) ?_
          refine pr_iconst (v := 0) dL_law_941 (kc_0) ?_
          cases hF
          exact pr_iret dL_law_942 rfl nb_0 (hr _ rfl)
      refine po_i hF (fun he hF => ?_) (fun he28 hF => ?_)
      · refine pr_tabI (off := 910) (tgt := 943) dL_law_33 hc (by rw [he]; rfl) (by decide) ?_
        refine pr_aload_n dL_law_943 rfl ?_
        refine pr_aload_n dL_law_944 rfl ?_
        refine pr_iload_n dL_law_945 rfl ?_
        refine pr_iconst (v := 1) dL_law_946 (kc_1) ?_
        refine pr_iadd dL_law_947 ?_
        obtain ⟨v139, hv139, hF⟩ := po_b hF
        refine pr_iald dL_law_948 (hv139) ?_
        refine pr_aload_n dL_law_949 rfl ?_
        refine pr_iload_n dL_law_950 rfl ?_
        refine pr_iconst (v := 2) dL_law_951 (kc_2) ?_
        refine pr_iadd dL_law_952 ?_
        obtain ⟨v140, hv140, hF⟩ := po_b hF
        refine pr_iald dL_law_953 (hv140) ?_
        obtain ⟨q141, hq141, hF⟩ := po_b hF
        refine po_i hq141 (fun hcl hq => ?_) (fun _ hq => nomatch hq)
        refine pr_V (as := [.int v139, .int v140]) (rest := []) dL_law_954 cv_19_130 hcl rfl rfl rfl rfl (lb rfl) (lb rfl) (lb rfl) (ok_F_X0_changed hq) ?_
        refine pr_aload_n dL_law_957 rfl ?_
        refine pr_aload_n dL_law_958 rfl ?_
        refine pr_iload_n dL_law_959 rfl ?_
        refine pr_iconst (v := 1) dL_law_960 (kc_1) ?_
        refine pr_iadd dL_law_961 ?_
        obtain ⟨v142, hv142, hF⟩ := po_b hF
        refine pr_iald dL_law_962 (hv142) ?_
        refine pr_aload_n dL_law_963 rfl ?_
        refine pr_iload_n dL_law_964 rfl ?_
        refine pr_iconst (v := 2) dL_law_965 (kc_2) ?_
        refine pr_iadd dL_law_966 ?_
        obtain ⟨v143, hv143, hF⟩ := po_b hF
        refine pr_iald dL_law_967 (hv143) ?_
        obtain ⟨q144, hq144, hF⟩ := po_b hF
        refine po_i hq144 (fun hcl hq => ?_) (fun _ hq => nomatch hq)
        refine pr_V (as := [.int v142, .int v143]) (rest := [.int q141.1]) dL_law_968 cv_19_133 hcl rfl rfl rfl rfl (lb rfl) (lb rfl) (lb rfl) (ok_F_X6_changed hq) ?_
        refine po_i hF (fun hc hF => ?_) (fun hc hF => ?_)
        · refine pr_icT (tgt := 1104) dL_law_971 (by decide) (pc_eqT hc) ?_
          refine pr_iinc (v := 6) (L' := [.ref x0, .ref x1, .ref x2, .int (x3 + 6)]) dL_law_1104 rfl (kc_6) rfl ?_
          refine pr_goto (tgt := 18) dL_law_1107 (by decide) ?_
          exact ih hF hr hk
        · refine pr_icF (tgt := 1104) dL_law_971 (by decide) (pc_eqF hc) ?_
          refine pr_iconst (v := 0) dL_law_974 (kc_0) ?_
          cases hF
          exact pr_iret dL_law_975 rfl nb_0 (hr _ rfl)
      refine po_i hF (fun he hF => ?_) (fun he29 hF => ?_)
      · refine pr_tabI (off := 943) (tgt := 976) dL_law_33 hc (by rw [he]; rfl) (by decide) ?_
        refine pr_aload_n dL_law_976 rfl ?_
        refine pr_aload_n dL_law_977 rfl ?_
        refine pr_iload_n dL_law_978 rfl ?_
        refine pr_iconst (v := 1) dL_law_979 (kc_1) ?_
        refine pr_iadd dL_law_980 ?_
        obtain ⟨v145, hv145, hF⟩ := po_b hF
        refine pr_iald dL_law_981 (hv145) ?_
        refine pr_aload_n dL_law_982 rfl ?_
        refine pr_iload_n dL_law_983 rfl ?_
        refine pr_iconst (v := 2) dL_law_984 (kc_2) ?_
        refine pr_iadd dL_law_985 ?_
        obtain ⟨v146, hv146, hF⟩ := po_b hF
        refine pr_iald dL_law_986 (hv146) ?_
        obtain ⟨q147, hq147, hF⟩ := po_b hF
        refine po_i hq147 (fun hcl hq => ?_) (fun _ hq => nomatch hq)
        refine pr_V (as := [.int v145, .int v146]) (rest := []) dL_law_987 cv_19_134 hcl rfl rfl rfl rfl (lb rfl) (lb rfl) (lb rfl) (ok_F_X0_between hq) ?_
        refine pr_aload_n dL_law_990 rfl ?_
        refine pr_aload_n dL_law_991 rfl ?_
        refine pr_iload_n dL_law_992 rfl ?_
        refine pr_iconst (v := 1) dL_law_993 (kc_1) ?_
        refine pr_iadd dL_law_994 ?_
        obtain ⟨v148, hv148, hF⟩ := po_b hF
        refine pr_iald dL_law_995 (hv148) ?_
        refine pr_aload_n dL_law_996 rfl ?_
        refine pr_iload_n dL_law_997 rfl ?_
        refine pr_iconst (v := 2) dL_law_998 (kc_2) ?_
        refine pr_iadd dL_law_999 ?_
        obtain ⟨v149, hv149, hF⟩ := po_b hF
        refine pr_iald dL_law_1000 (hv149) ?_
        obtain ⟨q150, hq150, hF⟩ := po_b hF
        refine po_i hq150 (fun hcl hq => ?_) (fun _ hq => nomatch hq)
        refine pr_V (as := [.int v148, .int v149]) (rest := [.int q147]) dL_law_1001 cv_19_137 hcl rfl rfl rfl rfl (lb rfl) (lb rfl) (lb rfl) (ok_F_X6_between hq) ?_
        refine po_i hF (fun hc hF => ?_) (fun hc hF => ?_)
        · refine pr_icT (tgt := 1104) dL_law_1004 (by decide) (pc_eqT hc) ?_
          refine pr_iinc (v := 6) (L' := [.ref x0, .ref x1, .ref x2, .int (x3 + 6)]) dL_law_1104 rfl (kc_6) rfl ?_
          refine pr_goto (tgt := 18) dL_law_1107 (by decide) ?_
          exact ih hF hr hk
        · refine pr_icF (tgt := 1104) dL_law_1004 (by decide) (pc_eqF hc) ?_
          refine pr_iconst (v := 0) dL_law_1007 (kc_0) ?_
          cases hF
          exact pr_iret dL_law_1008 rfl nb_0 (hr _ rfl)
      refine po_i hF (fun he hF => ?_) (fun he30 hF => ?_)
      · refine pr_tabI (off := 976) (tgt := 1009) dL_law_33 hc (by rw [he]; rfl) (by decide) ?_
        refine pr_aload_n dL_law_1009 rfl ?_
        refine pr_aload_n dL_law_1010 rfl ?_
        refine pr_iload_n dL_law_1011 rfl ?_
        refine pr_iconst (v := 1) dL_law_1012 (kc_1) ?_
        refine pr_iadd dL_law_1013 ?_
        obtain ⟨v151, hv151, hF⟩ := po_b hF
        refine pr_iald dL_law_1014 (hv151) ?_
        obtain ⟨q152, hq152, hF⟩ := po_b hF
        refine po_i hq152 (fun hcl hq => ?_) (fun _ hq => nomatch hq)
        refine pr_V (as := [.int v151]) (rest := []) dL_law_1015 cv_19_138 hcl rfl rfl rfl rfl (lb rfl) (lb rfl) (lb rfl) (ok_F_X0_seed hq) ?_
        refine pr_aload_n dL_law_1018 rfl ?_
        refine pr_aload_n dL_law_1019 rfl ?_
        refine pr_iload_n dL_law_1020 rfl ?_
        refine pr_iconst (v := 1) dL_law_1021 (kc_1) ?_
        refine pr_iadd dL_law_1022 ?_
        obtain ⟨v153, hv153, hF⟩ := po_b hF
        refine pr_iald dL_law_1023 (hv153) ?_
        obtain ⟨q154, hq154, hF⟩ := po_b hF
        refine po_i hq154 (fun hcl hq => ?_) (fun _ hq => nomatch hq)
        refine pr_V (as := [.int v153]) (rest := [.int q152.1]) dL_law_1024 cv_19_142 hcl rfl rfl rfl rfl (lb rfl) (lb rfl) (lb rfl) (ok_F_X6_seed hq) ?_
        refine po_i hF (fun hc hF => ?_) (fun hc hF => ?_)
        · refine pr_icT (tgt := 1104) dL_law_1027 (by decide) (pc_eqT hc) ?_
          refine pr_iinc (v := 6) (L' := [.ref x0, .ref x1, .ref x2, .int (x3 + 6)]) dL_law_1104 rfl (kc_6) rfl ?_
          refine pr_goto (tgt := 18) dL_law_1107 (by decide) ?_
          exact ih hF hr hk
        · refine pr_icF (tgt := 1104) dL_law_1027 (by decide) (pc_eqF hc) ?_
          refine pr_iconst (v := 0) dL_law_1030 (kc_0) ?_
          cases hF
          exact pr_iret dL_law_1031 rfl nb_0 (hr _ rfl)
      refine po_i hF (fun he hF => ?_) (fun he31 hF => ?_)
      · refine pr_tabI (off := 999) (tgt := 1032) dL_law_33 hc (by rw [he]; rfl) (by decide) ?_
        refine pr_aload_n dL_law_1032 rfl ?_
        obtain ⟨q155, hq155, hF⟩ := po_b hF
        refine po_i hq155 (fun hcl hq => ?_) (fun _ hq => nomatch hq)
        refine pr_V (as := []) (rest := []) dL_law_1033 cv_19_143 hcl rfl rfl rfl rfl (lb rfl) (lb rfl) (lb rfl) (ok_F_X0_keep hq) ?_
        refine pr_aload_n dL_law_1036 rfl ?_
        obtain ⟨q156, hq156, hF⟩ := po_b hF
        refine po_i hq156 (fun hcl hq => ?_) (fun _ hq => nomatch hq)
        refine pr_V (as := []) (rest := [.int q155.1]) dL_law_1037 cv_19_146 hcl rfl rfl rfl rfl (lb rfl) (lb rfl) (lb rfl) (ok_F_X6_keep hq) ?_
        refine po_i hF (fun hc hF => ?_) (fun hc hF => ?_)
        · refine pr_icT (tgt := 1104) dL_law_1040 (by decide) (pc_eqT hc) ?_
          refine pr_iinc (v := 6) (L' := [.ref x0, .ref x1, .ref x2, .int (x3 + 6)]) dL_law_1104 rfl (kc_6) rfl ?_
          refine pr_goto (tgt := 18) dL_law_1107 (by decide) ?_
          exact ih hF hr hk
        · refine pr_icF (tgt := 1104) dL_law_1040 (by decide) (pc_eqF hc) ?_
          refine pr_iconst (v := 0) dL_law_1043 (kc_0) ?_
          cases hF
          exact pr_iret dL_law_1044 rfl nb_0 (hr _ rfl)
      refine po_i hF (fun he hF => ?_) (fun he32 hF => ?_)
      · refine pr_tabI (off := 1012) (tgt := 1045) dL_law_33 hc (by rw [he]; rfl) (by decide) ?_
        refine pr_aload_n dL_law_1045 rfl ?_
        obtain ⟨q157, hq157, hF⟩ := po_b hF
        refine po_i hq157 (fun hcl hq => ?_) (fun _ hq => nomatch hq)
        refine pr_V (as := []) (rest := []) dL_law_1046 cv_19_147 hcl rfl rfl rfl rfl (lb rfl) (lb rfl) (lb rfl) (ok_F_X0_undo hq) ?_
        refine pr_aload_n dL_law_1049 rfl ?_
        obtain ⟨q158, hq158, hF⟩ := po_b hF
        refine po_i hq158 (fun hcl hq => ?_) (fun _ hq => nomatch hq)
        refine pr_V (as := []) (rest := [.int q157.1]) dL_law_1050 cv_19_151 hcl rfl rfl rfl rfl (lb rfl) (lb rfl) (lb rfl) (ok_F_X6_undo hq) ?_
        refine po_i hF (fun hc hF => ?_) (fun hc hF => ?_)
        · refine pr_icT (tgt := 1104) dL_law_1053 (by decide) (pc_eqT hc) ?_
          refine pr_iinc (v := 6) (L' := [.ref x0, .ref x1, .ref x2, .int (x3 + 6)]) dL_law_1104 rfl (kc_6) rfl ?_
          refine pr_goto (tgt := 18) dL_law_1107 (by decide) ?_
          exact ih hF hr hk
        · refine pr_icF (tgt := 1104) dL_law_1053 (by decide) (pc_eqF hc) ?_
          refine pr_iconst (v := 0) dL_law_1056 (kc_0) ?_
          cases hF
          exact pr_iret dL_law_1057 rfl nb_0 (hr _ rfl)
      refine po_i hF (fun he hF => ?_) (fun he33 hF => ?_)
      · refine pr_tabI (off := 1025) (tgt := 1058) dL_law_33 hc (by rw [he]; rfl) (by decide) ?_
        refine pr_aload_n dL_law_1058 rfl ?_
        refine pr_aload_n dL_law_1059 rfl ?_
        refine pr_iload_n dL_law_1060 rfl ?_
        refine pr_iconst (v := 1) dL_law_1061 (kc_1) ?_
        refine pr_iadd dL_law_1062 ?_
        obtain ⟨v159, hv159, hF⟩ := po_b hF
        refine pr_iald dL_law_1063 (hv159) ?_
        obtain ⟨q160, hq160, hF⟩ := po_b hF
        refine po_i hq160 (fun hcl hq => ?_) (fun _ hq => nomatch hq)
        refine pr_V (as := [.int v159]) (rest := []) dL_law_1064 cv_19_152 hcl rfl rfl rfl rfl (lb rfl) (lb rfl) (lb rfl) (ok_F_X0_check hq) ?_
        refine pr_aload_n dL_law_1067 rfl ?_
        refine pr_aload_n dL_law_1068 rfl ?_
        refine pr_iload_n dL_law_1069 rfl ?_
        refine pr_iconst (v := 1) dL_law_1070 (kc_1) ?_
        refine pr_iadd dL_law_1071 ?_
        obtain ⟨v161, hv161, hF⟩ := po_b hF
        refine pr_iald dL_law_1072 (hv161) ?_
        obtain ⟨q162, hq162, hF⟩ := po_b hF
        refine po_i hq162 (fun hcl hq => ?_) (fun _ hq => nomatch hq)
        refine pr_V (as := [.int v161]) (rest := [.int q160.1]) dL_law_1073 cv_19_155 hcl rfl rfl rfl rfl (lb rfl) (lb rfl) (lb rfl) (ok_F_X6_check hq) ?_
        refine po_i hF (fun hc hF => ?_) (fun hc hF => ?_)
        · refine pr_icT (tgt := 1104) dL_law_1076 (by decide) (pc_eqT hc) ?_
          refine pr_iinc (v := 6) (L' := [.ref x0, .ref x1, .ref x2, .int (x3 + 6)]) dL_law_1104 rfl (kc_6) rfl ?_
          refine pr_goto (tgt := 18) dL_law_1107 (by decide) ?_
          exact ih hF hr hk
        · refine pr_icF (tgt := 1104) dL_law_1076 (by decide) (pc_eqF hc) ?_
          refine pr_iconst (v := 0) dL_law_1079 (kc_0) ?_
          cases hF
          exact pr_iret dL_law_1080 rfl nb_0 (hr _ rfl)
      refine po_i hF (fun he hF => ?_) (fun he34 hF => ?_)
      · refine pr_tabI (off := 1048) (tgt := 1081) dL_law_33 hc (by rw [he]; rfl) (by decide) ?_
        refine pr_aload_n dL_law_1081 rfl ?_
        refine pr_aload_n dL_law_1082 rfl ?_
        refine pr_iload_n dL_law_1083 rfl ?_
        refine pr_iconst (v := 1) dL_law_1084 (kc_1) ?_
        refine pr_iadd dL_law_1085 ?_
        obtain ⟨v163, hv163, hF⟩ := po_b hF
        refine pr_iald dL_law_1086 (hv163) ?_
        obtain ⟨q164, hq164, hF⟩ := po_b hF
        refine po_i hq164 (fun hcl hq => ?_) (fun _ hq => nomatch hq)
        refine pr_V (as := [.int v163]) (rest := []) dL_law_1087 cv_19_156 hcl rfl rfl rfl rfl (lb rfl) (lb rfl) (lb rfl) (ok_F_X0_count hq) ?_
        refine pr_aload_n dL_law_1090 rfl ?_
        refine pr_aload_n dL_law_1091 rfl ?_
        refine pr_iload_n dL_law_1092 rfl ?_
        refine pr_iconst (v := 1) dL_law_1093 (kc_1) ?_
        refine pr_iadd dL_law_1094 ?_
        obtain ⟨v165, hv165, hF⟩ := po_b hF
        refine pr_iald dL_law_1095 (hv165) ?_
        obtain ⟨q166, hq166, hF⟩ := po_b hF
        refine po_i hq166 (fun hcl hq => ?_) (fun _ hq => nomatch hq)
        refine pr_V (as := [.int v165]) (rest := [.int q164]) dL_law_1096 cv_19_159 hcl rfl rfl rfl rfl (lb rfl) (lb rfl) (lb rfl) (ok_F_X6_count hq) ?_
        refine po_i hF (fun hc hF => ?_) (fun hc hF => ?_)
        · refine pr_icT (tgt := 1104) dL_law_1099 (by decide) (pc_eqT hc) ?_
          refine pr_iinc (v := 6) (L' := [.ref x0, .ref x1, .ref x2, .int (x3 + 6)]) dL_law_1104 rfl (kc_6) rfl ?_
          refine pr_goto (tgt := 18) dL_law_1107 (by decide) ?_
          exact ih hF hr hk
        · refine pr_icF (tgt := 1104) dL_law_1099 (by decide) (pc_eqF hc) ?_
          refine pr_iconst (v := 0) dL_law_1102 (kc_0) ?_
          cases hF
          exact pr_iret dL_law_1103 rfl nb_0 (hr _ rfl)
      cases hF
def F_L_law (n : Nat) (h : pm_H) (a0 : Nat) : Option (Int32 × pm_H) :=
  (F_X0_init (pm_nw h 0) h.2.1).bind fun q1 =>
  (F_X6_init (pm_nw q1 5) q1.2.1).bind fun q2 =>
  (L_L_law_18 n a0 h.2.1 q1.2.1 0 q2).bind fun q167 => po_s q167 (fun r => some r) fun e168 =>
  some (1, e168)
theorem ok_F_L_law {d n : Nat} {h : pm_H} {a0 : Nat} {q : Int32 × pm_H} (hF : F_L_law n h a0 = some q) : pm_E (d + 617) 19 cL_law ((some .boolean)) 0 [.ref a0, pm_D, pm_D, pm_D] [] h (some (.int q.1), q.2) := by
  unfold F_L_law at hF
  refine pr_new (c := 0) dL_law_0 rfl ?_
  refine pr_dup dL_law_3 rfl ?_
  obtain ⟨q1, hq1, hF⟩ := po_b hF
  refine pr_I dL_law_4 ci_19_9 (as := []) (rest := [.ref h.2.1]) rfl rfl rfl (lb rfl) (lb rfl) (lb rfl) (ok_F_X0_init hq1) ?_
  refine pr_astore_n (L' := [.ref a0, .ref h.2.1, pm_D, pm_D]) dL_law_7 (Or.inr ⟨_, rfl⟩) rfl ?_
  refine pr_new (c := 5) dL_law_8 rfl ?_
  refine pr_dup dL_law_11 rfl ?_
  obtain ⟨q2, hq2, hF⟩ := po_b hF
  refine pr_I dL_law_12 ci_19_12 (as := []) (rest := [.ref q1.2.1]) rfl rfl rfl (lb rfl) (lb rfl) (lb rfl) (ok_F_X6_init hq2) ?_
  refine pr_astore_n (L' := [.ref a0, .ref h.2.1, .ref q1.2.1, pm_D]) dL_law_15 (Or.inr ⟨_, rfl⟩) rfl ?_
  refine pr_iconst (v := 0) dL_law_16 (kc_0) ?_
  refine pr_istore_n (L' := [.ref a0, .ref h.2.1, .ref q1.2.1, .int 0]) dL_law_17 rfl ?_
  obtain ⟨q167, hq167, hF⟩ := po_b hF
  refine ok_L_L_law_18 n hq167 (fun r hq => ?_) (fun e168 hq z3 hz3 => ?_)
  · subst hq
    replace hF := po_sl hF
    cases hF
    exact rfl
  subst hq
  replace hF := po_sr hF
  refine pr_iconst (v := 1) dL_law_1110 (kc_1) ?_
  cases hF
  exact pr_iret dL_law_1111 rfl nb_1 rfl
