set_option maxRecDepth 100000
def L_X6_groupOf_19 : Nat → Nat → Int32 → Int32 → Int32 → Int32 → pm_H → Option (Int32)
  | 0, _, _, _, _, _, _ => none
  | n + 1, x0, x2, x3, x4, x5, h =>
    if x5 < 16 then
      (F_X6_has x4 x5).bind fun q1 =>
      if q1 = 0 then
        L_X6_groupOf_19 n x0 x2 x3 x4 (x5 + 1) h
      else
        (if pm_cl_ h x0 = some 5 then F_X6_friendsOf h x0 x5 else none).bind fun q2 =>
        L_X6_groupOf_19 n x0 x2 (x3 ||| (q2 &&& x2)) x4 (x5 + 1) h
    else
      some x3
theorem ok_L_X6_groupOf_19 {d : Nat} : ∀ (n : Nat) {x0 : Nat} {x2 : Int32} {x3 : Int32} {x4 : Int32} {x5 : Int32} {w1 : Value} {h : pm_H} {q : Int32} {res : Option Value × pm_H}, L_X6_groupOf_19 n x0 x2 x3 x4 x5 h = some q → pm_nolong w1 = true → (∀ z5 : Value, pm_nolong z5 = true → pm_E (d + 1) 6 cX6_groupOf (some .int) 53 [.ref x0, w1, .int x2, .int q, .int x4, z5] [] h res) → pm_E (d + 1) 6 cX6_groupOf (some .int) 19 [.ref x0, w1, .int x2, .int x3, .int x4, .int x5] [] h res := by
  intro n
  induction n with
  | zero =>
    intro x0 x2 x3 x4 x5 w1 h q res hF hw1 hk
    rw [L_X6_groupOf_19] at hF
    cases hF
  | succ n ih =>
    intro x0 x2 x3 x4 x5 w1 h q res hF hw1 hk
    rw [L_X6_groupOf_19] at hF
    refine pr_iload dX6_groupOf_19 rfl ?_
    refine pr_bipush (v := 16) dX6_groupOf_21 (kb_16) ?_
    refine po_i hF (fun hc hF => ?_) (fun hc hF => ?_)
    · refine pr_icF (tgt := 53) dX6_groupOf_23 (by decide) (pc_geF hc) ?_
      refine pr_iload dX6_groupOf_26 rfl ?_
      refine pr_iload dX6_groupOf_28 rfl ?_
      obtain ⟨q1, hq1, hF⟩ := po_b hF
      refine pr_S dX6_groupOf_30 cs_6_100 (as := [.int x4, .int x5]) (rest := []) rfl rfl rfl (lb rfl) (lb rfl) (lb rfl) (ok_F_X6_has hq1) ?_
      refine po_i hF (fun hc hF => ?_) (fun hc hF => ?_)
      · refine pr_ifT (tgt := 47) dX6_groupOf_33 (by decide) (pc_eqT hc) ?_
        refine pr_iinc (v := 1) (L' := [.ref x0, w1, .int x2, .int x3, .int x4, .int (x5 + 1)]) dX6_groupOf_47 rfl (kc_1) rfl ?_
        refine pr_goto (tgt := 19) dX6_groupOf_50 (by decide) ?_
        exact ih hF hw1 hk
      · refine pr_ifF (tgt := 47) dX6_groupOf_33 (by decide) (pc_eqF hc) ?_
        refine pr_iload_n dX6_groupOf_36 rfl ?_
        refine pr_aload_n dX6_groupOf_37 rfl ?_
        refine pr_iload dX6_groupOf_38 rfl ?_
        obtain ⟨q2, hq2, hF⟩ := po_b hF
        refine po_i hq2 (fun hcl hq => ?_) (fun _ hq => nomatch hq)
        refine pr_V (as := [.int x5]) (rest := [.int x3]) dX6_groupOf_40 cv_6_291 hcl rfl rfl rfl rfl (lb rfl) (lb rfl) (lb rfl) (ok_F_X6_friendsOf hq) ?_
        refine pr_iload_n dX6_groupOf_43 rfl ?_
        refine pr_iand dX6_groupOf_44 ?_
        refine pr_ior dX6_groupOf_45 ?_
        refine pr_istore_n (L' := [.ref x0, w1, .int x2, .int (x3 ||| (q2 &&& x2)), .int x4, .int x5]) dX6_groupOf_46 rfl ?_
        refine pr_iinc (v := 1) (L' := [.ref x0, w1, .int x2, .int (x3 ||| (q2 &&& x2)), .int x4, .int (x5 + 1)]) dX6_groupOf_47 rfl (kc_1) rfl ?_
        refine pr_goto (tgt := 19) dX6_groupOf_50 (by decide) ?_
        exact ih hF hw1 hk
    · refine pr_icT (tgt := 53) dX6_groupOf_23 (by decide) (pc_geT hc) ?_
      cases hF
      exact hk _ rfl
def L_X6_groupOf_7 : Nat → Nat → Int32 → Int32 → Int32 → pm_H → Option (Int32)
  | 0, _, _, _, _, _ => none
  | n + 1, x0, x2, x3, x4, h =>
    if x3 = x4 then
      some x3
    else
      (L_X6_groupOf_19 n x0 x2 x3 x3 0 h).bind fun q3 =>
      L_X6_groupOf_7 n x0 x2 q3 x3 h
theorem ok_L_X6_groupOf_7 {d : Nat} : ∀ (n : Nat) {x0 : Nat} {x2 : Int32} {x3 : Int32} {x4 : Int32} {w1 w5 : Value} {h : pm_H} {q : Int32} {res : Option Value × pm_H}, L_X6_groupOf_7 n x0 x2 x3 x4 h = some q → pm_nolong w1 = true → pm_nolong w5 = true → (∀ z4 : Value, pm_nolong z4 = true → ∀ z5 : Value, pm_nolong z5 = true → pm_E (d + 1) 6 cX6_groupOf (some .int) 56 [.ref x0, w1, .int x2, .int q, z4, z5] [] h res) → pm_E (d + 1) 6 cX6_groupOf (some .int) 7 [.ref x0, w1, .int x2, .int x3, .int x4, w5] [] h res := by
  intro n
  induction n with
  | zero =>
    intro x0 x2 x3 x4 w1 w5 h q res hF hw1 hw5 hk
    rw [L_X6_groupOf_7] at hF
    cases hF
  | succ n ih =>
    intro x0 x2 x3 x4 w1 w5 h q res hF hw1 hw5 hk
    rw [L_X6_groupOf_7] at hF
    refine pr_iload_n dX6_groupOf_7 rfl ?_
    refine pr_iload dX6_groupOf_8 rfl ?_
    refine po_i hF (fun hc hF => ?_) (fun hc hF => ?_)
    · refine pr_icT (tgt := 56) dX6_groupOf_10 (by decide) (pc_eqT hc) ?_
      cases hF
      exact hk _ rfl _ hw5
    · refine pr_icF (tgt := 56) dX6_groupOf_10 (by decide) (pc_eqF hc) ?_
      refine pr_iload_n dX6_groupOf_13 rfl ?_
      refine pr_istore (L' := [.ref x0, w1, .int x2, .int x3, .int x3, w5]) dX6_groupOf_14 rfl ?_
      refine pr_iconst (v := 0) dX6_groupOf_16 (kc_0) ?_
      refine pr_istore (L' := [.ref x0, w1, .int x2, .int x3, .int x3, .int 0]) dX6_groupOf_17 rfl ?_
      obtain ⟨q3, hq3, hF⟩ := po_b hF
      refine ok_L_X6_groupOf_19 n hq3 hw1 (fun z5 hz5 => ?_)
      refine pr_goto (tgt := 7) dX6_groupOf_53 (by decide) ?_
      exact ih hF hw1 hz5 hk
def F_X6_groupOf (n : Nat) (h : pm_H) (a0 : Nat) (x1 : Int32) (x2 : Int32) : Option (Int32) :=
  (L_X6_groupOf_7 n a0 x2 (pm_shl 1 x1) 0 h).bind fun q4 =>
  some q4
theorem ok_F_X6_groupOf {d n : Nat} {h : pm_H} {a0 : Nat} {x1 : Int32} {x2 : Int32} {q : Int32} (hF : F_X6_groupOf n h a0 x1 x2 = some q) : pm_E (d + 1) 6 cX6_groupOf (some .int) 0 [.ref a0, .int x1, .int x2, pm_D, pm_D, pm_D] [] h (some (.int q), h) := by
  unfold F_X6_groupOf at hF
  refine pr_iconst (v := 1) dX6_groupOf_0 (kc_1) ?_
  refine pr_iload_n dX6_groupOf_1 rfl ?_
  refine pr_ishl dX6_groupOf_2 ?_
  refine pr_istore_n (L' := [.ref a0, .int x1, .int x2, .int (pm_shl 1 x1), pm_D, pm_D]) dX6_groupOf_3 rfl ?_
  refine pr_iconst (v := 0) dX6_groupOf_4 (kc_0) ?_
  refine pr_istore (L' := [.ref a0, .int x1, .int x2, .int (pm_shl 1 x1), .int 0, pm_D]) dX6_groupOf_5 rfl ?_
  obtain ⟨q4, hq4, hF⟩ := po_b hF
  refine ok_L_X6_groupOf_7 n hq4 rfl rfl (fun z4 hz4 z5 hz5 => ?_)
  refine pr_iload_n dX6_groupOf_56 rfl ?_
  cases hF
  exact pr_iret dX6_groupOf_57 rfl rfl rfl

def L_X6_mustStay_6 : Nat → Nat → Int32 → Int32 → Int32 → pm_H → Option (Int32)
  | 0, _, _, _, _, _ => none
  | n + 1, x0, x1, x2, x3, h =>
    if x3 < 16 then
      (if pm_cl_ h x0 = some 5 then F_X6_isTold h x0 x3 else none).bind fun q1 =>
      if q1 = 0 then
        L_X6_mustStay_6 n x0 x1 x2 (x3 + 1) h
      else
        (F_X6_has x2 x3).bind fun q2 =>
        if q2 = 0 then
          (pm_fI [(5, 7)] h x0).bind fun v3 =>
          (if pm_cl_ h x0 = some 5 then F_X6_groupOf n h x0 x3 v3 else none).bind fun q4 =>
          (pm_fI [(5, 8)] h x0).bind fun v5 =>
          if (q4 &&& (v5 ^^^ (-1))) = 0 then
            L_X6_mustStay_6 n x0 (x1 ||| (pm_shl 1 x3)) (x2 ||| q4) (x3 + 1) h
          else
            L_X6_mustStay_6 n x0 x1 (x2 ||| q4) (x3 + 1) h
        else
          L_X6_mustStay_6 n x0 x1 x2 (x3 + 1) h
    else
      some x1
theorem ok_L_X6_mustStay_6 {d : Nat} : ∀ (n : Nat) {x0 : Nat} {x1 : Int32} {x2 : Int32} {x3 : Int32} {w4 : Value} {h : pm_H} {q : Int32} {res : Option Value × pm_H}, L_X6_mustStay_6 n x0 x1 x2 x3 h = some q → pm_nolong w4 = true → (∀ z2 : Value, pm_nolong z2 = true → ∀ z3 : Value, pm_nolong z3 = true → ∀ z4 : Value, pm_nolong z4 = true → pm_E (d + 2) 6 cX6_mustStay (some .int) 71 [.ref x0, .int q, z2, z3, z4] [] h res) → pm_E (d + 2) 6 cX6_mustStay (some .int) 6 [.ref x0, .int x1, .int x2, .int x3, w4] [] h res := by
  intro n
  induction n with
  | zero =>
    intro x0 x1 x2 x3 w4 h q res hF hw4 hk
    rw [L_X6_mustStay_6] at hF
    cases hF
  | succ n ih =>
    intro x0 x1 x2 x3 w4 h q res hF hw4 hk
    rw [L_X6_mustStay_6] at hF
    refine pr_iload_n dX6_mustStay_6 rfl ?_
    refine pr_bipush (v := 16) dX6_mustStay_7 (kb_16) ?_
    refine po_i hF (fun hc hF => ?_) (fun hc hF => ?_)
    · refine pr_icF (tgt := 71) dX6_mustStay_9 (by decide) (pc_geF hc) ?_
      refine pr_aload_n dX6_mustStay_12 rfl ?_
      refine pr_iload_n dX6_mustStay_13 rfl ?_
      obtain ⟨q1, hq1, hF⟩ := po_b hF
      refine po_i hq1 (fun hcl hq => ?_) (fun _ hq => nomatch hq)
      refine pr_V (as := [.int x3]) (rest := []) dX6_mustStay_14 cv_6_233 hcl rfl rfl rfl rfl (lb rfl) (lb rfl) (lb rfl) (ok_F_X6_isTold hq) ?_
      refine po_i hF (fun hc hF => ?_) (fun hc hF => ?_)
      · refine pr_ifT (tgt := 65) dX6_mustStay_17 (by decide) (pc_eqT hc) ?_
        refine pr_iinc (v := 1) (L' := [.ref x0, .int x1, .int x2, .int (x3 + 1), w4]) dX6_mustStay_65 rfl (kc_1) rfl ?_
        refine pr_goto (tgt := 6) dX6_mustStay_68 (by decide) ?_
        exact ih hF hw4 hk
      · refine pr_ifF (tgt := 65) dX6_mustStay_17 (by decide) (pc_eqF hc) ?_
        refine pr_iload_n dX6_mustStay_20 rfl ?_
        refine pr_iload_n dX6_mustStay_21 rfl ?_
        obtain ⟨q2, hq2, hF⟩ := po_b hF
        refine pr_S dX6_mustStay_22 cs_6_100 (as := [.int x2, .int x3]) (rest := []) rfl rfl rfl (lb rfl) (lb rfl) (lb rfl) (ok_F_X6_has hq2) ?_
        refine po_i hF (fun hc hF => ?_) (fun hc hF => ?_)
        · refine pr_ifT (tgt := 31) dX6_mustStay_25 (by decide) (pc_eqT hc) ?_
          refine pr_aload_n dX6_mustStay_31 rfl ?_
          refine pr_iload_n dX6_mustStay_32 rfl ?_
          refine pr_aload_n dX6_mustStay_33 rfl ?_
          obtain ⟨v3, hv3, hF⟩ := po_b hF
          refine pr_getI dX6_mustStay_34 tf_6_108 (hv3) ?_
          obtain ⟨q4, hq4, hF⟩ := po_b hF
          refine po_i hq4 (fun hcl hq => ?_) (fun _ hq => nomatch hq)
          refine pr_V (as := [.int x3, .int v3]) (rest := []) dX6_mustStay_37 cv_6_337 hcl rfl rfl rfl rfl (lb rfl) (lb rfl) (lb rfl) (ok_F_X6_groupOf hq) ?_
          refine pr_istore (L' := [.ref x0, .int x1, .int x2, .int x3, .int q4]) dX6_mustStay_40 rfl ?_
          refine pr_iload_n dX6_mustStay_42 rfl ?_
          refine pr_iload dX6_mustStay_43 rfl ?_
          refine pr_ior dX6_mustStay_45 ?_
          refine pr_istore_n (L' := [.ref x0, .int x1, .int (x2 ||| q4), .int x3, .int q4]) dX6_mustStay_46 rfl ?_
          refine pr_iload dX6_mustStay_47 rfl ?_
          refine pr_aload_n dX6_mustStay_49 rfl ?_
          obtain ⟨v5, hv5, hF⟩ := po_b hF
          refine pr_getI dX6_mustStay_50 tf_6_227 (hv5) ?_
          refine pr_iconst (v := (-1)) dX6_mustStay_53 (kc_m1) ?_
          refine pr_ixor dX6_mustStay_54 ?_
          refine pr_iand dX6_mustStay_55 ?_
          refine po_i hF (fun hc hF => ?_) (fun hc hF => ?_)
          · refine pr_ifF (tgt := 65) dX6_mustStay_56 (by decide) (pc_neF hc) ?_
            refine pr_iload_n dX6_mustStay_59 rfl ?_
            refine pr_iconst (v := 1) dX6_mustStay_60 (kc_1) ?_
            refine pr_iload_n dX6_mustStay_61 rfl ?_
            refine pr_ishl dX6_mustStay_62 ?_
            refine pr_ior dX6_mustStay_63 ?_
            refine pr_istore_n (L' := [.ref x0, .int (x1 ||| (pm_shl 1 x3)), .int (x2 ||| q4), .int x3, .int q4]) dX6_mustStay_64 rfl ?_
            refine pr_iinc (v := 1) (L' := [.ref x0, .int (x1 ||| (pm_shl 1 x3)), .int (x2 ||| q4), .int (x3 + 1), .int q4]) dX6_mustStay_65 rfl (kc_1) rfl ?_
            refine pr_goto (tgt := 6) dX6_mustStay_68 (by decide) ?_
            exact ih hF rfl hk
          · refine pr_ifT (tgt := 65) dX6_mustStay_56 (by decide) (pc_neT hc) ?_
            refine pr_iinc (v := 1) (L' := [.ref x0, .int x1, .int (x2 ||| q4), .int (x3 + 1), .int q4]) dX6_mustStay_65 rfl (kc_1) rfl ?_
            refine pr_goto (tgt := 6) dX6_mustStay_68 (by decide) ?_
            exact ih hF rfl hk
        · refine pr_ifF (tgt := 31) dX6_mustStay_25 (by decide) (pc_eqF hc) ?_
          refine pr_goto (tgt := 65) dX6_mustStay_28 (by decide) ?_
          refine pr_iinc (v := 1) (L' := [.ref x0, .int x1, .int x2, .int (x3 + 1), w4]) dX6_mustStay_65 rfl (kc_1) rfl ?_
          refine pr_goto (tgt := 6) dX6_mustStay_68 (by decide) ?_
          exact ih hF hw4 hk
    · refine pr_icT (tgt := 71) dX6_mustStay_9 (by decide) (pc_geT hc) ?_
      cases hF
      exact hk _ rfl _ rfl _ hw4
def F_X6_mustStay (n : Nat) (h : pm_H) (a0 : Nat) : Option (Int32) :=
  (L_X6_mustStay_6 n a0 0 0 0 h).bind fun q6 =>
  some q6
theorem ok_F_X6_mustStay {d n : Nat} {h : pm_H} {a0 : Nat} {q : Int32} (hF : F_X6_mustStay n h a0 = some q) : pm_E (d + 2) 6 cX6_mustStay (some .int) 0 [.ref a0, pm_D, pm_D, pm_D, pm_D] [] h (some (.int q), h) := by
  unfold F_X6_mustStay at hF
  refine pr_iconst (v := 0) dX6_mustStay_0 (kc_0) ?_
  refine pr_istore_n (L' := [.ref a0, .int 0, pm_D, pm_D, pm_D]) dX6_mustStay_1 rfl ?_
  refine pr_iconst (v := 0) dX6_mustStay_2 (kc_0) ?_
  refine pr_istore_n (L' := [.ref a0, .int 0, .int 0, pm_D, pm_D]) dX6_mustStay_3 rfl ?_
  refine pr_iconst (v := 0) dX6_mustStay_4 (kc_0) ?_
  refine pr_istore_n (L' := [.ref a0, .int 0, .int 0, .int 0, pm_D]) dX6_mustStay_5 rfl ?_
  obtain ⟨q6, hq6, hF⟩ := po_b hF
  refine ok_L_X6_mustStay_6 n hq6 rfl (fun z2 hz2 z3 hz3 z4 hz4 => ?_)
  refine pr_iload_n dX6_mustStay_71 rfl ?_
  cases hF
  exact pr_iret dX6_mustStay_72 rfl rfl rfl

def F_X6_stayOut (n : Nat) (h : pm_H) (a0 : Nat) (x1 : Int32) : Option (Int32) :=
  (F_X6_in x1 0 1).bind fun q1 =>
  if q1 = 0 then
    some (-1)
  else
  if x1 = 0 then
    (if pm_cl_ h a0 = some 5 then F_X6_mustStay n h a0 else none).bind fun q3 =>
    (F_X6_bits n q3).bind fun q4 =>
    some q4
  else
    (if pm_cl_ h a0 = some 5 then F_X6_mustStay n h a0 else none).bind fun q2 =>
    some q2
theorem ok_F_X6_stayOut {d n : Nat} {h : pm_H} {a0 : Nat} {x1 : Int32} {q : Int32} (hF : F_X6_stayOut n h a0 x1 = some q) : pm_E (d + 3) 6 cX6_stayOut (some .int) 0 [.ref a0, .int x1] [] h (some (.int q), h) := by
  unfold F_X6_stayOut at hF
  refine pr_iload_n dX6_stayOut_0 rfl ?_
  refine pr_iconst (v := 0) dX6_stayOut_1 (kc_0) ?_
  refine pr_iconst (v := 1) dX6_stayOut_2 (kc_1) ?_
  obtain ⟨q1, hq1, hF⟩ := po_b hF
  refine pr_S dX6_stayOut_3 cs_6_104 (as := [.int x1, .int 0, .int 1]) (rest := []) rfl rfl rfl (lb rfl) (lb rfl) (lb rfl) (ok_F_X6_in hq1) ?_
  refine po_i hF (fun hc hF => ?_) (fun hc hF => ?_)
  · refine pr_ifF (tgt := 11) dX6_stayOut_6 (by decide) (pc_neF hc) ?_
    refine pr_iconst (v := (-1)) dX6_stayOut_9 (kc_m1) ?_
    cases hF
    exact pr_iret dX6_stayOut_10 rfl rfl rfl
  · refine pr_ifT (tgt := 11) dX6_stayOut_6 (by decide) (pc_neT hc) ?_
    refine pr_iload_n dX6_stayOut_11 rfl ?_
    refine po_i hF (fun hc hF => ?_) (fun hc hF => ?_)
    · refine pr_ifF (tgt := 25) dX6_stayOut_12 (by decide) (pc_neF hc) ?_
      refine pr_aload_n dX6_stayOut_15 rfl ?_
      obtain ⟨q3, hq3, hF⟩ := po_b hF
      refine po_i hq3 (fun hcl hq => ?_) (fun _ hq => nomatch hq)
      refine pr_V (as := []) (rest := []) dX6_stayOut_16 cv_6_340 hcl rfl rfl rfl rfl (lb rfl) (lb rfl) (lb rfl) (ok_F_X6_mustStay hq) ?_
      obtain ⟨q4, hq4, hF⟩ := po_b hF
      refine pr_S dX6_stayOut_19 cs_6_276 (as := [.int q3]) (rest := []) rfl rfl rfl (lb rfl) (lb rfl) (lb rfl) (ok_F_X6_bits hq4) ?_
      refine pr_goto (tgt := 29) dX6_stayOut_22 (by decide) ?_
      cases hF
      exact pr_iret dX6_stayOut_29 rfl rfl rfl
    · refine pr_ifT (tgt := 25) dX6_stayOut_12 (by decide) (pc_neT hc) ?_
      refine pr_aload_n dX6_stayOut_25 rfl ?_
      obtain ⟨q2, hq2, hF⟩ := po_b hF
      refine po_i hq2 (fun hcl hq => ?_) (fun _ hq => nomatch hq)
      refine pr_V (as := []) (rest := []) dX6_stayOut_26 cv_6_340 hcl rfl rfl rfl rfl (lb rfl) (lb rfl) (lb rfl) (ok_F_X6_mustStay hq) ?_
      cases hF
      exact pr_iret dX6_stayOut_29 rfl rfl rfl

def L_X6_lowest_2 : Nat → Int32 → Int32 → Option (Int32)
  | 0, _, _ => none
  | n + 1, x0, x1 =>
    (F_X6_has x0 x1).bind fun q1 =>
    if q1 = 0 then
      L_X6_lowest_2 n x0 (x1 + 1)
    else
      some x1
theorem ok_L_X6_lowest_2 {d : Nat} : ∀ (n : Nat) {x0 : Int32} {x1 : Int32} {h : pm_H} {q : Int32} {res : Option Value × pm_H}, L_X6_lowest_2 n x0 x1 = some q → (pm_E (d + 1) 6 cX6_lowest (some .int) 17 [.int x0, .int q] [] h res) → pm_E (d + 1) 6 cX6_lowest (some .int) 2 [.int x0, .int x1] [] h res := by
  intro n
  induction n with
  | zero =>
    intro x0 x1 h q res hF hk
    rw [L_X6_lowest_2] at hF
    cases hF
  | succ n ih =>
    intro x0 x1 h q res hF hk
    rw [L_X6_lowest_2] at hF
    refine pr_iload_n dX6_lowest_2 rfl ?_
    refine pr_iload_n dX6_lowest_3 rfl ?_
    obtain ⟨q1, hq1, hF⟩ := po_b hF
    refine pr_S dX6_lowest_4 cs_6_100 (as := [.int x0, .int x1]) (rest := []) rfl rfl rfl (lb rfl) (lb rfl) (lb rfl) (ok_F_X6_has hq1) ?_
    refine po_i hF (fun hc hF => ?_) (fun hc hF => ?_)
    · refine pr_ifF (tgt := 17) dX6_lowest_7 (by decide) (pc_neF hc) ?_
      refine pr_iload_n dX6_lowest_10 rfl ?_
      refine pr_iconst (v := 1) dX6_lowest_11 (kc_1) ?_
      refine pr_iadd dX6_lowest_12 ?_
      refine pr_istore_n (L' := [.int x0, .int (x1 + 1)]) dX6_lowest_13 rfl ?_
      refine pr_goto (tgt := 2) dX6_lowest_14 (by decide) ?_
      exact ih hF hk
    · refine pr_ifT (tgt := 17) dX6_lowest_7 (by decide) (pc_neT hc) ?_
      cases hF
      exact hk
def F_X6_lowest (n : Nat) (x0 : Int32) : Option (Int32) :=
  (L_X6_lowest_2 n x0 0).bind fun q2 =>
  some q2
theorem ok_F_X6_lowest {d n : Nat} {h : pm_H} {x0 : Int32} {q : Int32} (hF : F_X6_lowest n x0 = some q) : pm_E (d + 1) 6 cX6_lowest (some .int) 0 [.int x0, pm_D] [] h (some (.int q), h) := by
  unfold F_X6_lowest at hF
  refine pr_iconst (v := 0) dX6_lowest_0 (kc_0) ?_
  refine pr_istore_n (L' := [.int x0, .int 0]) dX6_lowest_1 rfl ?_
  obtain ⟨q2, hq2, hF⟩ := po_b hF
  refine ok_L_X6_lowest_2 n hq2 ?_
  refine pr_iload_n dX6_lowest_17 rfl ?_
  cases hF
  exact pr_iret dX6_lowest_18 rfl rfl rfl

def L_X6_canGo_25 : Nat → Nat → Int32 → Int32 → Int32 → pm_H → Option ((Int32) ⊕ (Unit))
  | 0, _, _, _, _, _ => none
  | n + 1, x0, x3, x4, x5, h =>
    if x5 < 16 then
      (F_X6_has x4 x5).bind fun q2 =>
      if q2 = 0 then
        L_X6_canGo_25 n x0 x3 x4 (x5 + 1) h
      else
        (if pm_cl_ h x0 = some 5 then F_X6_groupOf n h x0 x5 x4 else none).bind fun q3 =>
        if (q3 &&& x3) = 0 then
          some (.inl 0)
        else
          L_X6_canGo_25 n x0 x3 x4 (x5 + 1) h
    else
      some (.inr ())
theorem ok_L_X6_canGo_25 {d : Nat} : ∀ (n : Nat) {x0 : Nat} {x3 : Int32} {x4 : Int32} {x5 : Int32} {w1 w2 : Value} {h : pm_H} {q : (Int32) ⊕ (Unit)} {res : Option Value × pm_H}, L_X6_canGo_25 n x0 x3 x4 x5 h = some q → pm_nolong w1 = true → pm_nolong w2 = true → (∀ r, q = .inl r → res = (some (.int r), h)) → (∀ e, q = .inr e → ∀ z5 : Value, pm_nolong z5 = true → pm_E (d + 2) 6 cX6_canGo (some .boolean) 63 [.ref x0, w1, w2, .int x3, .int x4, z5] [] h res) → pm_E (d + 2) 6 cX6_canGo (some .boolean) 25 [.ref x0, w1, w2, .int x3, .int x4, .int x5] [] h res := by
  intro n
  induction n with
  | zero =>
    intro x0 x3 x4 x5 w1 w2 h q res hF hw1 hw2 hr hk
    rw [L_X6_canGo_25] at hF
    cases hF
  | succ n ih =>
    intro x0 x3 x4 x5 w1 w2 h q res hF hw1 hw2 hr hk
    rw [L_X6_canGo_25] at hF
    refine pr_iload dX6_canGo_25 rfl ?_
    refine pr_bipush (v := 16) dX6_canGo_27 (kb_16) ?_
    refine po_i hF (fun hc hF => ?_) (fun hc hF => ?_)
    · refine pr_icF (tgt := 63) dX6_canGo_29 (by decide) (pc_geF hc) ?_
      refine pr_iload dX6_canGo_32 rfl ?_
      refine pr_iload dX6_canGo_34 rfl ?_
      obtain ⟨q2, hq2, hF⟩ := po_b hF
      refine pr_S dX6_canGo_36 cs_6_100 (as := [.int x4, .int x5]) (rest := []) rfl rfl rfl (lb rfl) (lb rfl) (lb rfl) (ok_F_X6_has hq2) ?_
      refine po_i hF (fun hc hF => ?_) (fun hc hF => ?_)
      · refine pr_ifT (tgt := 57) dX6_canGo_39 (by decide) (pc_eqT hc) ?_
        refine pr_iinc (v := 1) (L' := [.ref x0, w1, w2, .int x3, .int x4, .int (x5 + 1)]) dX6_canGo_57 rfl (kc_1) rfl ?_
        refine pr_goto (tgt := 25) dX6_canGo_60 (by decide) ?_
        exact ih hF hw1 hw2 hr hk
      · refine pr_ifF (tgt := 57) dX6_canGo_39 (by decide) (pc_eqF hc) ?_
        refine pr_aload_n dX6_canGo_42 rfl ?_
        refine pr_iload dX6_canGo_43 rfl ?_
        refine pr_iload dX6_canGo_45 rfl ?_
        obtain ⟨q3, hq3, hF⟩ := po_b hF
        refine po_i hq3 (fun hcl hq => ?_) (fun _ hq => nomatch hq)
        refine pr_V (as := [.int x5, .int x4]) (rest := []) dX6_canGo_47 cv_6_337 hcl rfl rfl rfl rfl (lb rfl) (lb rfl) (lb rfl) (ok_F_X6_groupOf hq) ?_
        refine pr_iload_n dX6_canGo_50 rfl ?_
        refine pr_iand dX6_canGo_51 ?_
        refine po_i hF (fun hc hF => ?_) (fun hc hF => ?_)
        · refine pr_ifF (tgt := 57) dX6_canGo_52 (by decide) (pc_neF hc) ?_
          refine pr_iconst (v := 0) dX6_canGo_55 (kc_0) ?_
          cases hF
          exact pr_iret dX6_canGo_56 rfl nb_0 (hr _ rfl)
        · refine pr_ifT (tgt := 57) dX6_canGo_52 (by decide) (pc_neT hc) ?_
          refine pr_iinc (v := 1) (L' := [.ref x0, w1, w2, .int x3, .int x4, .int (x5 + 1)]) dX6_canGo_57 rfl (kc_1) rfl ?_
          refine pr_goto (tgt := 25) dX6_canGo_60 (by decide) ?_
          exact ih hF hw1 hw2 hr hk
    · refine pr_icT (tgt := 63) dX6_canGo_29 (by decide) (pc_geT hc) ?_
      cases hF
      exact hk _ rfl _ rfl
def F_X6_canGo (n : Nat) (h : pm_H) (a0 : Nat) (x1 : Int32) (x2 : Int32) (x3 : Int32) : Option (Int32) :=
  (if pm_cl_ h a0 = some 5 then F_X6_friendsOf h a0 x2 else none).bind fun q1 =>
  if (q1 &&& (x1 &&& ((pm_shl 1 x2) ^^^ (-1)))) = 0 then
    some 0
  else
    (L_X6_canGo_25 n a0 x3 (x1 &&& ((pm_shl 1 x2) ^^^ (-1))) 0 h).bind fun q4 => po_s q4 (fun r => some r) fun e5 =>
    some 1
theorem ok_F_X6_canGo {d n : Nat} {h : pm_H} {a0 : Nat} {x1 : Int32} {x2 : Int32} {x3 : Int32} {q : Int32} (hF : F_X6_canGo n h a0 x1 x2 x3 = some q) : pm_E (d + 2) 6 cX6_canGo (some .boolean) 0 [.ref a0, .int x1, .int x2, .int x3, pm_D, pm_D] [] h (some (.int q), h) := by
  unfold F_X6_canGo at hF
  refine pr_iload_n dX6_canGo_0 rfl ?_
  refine pr_iconst (v := 1) dX6_canGo_1 (kc_1) ?_
  refine pr_iload_n dX6_canGo_2 rfl ?_
  refine pr_ishl dX6_canGo_3 ?_
  refine pr_iconst (v := (-1)) dX6_canGo_4 (kc_m1) ?_
  refine pr_ixor dX6_canGo_5 ?_
  refine pr_iand dX6_canGo_6 ?_
  refine pr_istore (L' := [.ref a0, .int x1, .int x2, .int x3, .int (x1 &&& ((pm_shl 1 x2) ^^^ (-1))), pm_D]) dX6_canGo_7 rfl ?_
  refine pr_aload_n dX6_canGo_9 rfl ?_
  refine pr_iload_n dX6_canGo_10 rfl ?_
  obtain ⟨q1, hq1, hF⟩ := po_b hF
  refine po_i hq1 (fun hcl hq => ?_) (fun _ hq => nomatch hq)
  refine pr_V (as := [.int x2]) (rest := []) dX6_canGo_11 cv_6_291 hcl rfl rfl rfl rfl (lb rfl) (lb rfl) (lb rfl) (ok_F_X6_friendsOf hq) ?_
  refine pr_iload dX6_canGo_14 rfl ?_
  refine pr_iand dX6_canGo_16 ?_
  refine po_i hF (fun hc hF => ?_) (fun hc hF => ?_)
  · refine pr_ifF (tgt := 22) dX6_canGo_17 (by decide) (pc_neF hc) ?_
    refine pr_iconst (v := 0) dX6_canGo_20 (kc_0) ?_
    cases hF
    exact pr_iret dX6_canGo_21 rfl nb_0 rfl
  · refine pr_ifT (tgt := 22) dX6_canGo_17 (by decide) (pc_neT hc) ?_
    refine pr_iconst (v := 0) dX6_canGo_22 (kc_0) ?_
    refine pr_istore (L' := [.ref a0, .int x1, .int x2, .int x3, .int (x1 &&& ((pm_shl 1 x2) ^^^ (-1))), .int 0]) dX6_canGo_23 rfl ?_
    obtain ⟨q4, hq4, hF⟩ := po_b hF
    refine ok_L_X6_canGo_25 n hq4 rfl rfl (fun r hq => ?_) (fun e5 hq z5 hz5 => ?_)
    · subst hq
      replace hF := po_sl hF
      cases hF
      exact rfl
    subst hq
    replace hF := po_sr hF
    refine pr_iconst (v := 1) dX6_canGo_63 (kc_1) ?_
    cases hF
    exact pr_iret dX6_canGo_64 rfl nb_1 rfl

def L_X6_inOrder_86 : Nat → Nat → Int32 → Int32 → Int32 → pm_H → Option (Int32)
  | 0, _, _, _, _, _ => none
  | n + 1, x0, x3, x4, x5, h =>
    (F_X6_has (x4 &&& (x3 ^^^ (-1))) x5).bind fun q11 =>
    if q11 = 0 then
      L_X6_inOrder_86 n x0 x3 x4 (x5 + 1) h
    else
      (if pm_cl_ h x0 = some 5 then F_X6_canGo n h x0 x4 x5 x3 else none).bind fun q12 =>
      if q12 = 0 then
        L_X6_inOrder_86 n x0 x3 x4 (x5 + 1) h
      else
        some x5
theorem ok_L_X6_inOrder_86 {d : Nat} : ∀ (n : Nat) {x0 : Nat} {x3 : Int32} {x4 : Int32} {x5 : Int32} {w1 w2 w6 w7 : Value} {h : pm_H} {q : Int32} {res : Option Value × pm_H}, L_X6_inOrder_86 n x0 x3 x4 x5 h = some q → pm_nolong w1 = true → pm_nolong w2 = true → pm_nolong w6 = true → pm_nolong w7 = true → (pm_E (d + 3) 6 cX6_inOrder (some .int) 121 [.ref x0, w1, w2, .int x3, .int x4, .int q, w6, w7] [] h res) → pm_E (d + 3) 6 cX6_inOrder (some .int) 86 [.ref x0, w1, w2, .int x3, .int x4, .int x5, w6, w7] [] h res := by
  intro n
  induction n with
  | zero =>
    intro x0 x3 x4 x5 w1 w2 w6 w7 h q res hF hw1 hw2 hw6 hw7 hk
    rw [L_X6_inOrder_86] at hF
    cases hF
  | succ n ih =>
    intro x0 x3 x4 x5 w1 w2 w6 w7 h q res hF hw1 hw2 hw6 hw7 hk
    rw [L_X6_inOrder_86] at hF
    refine pr_iload dX6_inOrder_86 rfl ?_
    refine pr_iload_n dX6_inOrder_88 rfl ?_
    refine pr_iconst (v := (-1)) dX6_inOrder_89 (kc_m1) ?_
    refine pr_ixor dX6_inOrder_90 ?_
    refine pr_iand dX6_inOrder_91 ?_
    refine pr_iload dX6_inOrder_92 rfl ?_
    obtain ⟨q11, hq11, hF⟩ := po_b hF
    refine pr_S dX6_inOrder_94 cs_6_100 (as := [.int (x4 &&& (x3 ^^^ (-1))), .int x5]) (rest := []) rfl rfl rfl (lb rfl) (lb rfl) (lb rfl) (ok_F_X6_has hq11) ?_
    refine po_i hF (fun hc hF => ?_) (fun hc hF => ?_)
    · refine pr_ifT (tgt := 112) dX6_inOrder_97 (by decide) (pc_eqT hc) ?_
      refine pr_iload dX6_inOrder_112 rfl ?_
      refine pr_iconst (v := 1) dX6_inOrder_114 (kc_1) ?_
      refine pr_iadd dX6_inOrder_115 ?_
      refine pr_istore (L' := [.ref x0, w1, w2, .int x3, .int x4, .int (x5 + 1), w6, w7]) dX6_inOrder_116 rfl ?_
      refine pr_goto (tgt := 86) dX6_inOrder_118 (by decide) ?_
      exact ih hF hw1 hw2 hw6 hw7 hk
    · refine pr_ifF (tgt := 112) dX6_inOrder_97 (by decide) (pc_eqF hc) ?_
      refine pr_aload_n dX6_inOrder_100 rfl ?_
      refine pr_iload dX6_inOrder_101 rfl ?_
      refine pr_iload dX6_inOrder_103 rfl ?_
      refine pr_iload_n dX6_inOrder_105 rfl ?_
      obtain ⟨q12, hq12, hF⟩ := po_b hF
      refine po_i hq12 (fun hcl hq => ?_) (fun _ hq => nomatch hq)
      refine pr_V (as := [.int x4, .int x5, .int x3]) (rest := []) dX6_inOrder_106 cv_6_346 hcl rfl rfl rfl rfl (lb rfl) (lb rfl) (lb rfl) (ok_F_X6_canGo hq) ?_
      refine po_i hF (fun hc hF => ?_) (fun hc hF => ?_)
      · refine pr_ifF (tgt := 121) dX6_inOrder_109 (by decide) (pc_neF hc) ?_
        refine pr_iload dX6_inOrder_112 rfl ?_
        refine pr_iconst (v := 1) dX6_inOrder_114 (kc_1) ?_
        refine pr_iadd dX6_inOrder_115 ?_
        refine pr_istore (L' := [.ref x0, w1, w2, .int x3, .int x4, .int (x5 + 1), w6, w7]) dX6_inOrder_116 rfl ?_
        refine pr_goto (tgt := 86) dX6_inOrder_118 (by decide) ?_
        exact ih hF hw1 hw2 hw6 hw7 hk
      · refine pr_ifT (tgt := 121) dX6_inOrder_109 (by decide) (pc_neT hc) ?_
        cases hF
        exact hk
def L_X6_inOrder_71 : Nat → Nat → Int32 → Int32 → Int32 → Int32 → Int32 → Int32 → pm_H → Option (Int32 × Int32)
  | 0, _, _, _, _, _, _, _, _ => none
  | n + 1, x0, x1, x3, x4, x5, x6, x7, h =>
    if x1 < x7 then
      some (x5, x6)
    else
      (pm_fI [(5, 7)] h x0).bind fun v9 =>
      (F_X6_lowest n v9).bind fun q10 =>
      (L_X6_inOrder_86 n x0 x3 x4 q10 h).bind fun q13 =>
      (if pm_cl_ h x0 = some 5 then F_X6_friendsOf h x0 q13 else none).bind fun q14 =>
      (F_X6_lowest n (q14 &&& (x4 &&& ((pm_shl 1 q13) ^^^ (-1))))).bind fun q15 =>
      L_X6_inOrder_71 n x0 x1 x3 (x4 &&& ((pm_shl 1 q13) ^^^ (-1))) q13 q15 (x7 + 1) h
theorem ok_L_X6_inOrder_71 {d : Nat} : ∀ (n : Nat) {x0 : Nat} {x1 : Int32} {x3 : Int32} {x4 : Int32} {x5 : Int32} {x6 : Int32} {x7 : Int32} {w2 : Value} {h : pm_H} {q : Int32 × Int32} {res : Option Value × pm_H}, L_X6_inOrder_71 n x0 x1 x3 x4 x5 x6 x7 h = some q → pm_nolong w2 = true → (∀ z4 : Value, pm_nolong z4 = true → ∀ z7 : Value, pm_nolong z7 = true → pm_E (d + 3) 6 cX6_inOrder (some .int) 152 [.ref x0, .int x1, w2, .int x3, z4, .int q.1, .int q.2, z7] [] h res) → pm_E (d + 3) 6 cX6_inOrder (some .int) 71 [.ref x0, .int x1, w2, .int x3, .int x4, .int x5, .int x6, .int x7] [] h res := by
  intro n
  induction n with
  | zero =>
    intro x0 x1 x3 x4 x5 x6 x7 w2 h q res hF hw2 hk
    rw [L_X6_inOrder_71] at hF
    cases hF
  | succ n ih =>
    intro x0 x1 x3 x4 x5 x6 x7 w2 h q res hF hw2 hk
    rw [L_X6_inOrder_71] at hF
    refine pr_iload dX6_inOrder_71 rfl ?_
    refine pr_iload_n dX6_inOrder_73 rfl ?_
    refine po_i hF (fun hc hF => ?_) (fun hc hF => ?_)
    · refine pr_icT (tgt := 152) dX6_inOrder_74 (by decide) (pc_gtT hc) ?_
      cases hF
      exact hk _ rfl _ rfl
    · refine pr_icF (tgt := 152) dX6_inOrder_74 (by decide) (pc_gtF hc) ?_
      refine pr_aload_n dX6_inOrder_77 rfl ?_
      obtain ⟨v9, hv9, hF⟩ := po_b hF
      refine pr_getI dX6_inOrder_78 tf_6_108 (hv9) ?_
      obtain ⟨q10, hq10, hF⟩ := po_b hF
      refine pr_S dX6_inOrder_81 cs_6_343 (as := [.int v9]) (rest := []) rfl rfl rfl (lb rfl) (lb rfl) (lb rfl) (ok_F_X6_lowest hq10) ?_
      refine pr_istore (L' := [.ref x0, .int x1, w2, .int x3, .int x4, .int q10, .int x6, .int x7]) dX6_inOrder_84 rfl ?_
      obtain ⟨q13, hq13, hF⟩ := po_b hF
      refine ok_L_X6_inOrder_86 n hq13 rfl hw2 rfl rfl ?_
      refine pr_iload dX6_inOrder_121 rfl ?_
      refine pr_iconst (v := 1) dX6_inOrder_123 (kc_1) ?_
      refine pr_iload dX6_inOrder_124 rfl ?_
      refine pr_ishl dX6_inOrder_126 ?_
      refine pr_iconst (v := (-1)) dX6_inOrder_127 (kc_m1) ?_
      refine pr_ixor dX6_inOrder_128 ?_
      refine pr_iand dX6_inOrder_129 ?_
      refine pr_istore (L' := [.ref x0, .int x1, w2, .int x3, .int (x4 &&& ((pm_shl 1 q13) ^^^ (-1))), .int q13, .int x6, .int x7]) dX6_inOrder_130 rfl ?_
      refine pr_aload_n dX6_inOrder_132 rfl ?_
      refine pr_iload dX6_inOrder_133 rfl ?_
      obtain ⟨q14, hq14, hF⟩ := po_b hF
      refine po_i hq14 (fun hcl hq => ?_) (fun _ hq => nomatch hq)
      refine pr_V (as := [.int q13]) (rest := []) dX6_inOrder_135 cv_6_291 hcl rfl rfl rfl rfl (lb rfl) (lb rfl) (lb rfl) (ok_F_X6_friendsOf hq) ?_
      refine pr_iload dX6_inOrder_138 rfl ?_
      refine pr_iand dX6_inOrder_140 ?_
      obtain ⟨q15, hq15, hF⟩ := po_b hF
      refine pr_S dX6_inOrder_141 cs_6_343 (as := [.int (q14 &&& (x4 &&& ((pm_shl 1 q13) ^^^ (-1))))]) (rest := []) rfl rfl rfl (lb rfl) (lb rfl) (lb rfl) (ok_F_X6_lowest hq15) ?_
      refine pr_istore (L' := [.ref x0, .int x1, w2, .int x3, .int (x4 &&& ((pm_shl 1 q13) ^^^ (-1))), .int q13, .int q15, .int x7]) dX6_inOrder_144 rfl ?_
      refine pr_iinc (v := 1) (L' := [.ref x0, .int x1, w2, .int x3, .int (x4 &&& ((pm_shl 1 q13) ^^^ (-1))), .int q13, .int q15, .int (x7 + 1)]) dX6_inOrder_146 rfl (kc_1) rfl ?_
      refine pr_goto (tgt := 71) dX6_inOrder_149 (by decide) ?_
      exact ih hF hw2 hk
def F_X6_inOrder (n : Nat) (h : pm_H) (a0 : Nat) (x1 : Int32) (x2 : Int32) : Option (Int32) :=
  (F_X6_in x1 0 15).bind fun q1 =>
  if q1 = 0 then
    some (-1)
  else
    (F_X6_in x2 0 1).bind fun q2 =>
    if q2 = 0 then
      some (-1)
    else
      (if pm_cl_ h a0 = some 5 then F_X6_mustStay n h a0 else none).bind fun q3 =>
      (pm_fI [(5, 7)] h a0).bind fun v4 =>
      (pm_fI [(5, 8)] h a0).bind fun v5 =>
      (pm_fI [(5, 7)] h a0).bind fun v6 =>
      (pm_fI [(5, 7)] h a0).bind fun v7 =>
      (F_X6_bits n (v7 &&& ((q3 ||| (v4 &&& (v5 ^^^ (-1)))) ^^^ (-1)))).bind fun q8 =>
      if x1 < q8 then
        (L_X6_inOrder_71 n a0 x1 (q3 ||| (v4 &&& (v5 ^^^ (-1)))) v6 (-1) (-1) 0 h).bind fun q16 =>
        if x2 = 0 then
          some q16.1
        else
          some q16.2
      else
        some (-4)
theorem ok_F_X6_inOrder {d n : Nat} {h : pm_H} {a0 : Nat} {x1 : Int32} {x2 : Int32} {q : Int32} (hF : F_X6_inOrder n h a0 x1 x2 = some q) : pm_E (d + 3) 6 cX6_inOrder (some .int) 0 [.ref a0, .int x1, .int x2, pm_D, pm_D, pm_D, pm_D, pm_D] [] h (some (.int q), h) := by
  unfold F_X6_inOrder at hF
  refine pr_iload_n dX6_inOrder_0 rfl ?_
  refine pr_iconst (v := 0) dX6_inOrder_1 (kc_0) ?_
  refine pr_bipush (v := 15) dX6_inOrder_2 (kb_15) ?_
  obtain ⟨q1, hq1, hF⟩ := po_b hF
  refine pr_S dX6_inOrder_4 cs_6_104 (as := [.int x1, .int 0, .int 15]) (rest := []) rfl rfl rfl (lb rfl) (lb rfl) (lb rfl) (ok_F_X6_in hq1) ?_
  refine po_i hF (fun hc hF => ?_) (fun hc hF => ?_)
  · refine pr_ifT (tgt := 19) dX6_inOrder_7 (by decide) (pc_eqT hc) ?_
    refine pr_iconst (v := (-1)) dX6_inOrder_19 (kc_m1) ?_
    cases hF
    exact pr_iret dX6_inOrder_20 rfl rfl rfl
  · refine pr_ifF (tgt := 19) dX6_inOrder_7 (by decide) (pc_eqF hc) ?_
    refine pr_iload_n dX6_inOrder_10 rfl ?_
    refine pr_iconst (v := 0) dX6_inOrder_11 (kc_0) ?_
    refine pr_iconst (v := 1) dX6_inOrder_12 (kc_1) ?_
    obtain ⟨q2, hq2, hF⟩ := po_b hF
    refine pr_S dX6_inOrder_13 cs_6_104 (as := [.int x2, .int 0, .int 1]) (rest := []) rfl rfl rfl (lb rfl) (lb rfl) (lb rfl) (ok_F_X6_in hq2) ?_
    refine po_i hF (fun hc hF => ?_) (fun hc hF => ?_)
    · refine pr_ifF (tgt := 21) dX6_inOrder_16 (by decide) (pc_neF hc) ?_
      refine pr_iconst (v := (-1)) dX6_inOrder_19 (kc_m1) ?_
      cases hF
      exact pr_iret dX6_inOrder_20 rfl rfl rfl
    · refine pr_ifT (tgt := 21) dX6_inOrder_16 (by decide) (pc_neT hc) ?_
      refine pr_aload_n dX6_inOrder_21 rfl ?_
      obtain ⟨q3, hq3, hF⟩ := po_b hF
      refine po_i hq3 (fun hcl hq => ?_) (fun _ hq => nomatch hq)
      refine pr_V (as := []) (rest := []) dX6_inOrder_22 cv_6_340 hcl rfl rfl rfl rfl (lb rfl) (lb rfl) (lb rfl) (ok_F_X6_mustStay hq) ?_
      refine pr_aload_n dX6_inOrder_25 rfl ?_
      obtain ⟨v4, hv4, hF⟩ := po_b hF
      refine pr_getI dX6_inOrder_26 tf_6_108 (hv4) ?_
      refine pr_aload_n dX6_inOrder_29 rfl ?_
      obtain ⟨v5, hv5, hF⟩ := po_b hF
      refine pr_getI dX6_inOrder_30 tf_6_227 (hv5) ?_
      refine pr_iconst (v := (-1)) dX6_inOrder_33 (kc_m1) ?_
      refine pr_ixor dX6_inOrder_34 ?_
      refine pr_iand dX6_inOrder_35 ?_
      refine pr_ior dX6_inOrder_36 ?_
      refine pr_istore_n (L' := [.ref a0, .int x1, .int x2, .int (q3 ||| (v4 &&& (v5 ^^^ (-1)))), pm_D, pm_D, pm_D, pm_D]) dX6_inOrder_37 rfl ?_
      refine pr_aload_n dX6_inOrder_38 rfl ?_
      obtain ⟨v6, hv6, hF⟩ := po_b hF
      refine pr_getI dX6_inOrder_39 tf_6_108 (hv6) ?_
      refine pr_istore (L' := [.ref a0, .int x1, .int x2, .int (q3 ||| (v4 &&& (v5 ^^^ (-1)))), .int v6, pm_D, pm_D, pm_D]) dX6_inOrder_42 rfl ?_
      refine pr_iload_n dX6_inOrder_44 rfl ?_
      refine pr_aload_n dX6_inOrder_45 rfl ?_
      obtain ⟨v7, hv7, hF⟩ := po_b hF
      refine pr_getI dX6_inOrder_46 tf_6_108 (hv7) ?_
      refine pr_iload_n dX6_inOrder_49 rfl ?_
      refine pr_iconst (v := (-1)) dX6_inOrder_50 (kc_m1) ?_
      refine pr_ixor dX6_inOrder_51 ?_
      refine pr_iand dX6_inOrder_52 ?_
      obtain ⟨q8, hq8, hF⟩ := po_b hF
      refine pr_S dX6_inOrder_53 cs_6_276 (as := [.int (v7 &&& ((q3 ||| (v4 &&& (v5 ^^^ (-1)))) ^^^ (-1)))]) (rest := [.int x1]) rfl rfl rfl (lb rfl) (lb rfl) (lb rfl) (ok_F_X6_bits hq8) ?_
      refine po_i hF (fun hc hF => ?_) (fun hc hF => ?_)
      · refine pr_icT (tgt := 62) dX6_inOrder_56 (by decide) (pc_ltT hc) ?_
        refine pr_iconst (v := (-1)) dX6_inOrder_62 (kc_m1) ?_
        refine pr_istore (L' := [.ref a0, .int x1, .int x2, .int (q3 ||| (v4 &&& (v5 ^^^ (-1)))), .int v6, .int (-1), pm_D, pm_D]) dX6_inOrder_63 rfl ?_
        refine pr_iconst (v := (-1)) dX6_inOrder_65 (kc_m1) ?_
        refine pr_istore (L' := [.ref a0, .int x1, .int x2, .int (q3 ||| (v4 &&& (v5 ^^^ (-1)))), .int v6, .int (-1), .int (-1), pm_D]) dX6_inOrder_66 rfl ?_
        refine pr_iconst (v := 0) dX6_inOrder_68 (kc_0) ?_
        refine pr_istore (L' := [.ref a0, .int x1, .int x2, .int (q3 ||| (v4 &&& (v5 ^^^ (-1)))), .int v6, .int (-1), .int (-1), .int 0]) dX6_inOrder_69 rfl ?_
        obtain ⟨q16, hq16, hF⟩ := po_b hF
        refine ok_L_X6_inOrder_71 n hq16 rfl (fun z4 hz4 z7 hz7 => ?_)
        refine pr_iload_n dX6_inOrder_152 rfl ?_
        refine po_i hF (fun hc hF => ?_) (fun hc hF => ?_)
        · refine pr_ifF (tgt := 161) dX6_inOrder_153 (by decide) (pc_neF hc) ?_
          refine pr_iload dX6_inOrder_156 rfl ?_
          refine pr_goto (tgt := 163) dX6_inOrder_158 (by decide) ?_
          cases hF
          exact pr_iret dX6_inOrder_163 rfl rfl rfl
        · refine pr_ifT (tgt := 161) dX6_inOrder_153 (by decide) (pc_neT hc) ?_
          refine pr_iload dX6_inOrder_161 rfl ?_
          cases hF
          exact pr_iret dX6_inOrder_163 rfl rfl rfl
      · refine pr_icF (tgt := 62) dX6_inOrder_56 (by decide) (pc_ltF hc) ?_
        refine pr_bipush (v := (-4)) dX6_inOrder_59 (kb_m4) ?_
        cases hF
        exact pr_iret dX6_inOrder_61 rfl rfl rfl

def L_X6_ways_66 : Nat → Nat → Int32 → Int64 → Int32 → pm_H → Option (Int64)
  | 0, _, _, _, _, _ => none
  | n + 1, x0, x3, x4, x6, h =>
    if x6 < 16 then
      (F_X6_has x3 x6).bind fun q6 =>
      if q6 = 0 then
        L_X6_ways_66 n x0 x3 x4 (x6 + 1) h
      else
        (if pm_cl_ h x0 = some 5 then F_X6_friendsOf h x0 x6 else none).bind fun q7 =>
        if (q7 &&& ((x3 &&& ((pm_shl 1 x6) ^^^ (-1))) ^^^ (-1))) = 0 then
          L_X6_ways_66 n x0 x3 x4 (x6 + 1) h
        else
          (pm_fR [(5, 45)] h x0).bind fun v8 =>
          (pm_al h v8 (x3 &&& ((pm_shl 1 x6) ^^^ (-1)))).bind fun v9 =>
          L_X6_ways_66 n x0 x3 (x4 + v9) (x6 + 1) h
    else
      some x4
theorem ok_L_X6_ways_66 {d : Nat} : ∀ (n : Nat) {x0 : Nat} {x3 : Int32} {x4 : Int64} {x6 : Int32} {w1 w2 w5 : Value} {h : pm_H} {q : Int64} {res : Option Value × pm_H}, L_X6_ways_66 n x0 x3 x4 x6 h = some q → pm_nolong w1 = true → pm_nolong w2 = true → pm_nolong w5 = true → (∀ z5 : Value, pm_nolong z5 = true → ∀ z6 : Value, pm_nolong z6 = true → pm_E (d + 1) 6 cX6_ways (some .long) 126 [.ref x0, w1, w2, .int x3, .long q, z5, z6] [] h res) → pm_E (d + 1) 6 cX6_ways (some .long) 66 [.ref x0, w1, w2, .int x3, .long x4, w5, .int x6] [] h res := by
  intro n
  induction n with
  | zero =>
    intro x0 x3 x4 x6 w1 w2 w5 h q res hF hw1 hw2 hw5 hk
    rw [L_X6_ways_66] at hF
    cases hF
  | succ n ih =>
    intro x0 x3 x4 x6 w1 w2 w5 h q res hF hw1 hw2 hw5 hk
    rw [L_X6_ways_66] at hF
    refine pr_iload dX6_ways_66 rfl ?_
    refine pr_bipush (v := 16) dX6_ways_68 (kb_16) ?_
    refine po_i hF (fun hc hF => ?_) (fun hc hF => ?_)
    · refine pr_icF (tgt := 126) dX6_ways_70 (by decide) (pc_geF hc) ?_
      refine pr_iload_n dX6_ways_73 rfl ?_
      refine pr_iload dX6_ways_74 rfl ?_
      obtain ⟨q6, hq6, hF⟩ := po_b hF
      refine pr_S dX6_ways_76 cs_6_100 (as := [.int x3, .int x6]) (rest := []) rfl rfl rfl (lb rfl) (lb rfl) (lb rfl) (ok_F_X6_has hq6) ?_
      refine po_i hF (fun hc hF => ?_) (fun hc hF => ?_)
      · refine pr_ifT (tgt := 120) dX6_ways_79 (by decide) (pc_eqT hc) ?_
        refine pr_iinc (v := 1) (L' := [.ref x0, w1, w2, .int x3, .long x4, w5, .int (x6 + 1)]) dX6_ways_120 rfl (kc_1) (pm_st_w (i := 5) rfl rfl hw5 rfl) ?_
        refine pr_goto (tgt := 66) dX6_ways_123 (by decide) ?_
        exact ih hF hw1 hw2 hw5 hk
      · refine pr_ifF (tgt := 120) dX6_ways_79 (by decide) (pc_eqF hc) ?_
        refine pr_aload_n dX6_ways_82 rfl ?_
        refine pr_iload dX6_ways_83 rfl ?_
        obtain ⟨q7, hq7, hF⟩ := po_b hF
        refine po_i hq7 (fun hcl hq => ?_) (fun _ hq => nomatch hq)
        refine pr_V (as := [.int x6]) (rest := []) dX6_ways_85 cv_6_291 hcl rfl rfl rfl rfl (lb rfl) (lb rfl) (lb rfl) (ok_F_X6_friendsOf hq) ?_
        refine pr_iload_n dX6_ways_88 rfl ?_
        refine pr_iconst (v := 1) dX6_ways_89 (kc_1) ?_
        refine pr_iload dX6_ways_90 rfl ?_
        refine pr_ishl dX6_ways_92 ?_
        refine pr_iconst (v := (-1)) dX6_ways_93 (kc_m1) ?_
        refine pr_ixor dX6_ways_94 ?_
        refine pr_iand dX6_ways_95 ?_
        refine pr_iconst (v := (-1)) dX6_ways_96 (kc_m1) ?_
        refine pr_ixor dX6_ways_97 ?_
        refine pr_iand dX6_ways_98 ?_
        refine po_i hF (fun hc hF => ?_) (fun hc hF => ?_)
        · refine pr_ifT (tgt := 120) dX6_ways_99 (by decide) (pc_eqT hc) ?_
          refine pr_iinc (v := 1) (L' := [.ref x0, w1, w2, .int x3, .long x4, w5, .int (x6 + 1)]) dX6_ways_120 rfl (kc_1) (pm_st_w (i := 5) rfl rfl hw5 rfl) ?_
          refine pr_goto (tgt := 66) dX6_ways_123 (by decide) ?_
          exact ih hF hw1 hw2 hw5 hk
        · refine pr_ifF (tgt := 120) dX6_ways_99 (by decide) (pc_eqF hc) ?_
          refine pr_lload dX6_ways_102 rfl ?_
          refine pr_aload_n dX6_ways_104 rfl ?_
          obtain ⟨v8, hv8, hF⟩ := po_b hF
          refine pr_getR dX6_ways_105 tf_6_81 (hv8) ?_
          refine pr_iload_n dX6_ways_108 rfl ?_
          refine pr_iconst (v := 1) dX6_ways_109 (kc_1) ?_
          refine pr_iload dX6_ways_110 rfl ?_
          refine pr_ishl dX6_ways_112 ?_
          refine pr_iconst (v := (-1)) dX6_ways_113 (kc_m1) ?_
          refine pr_ixor dX6_ways_114 ?_
          refine pr_iand dX6_ways_115 ?_
          obtain ⟨v9, hv9, hF⟩ := po_b hF
          refine pr_lald dX6_ways_116 (hv9) ?_
          refine pr_ladd dX6_ways_117 ?_
          refine pr_lstore (L' := [.ref x0, w1, w2, .int x3, .long (x4 + v9), pm_D, .int x6]) dX6_ways_118 rfl ?_
          refine pr_iinc (v := 1) (L' := [.ref x0, w1, w2, .int x3, .long (x4 + v9), pm_D, .int (x6 + 1)]) dX6_ways_120 rfl (kc_1) rfl ?_
          refine pr_goto (tgt := 66) dX6_ways_123 (by decide) ?_
          exact ih hF hw1 hw2 rfl hk
    · refine pr_icT (tgt := 126) dX6_ways_70 (by decide) (pc_geT hc) ?_
      cases hF
      exact hk _ hw5 _ rfl
def L_X6_ways_44 : Nat → Nat → Int32 → Int32 → pm_H → Option (pm_H)
  | 0, _, _, _, _ => none
  | n + 1, x0, x2, x3, h =>
    if x2 < x3 then
      some h
    else
    if (x3 &&& (x2 ^^^ (-1))) = 0 then
      (L_X6_ways_66 n x0 x3 0 0 h).bind fun q10 =>
      (pm_fR [(5, 45)] h x0).bind fun v11 =>
      (pm_sl h v11 x3 q10).bind fun h12 =>
      L_X6_ways_44 n x0 x2 (x3 + 1) h12
    else
      L_X6_ways_44 n x0 x2 (x3 + 1) h
theorem ok_L_X6_ways_44 {d : Nat} : ∀ (n : Nat) {x0 : Nat} {x2 : Int32} {x3 : Int32} {w1 u4 w5 w6 : Value} {h : pm_H} {q : pm_H} {res : Option Value × pm_H}, L_X6_ways_44 n x0 x2 x3 h = some q → pm_nolong w1 = true → pm_nolong w5 = true → pm_nolong w6 = true → (∀ z3 : Value, pm_nolong z3 = true → ∀ y4 : Value, ∀ z5 : Value, pm_nolong z5 = true → ∀ z6 : Value, pm_nolong z6 = true → pm_E (d + 1) 6 cX6_ways (some .long) 140 [.ref x0, w1, .int x2, z3, y4, z5, z6] [] q res) → pm_E (d + 1) 6 cX6_ways (some .long) 44 [.ref x0, w1, .int x2, .int x3, u4, w5, w6] [] h res := by
  intro n
  induction n with
  | zero =>
    intro x0 x2 x3 w1 u4 w5 w6 h q res hF hw1 hw5 hw6 hk
    rw [L_X6_ways_44] at hF
    cases hF
  | succ n ih =>
    intro x0 x2 x3 w1 u4 w5 w6 h q res hF hw1 hw5 hw6 hk
    rw [L_X6_ways_44] at hF
    refine pr_iload_n dX6_ways_44 rfl ?_
    refine pr_iload_n dX6_ways_45 rfl ?_
    refine po_i hF (fun hc hF => ?_) (fun hc hF => ?_)
    · refine pr_icT (tgt := 140) dX6_ways_46 (by decide) (pc_gtT hc) ?_
      cases hF
      exact hk _ rfl _ _ hw5 _ hw6
    · refine pr_icF (tgt := 140) dX6_ways_46 (by decide) (pc_gtF hc) ?_
      refine pr_iload_n dX6_ways_49 rfl ?_
      refine pr_iload_n dX6_ways_50 rfl ?_
      refine pr_iconst (v := (-1)) dX6_ways_51 (kc_m1) ?_
      refine pr_ixor dX6_ways_52 ?_
      refine pr_iand dX6_ways_53 ?_
      refine po_i hF (fun hc hF => ?_) (fun hc hF => ?_)
      · refine pr_ifT (tgt := 60) dX6_ways_54 (by decide) (pc_eqT hc) ?_
        refine pr_lconst (v := 0) dX6_ways_60 rfl ?_
        refine pr_lstore (L' := [.ref x0, w1, .int x2, .int x3, .long 0, pm_D, w6]) dX6_ways_61 rfl ?_
        refine pr_iconst (v := 0) dX6_ways_63 (kc_0) ?_
        refine pr_istore (L' := [.ref x0, w1, .int x2, .int x3, .long 0, pm_D, .int 0]) dX6_ways_64 rfl ?_
        obtain ⟨q10, hq10, hF⟩ := po_b hF
        refine ok_L_X6_ways_66 n hq10 hw1 rfl rfl (fun z5 hz5 z6 hz6 => ?_)
        refine pr_aload_n dX6_ways_126 rfl ?_
        obtain ⟨v11, hv11, hF⟩ := po_b hF
        refine pr_getR dX6_ways_127 tf_6_81 (hv11) ?_
        refine pr_iload_n dX6_ways_130 rfl ?_
        refine pr_lload dX6_ways_131 rfl ?_
        obtain ⟨h12, hh12, hF⟩ := po_b hF
        refine pr_last dX6_ways_133 (hh12) ?_
        refine pr_iinc (v := 1) (L' := [.ref x0, w1, .int x2, .int (x3 + 1), .long q10, z5, z6]) dX6_ways_134 rfl (kc_1) rfl ?_
        refine pr_goto (tgt := 44) dX6_ways_137 (by decide) ?_
        exact ih hF hw1 hz5 hz6 hk
      · refine pr_ifF (tgt := 60) dX6_ways_54 (by decide) (pc_eqF hc) ?_
        refine pr_goto (tgt := 134) dX6_ways_57 (by decide) ?_
        refine pr_iinc (v := 1) (L' := [.ref x0, w1, .int x2, .int (x3 + 1), u4, w5, w6]) dX6_ways_134 rfl (kc_1) rfl ?_
        refine pr_goto (tgt := 44) dX6_ways_137 (by decide) ?_
        exact ih hF hw1 hw5 hw6 hk
def F_X6_ways (n : Nat) (h : pm_H) (a0 : Nat) (x1 : Int32) : Option (Int64 × pm_H) :=
  (F_X6_in x1 0 65535).bind fun q1 =>
  if q1 = 0 then
    some ((-1), h)
  else
    (pm_fI [(5, 7)] h a0).bind fun v2 =>
    if (x1 &&& (v2 ^^^ (-1))) = 0 then
      (pm_fI [(5, 8)] h a0).bind fun v3 =>
      (pm_fR [(5, 45)] h a0).bind fun v4 =>
      (pm_sl h v4 0 1).bind fun h5 =>
      (L_X6_ways_44 n a0 (v3 &&& (x1 ^^^ (-1))) 1 h5).bind fun q13 =>
      (pm_fR [(5, 45)] q13 a0).bind fun v14 =>
      (pm_al q13 v14 (v3 &&& (x1 ^^^ (-1)))).bind fun v15 =>
      some (v15, q13)
    else
      some ((-1), h)
theorem ok_F_X6_ways {d n : Nat} {h : pm_H} {a0 : Nat} {x1 : Int32} {q : Int64 × pm_H} (hF : F_X6_ways n h a0 x1 = some q) : pm_E (d + 1) 6 cX6_ways (some .long) 0 [.ref a0, .int x1, pm_D, pm_D, pm_D, pm_D, pm_D] [] h (some (.long q.1), q.2) := by
  unfold F_X6_ways at hF
  refine pr_iload_n dX6_ways_0 rfl ?_
  refine pr_iconst (v := 0) dX6_ways_1 (kc_0) ?_
  refine pr_ldc_w (v := 65535) dX6_ways_2 rfl ?_
  obtain ⟨q1, hq1, hF⟩ := po_b hF
  refine pr_S dX6_ways_5 cs_6_104 (as := [.int x1, .int 0, .int 65535]) (rest := []) rfl rfl rfl (lb rfl) (lb rfl) (lb rfl) (ok_F_X6_in hq1) ?_
  refine po_i hF (fun hc hF => ?_) (fun hc hF => ?_)
  · refine pr_ifT (tgt := 22) dX6_ways_8 (by decide) (pc_eqT hc) ?_
    refine pr_ldc2_w (v := (-1)) dX6_ways_22 rfl ?_
    cases hF
    exact pr_lret dX6_ways_25 rfl rfl
  · refine pr_ifF (tgt := 22) dX6_ways_8 (by decide) (pc_eqF hc) ?_
    refine pr_iload_n dX6_ways_11 rfl ?_
    refine pr_aload_n dX6_ways_12 rfl ?_
    obtain ⟨v2, hv2, hF⟩ := po_b hF
    refine pr_getI dX6_ways_13 tf_6_108 (hv2) ?_
    refine pr_iconst (v := (-1)) dX6_ways_16 (kc_m1) ?_
    refine pr_ixor dX6_ways_17 ?_
    refine pr_iand dX6_ways_18 ?_
    refine po_i hF (fun hc hF => ?_) (fun hc hF => ?_)
    · refine pr_ifT (tgt := 26) dX6_ways_19 (by decide) (pc_eqT hc) ?_
      refine pr_aload_n dX6_ways_26 rfl ?_
      obtain ⟨v3, hv3, hF⟩ := po_b hF
      refine pr_getI dX6_ways_27 tf_6_227 (hv3) ?_
      refine pr_iload_n dX6_ways_30 rfl ?_
      refine pr_iconst (v := (-1)) dX6_ways_31 (kc_m1) ?_
      refine pr_ixor dX6_ways_32 ?_
      refine pr_iand dX6_ways_33 ?_
      refine pr_istore_n (L' := [.ref a0, .int x1, .int (v3 &&& (x1 ^^^ (-1))), pm_D, pm_D, pm_D, pm_D]) dX6_ways_34 rfl ?_
      refine pr_aload_n dX6_ways_35 rfl ?_
      obtain ⟨v4, hv4, hF⟩ := po_b hF
      refine pr_getR dX6_ways_36 tf_6_81 (hv4) ?_
      refine pr_iconst (v := 0) dX6_ways_39 (kc_0) ?_
      refine pr_lconst (v := 1) dX6_ways_40 rfl ?_
      obtain ⟨h5, hh5, hF⟩ := po_b hF
      refine pr_last dX6_ways_41 (hh5) ?_
      refine pr_iconst (v := 1) dX6_ways_42 (kc_1) ?_
      refine pr_istore_n (L' := [.ref a0, .int x1, .int (v3 &&& (x1 ^^^ (-1))), .int 1, pm_D, pm_D, pm_D]) dX6_ways_43 rfl ?_
      obtain ⟨q13, hq13, hF⟩ := po_b hF
      refine ok_L_X6_ways_44 n hq13 rfl rfl rfl (fun z3 hz3 y4 z5 hz5 z6 hz6 => ?_)
      refine pr_aload_n dX6_ways_140 rfl ?_
      obtain ⟨v14, hv14, hF⟩ := po_b hF
      refine pr_getR dX6_ways_141 tf_6_81 (hv14) ?_
      refine pr_iload_n dX6_ways_144 rfl ?_
      obtain ⟨v15, hv15, hF⟩ := po_b hF
      refine pr_lald dX6_ways_145 (hv15) ?_
      cases hF
      exact pr_lret dX6_ways_146 rfl rfl
    · refine pr_ifF (tgt := 26) dX6_ways_19 (by decide) (pc_eqF hc) ?_
      refine pr_ldc2_w (v := (-1)) dX6_ways_22 rfl ?_
      cases hF
      exact pr_lret dX6_ways_25 rfl rfl

def F_X6_quarrels (h : pm_H) (a0 : Nat) (x1 : Int32) (x2 : Int32) (x3 : Int32) : Option (pm_H) :=
  (pm_fR [(5, 4)] h a0).bind fun v1 =>
  ((
    if x3 = 0 then
      (pm_fR [(5, 4)] h a0).bind fun v2 =>
      (pm_ai 0 h v2 x1).bind fun v3 =>
      some (v3 &&& ((pm_shl 1 x2) ^^^ (-1)))
    else
      (pm_fR [(5, 4)] h a0).bind fun v4 =>
      (pm_ai 0 h v4 x1).bind fun v5 =>
      some (v5 ||| (pm_shl 1 x2))
  ) : Option (Int32)).bind fun q6 =>
  (pm_si 0 h v1 x1 q6).bind fun h7 =>
  (pm_fR [(5, 4)] h7 a0).bind fun v8 =>
  if x3 = 0 then
    (pm_fR [(5, 4)] h7 a0).bind fun v9 =>
    (pm_ai 0 h7 v9 x2).bind fun v10 =>
    (pm_si 0 h7 v8 x2 (v10 &&& ((pm_shl 1 x1) ^^^ (-1)))).bind fun h11 =>
    some h11
  else
    (pm_fR [(5, 4)] h7 a0).bind fun v12 =>
    (pm_ai 0 h7 v12 x2).bind fun v13 =>
    (pm_si 0 h7 v8 x2 (v13 ||| (pm_shl 1 x1))).bind fun h14 =>
    some h14
theorem ok_F_X6_quarrels {d : Nat} {h : pm_H} {a0 : Nat} {x1 : Int32} {x2 : Int32} {x3 : Int32} {q : pm_H} (hF : F_X6_quarrels h a0 x1 x2 x3 = some q) : pm_E (d + 0) 6 cX6_quarrels (none) 0 [.ref a0, .int x1, .int x2, .int x3] [] h (none, q) := by
  unfold F_X6_quarrels at hF
  refine pr_aload_n dX6_quarrels_0 rfl ?_
  obtain ⟨v1, hv1, hF⟩ := po_b hF
  refine pr_getR dX6_quarrels_1 tf_6_22 (hv1) ?_
  refine pr_iload_n dX6_quarrels_4 rfl ?_
  refine pr_iload_n dX6_quarrels_5 rfl ?_
  obtain ⟨q6, hq6, hF⟩ := po_b hF
  have J34 : pm_E (d + 0) 6 cX6_quarrels (none) 34 [.ref a0, .int x1, .int x2, .int x3] [.int q6, .int x1, .ref v1] h (none, q) := by
    obtain ⟨h7, hh7, hF⟩ := po_b hF
    refine pr_iast dX6_quarrels_34 (hh7) ?_
    refine pr_aload_n dX6_quarrels_35 rfl ?_
    obtain ⟨v8, hv8, hF⟩ := po_b hF
    refine pr_getR dX6_quarrels_36 tf_6_22 (hv8) ?_
    refine pr_iload_n dX6_quarrels_39 rfl ?_
    refine pr_iload_n dX6_quarrels_40 rfl ?_
    refine po_i hF (fun hc hF => ?_) (fun hc hF => ?_)
    · refine pr_ifT (tgt := 57) dX6_quarrels_41 (by decide) (pc_eqT hc) ?_
      refine pr_aload_n dX6_quarrels_57 rfl ?_
      obtain ⟨v9, hv9, hF⟩ := po_b hF
      refine pr_getR dX6_quarrels_58 tf_6_22 (hv9) ?_
      refine pr_iload_n dX6_quarrels_61 rfl ?_
      obtain ⟨v10, hv10, hF⟩ := po_b hF
      refine pr_iald dX6_quarrels_62 (hv10) ?_
      refine pr_iconst (v := 1) dX6_quarrels_63 (kc_1) ?_
      refine pr_iload_n dX6_quarrels_64 rfl ?_
      refine pr_ishl dX6_quarrels_65 ?_
      refine pr_iconst (v := (-1)) dX6_quarrels_66 (kc_m1) ?_
      refine pr_ixor dX6_quarrels_67 ?_
      refine pr_iand dX6_quarrels_68 ?_
      obtain ⟨h11, hh11, hF⟩ := po_b hF
      refine pr_iast dX6_quarrels_69 (hh11) ?_
      cases hF
      exact pr_vret dX6_quarrels_70 rfl rfl
    · refine pr_ifF (tgt := 57) dX6_quarrels_41 (by decide) (pc_eqF hc) ?_
      refine pr_aload_n dX6_quarrels_44 rfl ?_
      obtain ⟨v12, hv12, hF⟩ := po_b hF
      refine pr_getR dX6_quarrels_45 tf_6_22 (hv12) ?_
      refine pr_iload_n dX6_quarrels_48 rfl ?_
      obtain ⟨v13, hv13, hF⟩ := po_b hF
      refine pr_iald dX6_quarrels_49 (hv13) ?_
      refine pr_iconst (v := 1) dX6_quarrels_50 (kc_1) ?_
      refine pr_iload_n dX6_quarrels_51 rfl ?_
      refine pr_ishl dX6_quarrels_52 ?_
      refine pr_ior dX6_quarrels_53 ?_
      refine pr_goto (tgt := 69) dX6_quarrels_54 (by decide) ?_
      obtain ⟨h14, hh14, hF⟩ := po_b hF
      refine pr_iast dX6_quarrels_69 (hh14) ?_
      cases hF
      exact pr_vret dX6_quarrels_70 rfl rfl
  clear hF
  have hF := hq6
  refine po_i hF (fun hc hF => ?_) (fun hc hF => ?_)
  · refine pr_ifT (tgt := 22) dX6_quarrels_6 (by decide) (pc_eqT hc) ?_
    refine pr_aload_n dX6_quarrels_22 rfl ?_
    obtain ⟨v2, hv2, hF⟩ := po_b hF
    refine pr_getR dX6_quarrels_23 tf_6_22 (hv2) ?_
    refine pr_iload_n dX6_quarrels_26 rfl ?_
    obtain ⟨v3, hv3, hF⟩ := po_b hF
    refine pr_iald dX6_quarrels_27 (hv3) ?_
    refine pr_iconst (v := 1) dX6_quarrels_28 (kc_1) ?_
    refine pr_iload_n dX6_quarrels_29 rfl ?_
    refine pr_ishl dX6_quarrels_30 ?_
    refine pr_iconst (v := (-1)) dX6_quarrels_31 (kc_m1) ?_
    refine pr_ixor dX6_quarrels_32 ?_
    refine pr_iand dX6_quarrels_33 ?_
    cases hF
    exact J34
  · refine pr_ifF (tgt := 22) dX6_quarrels_6 (by decide) (pc_eqF hc) ?_
    refine pr_aload_n dX6_quarrels_9 rfl ?_
    obtain ⟨v4, hv4, hF⟩ := po_b hF
    refine pr_getR dX6_quarrels_10 tf_6_22 (hv4) ?_
    refine pr_iload_n dX6_quarrels_13 rfl ?_
    obtain ⟨v5, hv5, hF⟩ := po_b hF
    refine pr_iald dX6_quarrels_14 (hv5) ?_
    refine pr_iconst (v := 1) dX6_quarrels_15 (kc_1) ?_
    refine pr_iload_n dX6_quarrels_16 rfl ?_
    refine pr_ishl dX6_quarrels_17 ?_
    refine pr_ior dX6_quarrels_18 ?_
    refine pr_goto (tgt := 34) dX6_quarrels_19 (by decide) ?_
    cases hF
    exact J34

def L_X6_keepsOut_28 : Nat → Nat → Int32 → Int32 → Int32 → Int32 → pm_H → Option (Int32 × Int32 × pm_H)
  | 0, _, _, _, _, _, _ => none
  | n + 1, x0, x2, x3, x4, x5, h =>
    if x5 < 256 then
      if (x5 / 16) < (pm_rem x5 16) then
        (if pm_cl_ h x0 = some 5 then F_X6_isTold h x0 (x5 / 16) else none).bind fun q4 =>
        if q4 = 0 then
          L_X6_keepsOut_28 n x0 x2 x3 x4 (x5 + 1) h
        else
          (if pm_cl_ h x0 = some 5 then F_X6_friendsOf h x0 (x5 / 16) else none).bind fun q5 =>
          (F_X6_has q5 (pm_rem x5 16)).bind fun q6 =>
          if q6 = 0 then
            L_X6_keepsOut_28 n x0 x2 x3 x4 (x5 + 1) h
          else
            (if pm_cl_ h x0 = some 5 then F_X6_quarrels h x0 (x5 / 16) (pm_rem x5 16) 1 else none).bind fun q7 =>
            (if pm_cl_ q7 x0 = some 5 then F_X6_mustStay n q7 x0 else none).bind fun q8 =>
            (F_X6_bits n q8).bind fun q9 =>
            ((
              if x2 < q9 then
                if x4 = (-2) then
                  some (x3 + 1, x5)
                else
                  some (x3 + 1, x4)
              else
                some (x3, x4)
            ) : Option (Int32 × Int32)).bind fun q10 =>
            (if pm_cl_ q7 x0 = some 5 then F_X6_quarrels q7 x0 (x5 / 16) (pm_rem x5 16) 0 else none).bind fun q11 =>
            L_X6_keepsOut_28 n x0 x2 q10.1 q10.2 (x5 + 1) q11
      else
        L_X6_keepsOut_28 n x0 x2 x3 x4 (x5 + 1) h
    else
      some (x3, x4, h)
theorem ok_L_X6_keepsOut_28 {d : Nat} : ∀ (n : Nat) {x0 : Nat} {x2 : Int32} {x3 : Int32} {x4 : Int32} {x5 : Int32} {w1 w6 w7 : Value} {h : pm_H} {q : Int32 × Int32 × pm_H} {res : Option Value × pm_H}, L_X6_keepsOut_28 n x0 x2 x3 x4 x5 h = some q → pm_nolong w1 = true → pm_nolong w6 = true → pm_nolong w7 = true → (∀ z5 : Value, pm_nolong z5 = true → ∀ z6 : Value, pm_nolong z6 = true → ∀ z7 : Value, pm_nolong z7 = true → pm_E (d + 3) 6 cX6_keepsOut (some .int) 133 [.ref x0, w1, .int x2, .int q.1, .int q.2.1, z5, z6, z7] [] q.2.2 res) → pm_E (d + 3) 6 cX6_keepsOut (some .int) 28 [.ref x0, w1, .int x2, .int x3, .int x4, .int x5, w6, w7] [] h res := by
  intro n
  induction n with
  | zero =>
    intro x0 x2 x3 x4 x5 w1 w6 w7 h q res hF hw1 hw6 hw7 hk
    rw [L_X6_keepsOut_28] at hF
    cases hF
  | succ n ih =>
    intro x0 x2 x3 x4 x5 w1 w6 w7 h q res hF hw1 hw6 hw7 hk
    rw [L_X6_keepsOut_28] at hF
    refine pr_iload dX6_keepsOut_28 rfl ?_
    refine pr_sipush (v := 256) dX6_keepsOut_30 (ks_256) ?_
    refine po_i hF (fun hc hF => ?_) (fun hc hF => ?_)
    · refine pr_icF (tgt := 133) dX6_keepsOut_33 (by decide) (pc_geF hc) ?_
      refine pr_iload dX6_keepsOut_36 rfl ?_
      refine pr_bipush (v := 16) dX6_keepsOut_38 (kb_16) ?_
      refine pr_idiv dX6_keepsOut_40 (by decide) ?_
      refine pr_istore (L' := [.ref x0, w1, .int x2, .int x3, .int x4, .int x5, .int (x5 / 16), w7]) dX6_keepsOut_41 rfl ?_
      refine pr_iload dX6_keepsOut_43 rfl ?_
      refine pr_bipush (v := 16) dX6_keepsOut_45 (kb_16) ?_
      refine pr_irem dX6_keepsOut_47 (by decide) ?_
      refine pr_istore (L' := [.ref x0, w1, .int x2, .int x3, .int x4, .int x5, .int (x5 / 16), .int (pm_rem x5 16)]) dX6_keepsOut_48 rfl ?_
      refine pr_iload dX6_keepsOut_50 rfl ?_
      refine pr_iload dX6_keepsOut_52 rfl ?_
      refine po_i hF (fun hc hF => ?_) (fun hc hF => ?_)
      · refine pr_icF (tgt := 127) dX6_keepsOut_54 (by decide) (pc_geF hc) ?_
        refine pr_aload_n dX6_keepsOut_57 rfl ?_
        refine pr_iload dX6_keepsOut_58 rfl ?_
        obtain ⟨q4, hq4, hF⟩ := po_b hF
        refine po_i hq4 (fun hcl hq => ?_) (fun _ hq => nomatch hq)
        refine pr_V (as := [.int (x5 / 16)]) (rest := []) dX6_keepsOut_60 cv_6_233 hcl rfl rfl rfl rfl (lb rfl) (lb rfl) (lb rfl) (ok_F_X6_isTold hq) ?_
        refine po_i hF (fun hc hF => ?_) (fun hc hF => ?_)
        · refine pr_ifT (tgt := 127) dX6_keepsOut_63 (by decide) (pc_eqT hc) ?_
          refine pr_iinc (v := 1) (L' := [.ref x0, w1, .int x2, .int x3, .int x4, .int (x5 + 1), .int (x5 / 16), .int (pm_rem x5 16)]) dX6_keepsOut_127 rfl (kc_1) rfl ?_
          refine pr_goto (tgt := 28) dX6_keepsOut_130 (by decide) ?_
          exact ih hF hw1 rfl rfl hk
        · refine pr_ifF (tgt := 127) dX6_keepsOut_63 (by decide) (pc_eqF hc) ?_
          refine pr_aload_n dX6_keepsOut_66 rfl ?_
          refine pr_iload dX6_keepsOut_67 rfl ?_
          obtain ⟨q5, hq5, hF⟩ := po_b hF
          refine po_i hq5 (fun hcl hq => ?_) (fun _ hq => nomatch hq)
          refine pr_V (as := [.int (x5 / 16)]) (rest := []) dX6_keepsOut_69 cv_6_291 hcl rfl rfl rfl rfl (lb rfl) (lb rfl) (lb rfl) (ok_F_X6_friendsOf hq) ?_
          refine pr_iload dX6_keepsOut_72 rfl ?_
          obtain ⟨q6, hq6, hF⟩ := po_b hF
          refine pr_S dX6_keepsOut_74 cs_6_100 (as := [.int q5, .int (pm_rem x5 16)]) (rest := []) rfl rfl rfl (lb rfl) (lb rfl) (lb rfl) (ok_F_X6_has hq6) ?_
          refine po_i hF (fun hc hF => ?_) (fun hc hF => ?_)
          · refine pr_ifF (tgt := 83) dX6_keepsOut_77 (by decide) (pc_neF hc) ?_
            refine pr_goto (tgt := 127) dX6_keepsOut_80 (by decide) ?_
            refine pr_iinc (v := 1) (L' := [.ref x0, w1, .int x2, .int x3, .int x4, .int (x5 + 1), .int (x5 / 16), .int (pm_rem x5 16)]) dX6_keepsOut_127 rfl (kc_1) rfl ?_
            refine pr_goto (tgt := 28) dX6_keepsOut_130 (by decide) ?_
            exact ih hF hw1 rfl rfl hk
          · refine pr_ifT (tgt := 83) dX6_keepsOut_77 (by decide) (pc_neT hc) ?_
            refine pr_aload_n dX6_keepsOut_83 rfl ?_
            refine pr_iload dX6_keepsOut_84 rfl ?_
            refine pr_iload dX6_keepsOut_86 rfl ?_
            refine pr_iconst (v := 1) dX6_keepsOut_88 (kc_1) ?_
            obtain ⟨q7, hq7, hF⟩ := po_b hF
            refine po_i hq7 (fun hcl hq => ?_) (fun _ hq => nomatch hq)
            refine pr_V (as := [.int (x5 / 16), .int (pm_rem x5 16), .int 1]) (rest := []) dX6_keepsOut_89 cv_6_352 hcl rfl rfl rfl rfl (lb rfl) (lb rfl) (lb rfl) (ok_F_X6_quarrels hq) ?_
            refine pr_aload_n dX6_keepsOut_92 rfl ?_
            obtain ⟨q8, hq8, hF⟩ := po_b hF
            refine po_i hq8 (fun hcl hq => ?_) (fun _ hq => nomatch hq)
            refine pr_V (as := []) (rest := []) dX6_keepsOut_93 cv_6_340 hcl rfl rfl rfl rfl (lb rfl) (lb rfl) (lb rfl) (ok_F_X6_mustStay hq) ?_
            obtain ⟨q9, hq9, hF⟩ := po_b hF
            refine pr_S dX6_keepsOut_96 cs_6_276 (as := [.int q8]) (rest := []) rfl rfl rfl (lb rfl) (lb rfl) (lb rfl) (ok_F_X6_bits hq9) ?_
            refine pr_iload_n dX6_keepsOut_99 rfl ?_
            obtain ⟨q10, hq10, hF⟩ := po_b hF
            have J118 : pm_E (d + 3) 6 cX6_keepsOut (some .int) 118 [.ref x0, w1, .int x2, .int q10.1, .int q10.2, .int x5, .int (x5 / 16), .int (pm_rem x5 16)] [] q7 res := by
              refine pr_aload_n dX6_keepsOut_118 rfl ?_
              refine pr_iload dX6_keepsOut_119 rfl ?_
              refine pr_iload dX6_keepsOut_121 rfl ?_
              refine pr_iconst (v := 0) dX6_keepsOut_123 (kc_0) ?_
              obtain ⟨q11, hq11, hF⟩ := po_b hF
              refine po_i hq11 (fun hcl hq => ?_) (fun _ hq => nomatch hq)
              refine pr_V (as := [.int (x5 / 16), .int (pm_rem x5 16), .int 0]) (rest := []) dX6_keepsOut_124 cv_6_352 hcl rfl rfl rfl rfl (lb rfl) (lb rfl) (lb rfl) (ok_F_X6_quarrels hq) ?_
              refine pr_iinc (v := 1) (L' := [.ref x0, w1, .int x2, .int q10.1, .int q10.2, .int (x5 + 1), .int (x5 / 16), .int (pm_rem x5 16)]) dX6_keepsOut_127 rfl (kc_1) rfl ?_
              refine pr_goto (tgt := 28) dX6_keepsOut_130 (by decide) ?_
              exact ih hF hw1 rfl rfl hk
            clear hF
            have hF := hq10
            refine po_i hF (fun hc hF => ?_) (fun hc hF => ?_)
            · refine pr_icF (tgt := 118) dX6_keepsOut_100 (by decide) (pc_leF hc) ?_
              refine pr_iload_n dX6_keepsOut_103 rfl ?_
              refine pr_iconst (v := 1) dX6_keepsOut_104 (kc_1) ?_
              refine pr_iadd dX6_keepsOut_105 ?_
              refine pr_istore_n (L' := [.ref x0, w1, .int x2, .int (x3 + 1), .int x4, .int x5, .int (x5 / 16), .int (pm_rem x5 16)]) dX6_keepsOut_106 rfl ?_
              refine pr_iload dX6_keepsOut_107 rfl ?_
              refine pr_bipush (v := (-2)) dX6_keepsOut_109 (kb_m2) ?_
              refine po_i hF (fun hc hF => ?_) (fun hc hF => ?_)
              · refine pr_icF (tgt := 118) dX6_keepsOut_111 (by decide) (pc_neF hc) ?_
                refine pr_iload dX6_keepsOut_114 rfl ?_
                refine pr_istore (L' := [.ref x0, w1, .int x2, .int (x3 + 1), .int x5, .int x5, .int (x5 / 16), .int (pm_rem x5 16)]) dX6_keepsOut_116 rfl ?_
                cases hF
                exact J118
              · refine pr_icT (tgt := 118) dX6_keepsOut_111 (by decide) (pc_neT hc) ?_
                cases hF
                exact J118
            · refine pr_icT (tgt := 118) dX6_keepsOut_100 (by decide) (pc_leT hc) ?_
              cases hF
              exact J118
      · refine pr_icT (tgt := 127) dX6_keepsOut_54 (by decide) (pc_geT hc) ?_
        refine pr_iinc (v := 1) (L' := [.ref x0, w1, .int x2, .int x3, .int x4, .int (x5 + 1), .int (x5 / 16), .int (pm_rem x5 16)]) dX6_keepsOut_127 rfl (kc_1) rfl ?_
        refine pr_goto (tgt := 28) dX6_keepsOut_130 (by decide) ?_
        exact ih hF hw1 rfl rfl hk
    · refine pr_icT (tgt := 133) dX6_keepsOut_33 (by decide) (pc_geT hc) ?_
      cases hF
      exact hk _ rfl _ hw6 _ hw7
def F_X6_keepsOut (n : Nat) (h : pm_H) (a0 : Nat) (x1 : Int32) : Option (Int32 × pm_H) :=
  (F_X6_in x1 0 1).bind fun q1 =>
  if q1 = 0 then
    some ((-1), h)
  else
    (if pm_cl_ h a0 = some 5 then F_X6_mustStay n h a0 else none).bind fun q2 =>
    (F_X6_bits n q2).bind fun q3 =>
    (L_X6_keepsOut_28 n a0 q3 0 (-2) 0 h).bind fun q12 =>
    if x1 = 0 then
      some (q12.1, q12.2.2)
    else
      some (q12.2.1, q12.2.2)
theorem ok_F_X6_keepsOut {d n : Nat} {h : pm_H} {a0 : Nat} {x1 : Int32} {q : Int32 × pm_H} (hF : F_X6_keepsOut n h a0 x1 = some q) : pm_E (d + 3) 6 cX6_keepsOut (some .int) 0 [.ref a0, .int x1, pm_D, pm_D, pm_D, pm_D, pm_D, pm_D] [] h (some (.int q.1), q.2) := by
  unfold F_X6_keepsOut at hF
  refine pr_iload_n dX6_keepsOut_0 rfl ?_
  refine pr_iconst (v := 0) dX6_keepsOut_1 (kc_0) ?_
  refine pr_iconst (v := 1) dX6_keepsOut_2 (kc_1) ?_
  obtain ⟨q1, hq1, hF⟩ := po_b hF
  refine pr_S dX6_keepsOut_3 cs_6_104 (as := [.int x1, .int 0, .int 1]) (rest := []) rfl rfl rfl (lb rfl) (lb rfl) (lb rfl) (ok_F_X6_in hq1) ?_
  refine po_i hF (fun hc hF => ?_) (fun hc hF => ?_)
  · refine pr_ifF (tgt := 11) dX6_keepsOut_6 (by decide) (pc_neF hc) ?_
    refine pr_iconst (v := (-1)) dX6_keepsOut_9 (kc_m1) ?_
    cases hF
    exact pr_iret dX6_keepsOut_10 rfl rfl rfl
  · refine pr_ifT (tgt := 11) dX6_keepsOut_6 (by decide) (pc_neT hc) ?_
    refine pr_aload_n dX6_keepsOut_11 rfl ?_
    obtain ⟨q2, hq2, hF⟩ := po_b hF
    refine po_i hq2 (fun hcl hq => ?_) (fun _ hq => nomatch hq)
    refine pr_V (as := []) (rest := []) dX6_keepsOut_12 cv_6_340 hcl rfl rfl rfl rfl (lb rfl) (lb rfl) (lb rfl) (ok_F_X6_mustStay hq) ?_
    obtain ⟨q3, hq3, hF⟩ := po_b hF
    refine pr_S dX6_keepsOut_15 cs_6_276 (as := [.int q2]) (rest := []) rfl rfl rfl (lb rfl) (lb rfl) (lb rfl) (ok_F_X6_bits hq3) ?_
    refine pr_istore_n (L' := [.ref a0, .int x1, .int q3, pm_D, pm_D, pm_D, pm_D, pm_D]) dX6_keepsOut_18 rfl ?_
    refine pr_iconst (v := 0) dX6_keepsOut_19 (kc_0) ?_
    refine pr_istore_n (L' := [.ref a0, .int x1, .int q3, .int 0, pm_D, pm_D, pm_D, pm_D]) dX6_keepsOut_20 rfl ?_
    refine pr_bipush (v := (-2)) dX6_keepsOut_21 (kb_m2) ?_
    refine pr_istore (L' := [.ref a0, .int x1, .int q3, .int 0, .int (-2), pm_D, pm_D, pm_D]) dX6_keepsOut_23 rfl ?_
    refine pr_iconst (v := 0) dX6_keepsOut_25 (kc_0) ?_
    refine pr_istore (L' := [.ref a0, .int x1, .int q3, .int 0, .int (-2), .int 0, pm_D, pm_D]) dX6_keepsOut_26 rfl ?_
    obtain ⟨q12, hq12, hF⟩ := po_b hF
    refine ok_L_X6_keepsOut_28 n hq12 rfl rfl rfl (fun z5 hz5 z6 hz6 z7 hz7 => ?_)
    refine pr_iload_n dX6_keepsOut_133 rfl ?_
    refine po_i hF (fun hc hF => ?_) (fun hc hF => ?_)
    · refine pr_ifF (tgt := 141) dX6_keepsOut_134 (by decide) (pc_neF hc) ?_
      refine pr_iload_n dX6_keepsOut_137 rfl ?_
      refine pr_goto (tgt := 143) dX6_keepsOut_138 (by decide) ?_
      cases hF
      exact pr_iret dX6_keepsOut_143 rfl rfl rfl
    · refine pr_ifT (tgt := 141) dX6_keepsOut_134 (by decide) (pc_neT hc) ?_
      refine pr_iload dX6_keepsOut_141 rfl ?_
      cases hF
      exact pr_iret dX6_keepsOut_143 rfl rfl rfl

def L_X6_chain_57 : Nat → Nat → Int32 → Int32 → Int32 → pm_H → Option (Int32)
  | 0, _, _, _, _, _ => none
  | n + 1, x0, x3, x4, x6, h =>
    if x6 < 16 then
      (F_X6_has x4 x6).bind fun q4 =>
      if q4 = 0 then
        L_X6_chain_57 n x0 x3 x4 (x6 + 1) h
      else
        (if pm_cl_ h x0 = some 5 then F_X6_friendsOf h x0 x6 else none).bind fun q5 =>
        L_X6_chain_57 n x0 (x3 ||| q5) x4 (x6 + 1) h
    else
      some x3
theorem ok_L_X6_chain_57 {d : Nat} : ∀ (n : Nat) {x0 : Nat} {x3 : Int32} {x4 : Int32} {x6 : Int32} {w1 w2 w5 : Value} {h : pm_H} {q : Int32} {res : Option Value × pm_H}, L_X6_chain_57 n x0 x3 x4 x6 h = some q → pm_nolong w1 = true → pm_nolong w2 = true → pm_nolong w5 = true → (∀ z6 : Value, pm_nolong z6 = true → pm_E (d + 2) 6 cX6_chain (some .int) 89 [.ref x0, w1, w2, .int q, .int x4, w5, z6] [] h res) → pm_E (d + 2) 6 cX6_chain (some .int) 57 [.ref x0, w1, w2, .int x3, .int x4, w5, .int x6] [] h res := by
  intro n
  induction n with
  | zero =>
    intro x0 x3 x4 x6 w1 w2 w5 h q res hF hw1 hw2 hw5 hk
    rw [L_X6_chain_57] at hF
    cases hF
  | succ n ih =>
    intro x0 x3 x4 x6 w1 w2 w5 h q res hF hw1 hw2 hw5 hk
    rw [L_X6_chain_57] at hF
    refine pr_iload dX6_chain_57 rfl ?_
    refine pr_bipush (v := 16) dX6_chain_59 (kb_16) ?_
    refine po_i hF (fun hc hF => ?_) (fun hc hF => ?_)
    · refine pr_icF (tgt := 89) dX6_chain_61 (by decide) (pc_geF hc) ?_
      refine pr_iload dX6_chain_64 rfl ?_
      refine pr_iload dX6_chain_66 rfl ?_
      obtain ⟨q4, hq4, hF⟩ := po_b hF
      refine pr_S dX6_chain_68 cs_6_100 (as := [.int x4, .int x6]) (rest := []) rfl rfl rfl (lb rfl) (lb rfl) (lb rfl) (ok_F_X6_has hq4) ?_
      refine po_i hF (fun hc hF => ?_) (fun hc hF => ?_)
      · refine pr_ifT (tgt := 83) dX6_chain_71 (by decide) (pc_eqT hc) ?_
        refine pr_iinc (v := 1) (L' := [.ref x0, w1, w2, .int x3, .int x4, w5, .int (x6 + 1)]) dX6_chain_83 rfl (kc_1) (pm_st_w (i := 5) rfl rfl hw5 rfl) ?_
        refine pr_goto (tgt := 57) dX6_chain_86 (by decide) ?_
        exact ih hF hw1 hw2 hw5 hk
      · refine pr_ifF (tgt := 83) dX6_chain_71 (by decide) (pc_eqF hc) ?_
        refine pr_iload_n dX6_chain_74 rfl ?_
        refine pr_aload_n dX6_chain_75 rfl ?_
        refine pr_iload dX6_chain_76 rfl ?_
        obtain ⟨q5, hq5, hF⟩ := po_b hF
        refine po_i hq5 (fun hcl hq => ?_) (fun _ hq => nomatch hq)
        refine pr_V (as := [.int x6]) (rest := [.int x3]) dX6_chain_78 cv_6_291 hcl rfl rfl rfl rfl (lb rfl) (lb rfl) (lb rfl) (ok_F_X6_friendsOf hq) ?_
        refine pr_ior dX6_chain_81 ?_
        refine pr_istore_n (L' := [.ref x0, w1, w2, .int (x3 ||| q5), .int x4, w5, .int x6]) dX6_chain_82 (pm_st_w (i := 2) rfl rfl hw2 rfl) ?_
        refine pr_iinc (v := 1) (L' := [.ref x0, w1, w2, .int (x3 ||| q5), .int x4, w5, .int (x6 + 1)]) dX6_chain_83 rfl (kc_1) (pm_st_w (i := 5) rfl rfl hw5 rfl) ?_
        refine pr_goto (tgt := 57) dX6_chain_86 (by decide) ?_
        exact ih hF hw1 hw2 hw5 hk
    · refine pr_icT (tgt := 89) dX6_chain_61 (by decide) (pc_geT hc) ?_
      cases hF
      exact hk _ rfl
def L_X6_chain_28 : Nat → Nat → Int32 → Int32 → Int32 → Int32 → pm_H → Option ((Int32) ⊕ (Int32))
  | 0, _, _, _, _, _, _ => none
  | n + 1, x0, x2, x3, x4, x5, h =>
    (F_X6_has x3 x2).bind fun q3 =>
    if q3 = 0 then
      if x3 = x4 then
        some (.inl (-2))
      else
        (L_X6_chain_57 n x0 x3 x3 0 h).bind fun q6 =>
        L_X6_chain_28 n x0 x2 q6 x3 (x5 + 1) h
    else
      some (.inr x5)
theorem ok_L_X6_chain_28 {d : Nat} : ∀ (n : Nat) {x0 : Nat} {x2 : Int32} {x3 : Int32} {x4 : Int32} {x5 : Int32} {w1 w6 : Value} {h : pm_H} {q : (Int32) ⊕ (Int32)} {res : Option Value × pm_H}, L_X6_chain_28 n x0 x2 x3 x4 x5 h = some q → pm_nolong w1 = true → pm_nolong w6 = true → (∀ r, q = .inl r → res = (some (.int r), h)) → (∀ e, q = .inr e → ∀ z3 : Value, pm_nolong z3 = true → ∀ z4 : Value, pm_nolong z4 = true → ∀ z6 : Value, pm_nolong z6 = true → pm_E (d + 2) 6 cX6_chain (some .int) 92 [.ref x0, w1, .int x2, z3, z4, .int e, z6] [] h res) → pm_E (d + 2) 6 cX6_chain (some .int) 28 [.ref x0, w1, .int x2, .int x3, .int x4, .int x5, w6] [] h res := by
  intro n
  induction n with
  | zero =>
    intro x0 x2 x3 x4 x5 w1 w6 h q res hF hw1 hw6 hr hk
    rw [L_X6_chain_28] at hF
    cases hF
  | succ n ih =>
    intro x0 x2 x3 x4 x5 w1 w6 h q res hF hw1 hw6 hr hk
    rw [L_X6_chain_28] at hF
    refine pr_iload_n dX6_chain_28 rfl ?_
    refine pr_iload_n dX6_chain_29 rfl ?_
    obtain ⟨q3, hq3, hF⟩ := po_b hF
    refine pr_S dX6_chain_30 cs_6_100 (as := [.int x3, .int x2]) (rest := []) rfl rfl rfl (lb rfl) (lb rfl) (lb rfl) (ok_F_X6_has hq3) ?_
    refine po_i hF (fun hc hF => ?_) (fun hc hF => ?_)
    · refine pr_ifF (tgt := 92) dX6_chain_33 (by decide) (pc_neF hc) ?_
      refine pr_iload_n dX6_chain_36 rfl ?_
      refine pr_iload dX6_chain_37 rfl ?_
      refine po_i hF (fun hc hF => ?_) (fun hc hF => ?_)
      · refine pr_icF (tgt := 45) dX6_chain_39 (by decide) (pc_neF hc) ?_
        refine pr_bipush (v := (-2)) dX6_chain_42 (kb_m2) ?_
        cases hF
        exact pr_iret dX6_chain_44 rfl rfl (hr _ rfl)
      · refine pr_icT (tgt := 45) dX6_chain_39 (by decide) (pc_neT hc) ?_
        refine pr_iload_n dX6_chain_45 rfl ?_
        refine pr_istore (L' := [.ref x0, w1, .int x2, .int x3, .int x3, .int x5, w6]) dX6_chain_46 rfl ?_
        refine pr_iload dX6_chain_48 rfl ?_
        refine pr_iconst (v := 1) dX6_chain_50 (kc_1) ?_
        refine pr_iadd dX6_chain_51 ?_
        refine pr_istore (L' := [.ref x0, w1, .int x2, .int x3, .int x3, .int (x5 + 1), w6]) dX6_chain_52 rfl ?_
        refine pr_iconst (v := 0) dX6_chain_54 (kc_0) ?_
        refine pr_istore (L' := [.ref x0, w1, .int x2, .int x3, .int x3, .int (x5 + 1), .int 0]) dX6_chain_55 rfl ?_
        obtain ⟨q6, hq6, hF⟩ := po_b hF
        refine ok_L_X6_chain_57 n hq6 hw1 rfl rfl (fun z6 hz6 => ?_)
        refine pr_goto (tgt := 28) dX6_chain_89 (by decide) ?_
        exact ih hF hw1 hz6 hr hk
    · refine pr_ifT (tgt := 92) dX6_chain_33 (by decide) (pc_neT hc) ?_
      cases hF
      exact hk _ rfl _ rfl _ rfl _ hw6
def F_X6_chain (n : Nat) (h : pm_H) (a0 : Nat) (x1 : Int32) (x2 : Int32) : Option (Int32) :=
  (if pm_cl_ h a0 = some 5 then F_X6_isTold h a0 x1 else none).bind fun q1 =>
  if q1 = 0 then
    some (-1)
  else
    (if pm_cl_ h a0 = some 5 then F_X6_isTold h a0 x2 else none).bind fun q2 =>
    if q2 = 0 then
      some (-1)
    else
      (L_X6_chain_28 n a0 x2 (pm_shl 1 x1) 0 0 h).bind fun q7 => po_s q7 (fun r => some r) fun e8 =>
      some e8
theorem ok_F_X6_chain {d n : Nat} {h : pm_H} {a0 : Nat} {x1 : Int32} {x2 : Int32} {q : Int32} (hF : F_X6_chain n h a0 x1 x2 = some q) : pm_E (d + 2) 6 cX6_chain (some .int) 0 [.ref a0, .int x1, .int x2, pm_D, pm_D, pm_D, pm_D] [] h (some (.int q), h) := by
  unfold F_X6_chain at hF
  refine pr_aload_n dX6_chain_0 rfl ?_
  refine pr_iload_n dX6_chain_1 rfl ?_
  obtain ⟨q1, hq1, hF⟩ := po_b hF
  refine po_i hq1 (fun hcl hq => ?_) (fun _ hq => nomatch hq)
  refine pr_V (as := [.int x1]) (rest := []) dX6_chain_2 cv_6_233 hcl rfl rfl rfl rfl (lb rfl) (lb rfl) (lb rfl) (ok_F_X6_isTold hq) ?_
  refine po_i hF (fun hc hF => ?_) (fun hc hF => ?_)
  · refine pr_ifT (tgt := 16) dX6_chain_5 (by decide) (pc_eqT hc) ?_
    refine pr_iconst (v := (-1)) dX6_chain_16 (kc_m1) ?_
    cases hF
    exact pr_iret dX6_chain_17 rfl rfl rfl
  · refine pr_ifF (tgt := 16) dX6_chain_5 (by decide) (pc_eqF hc) ?_
    refine pr_aload_n dX6_chain_8 rfl ?_
    refine pr_iload_n dX6_chain_9 rfl ?_
    obtain ⟨q2, hq2, hF⟩ := po_b hF
    refine po_i hq2 (fun hcl hq => ?_) (fun _ hq => nomatch hq)
    refine pr_V (as := [.int x2]) (rest := []) dX6_chain_10 cv_6_233 hcl rfl rfl rfl rfl (lb rfl) (lb rfl) (lb rfl) (ok_F_X6_isTold hq) ?_
    refine po_i hF (fun hc hF => ?_) (fun hc hF => ?_)
    · refine pr_ifF (tgt := 18) dX6_chain_13 (by decide) (pc_neF hc) ?_
      refine pr_iconst (v := (-1)) dX6_chain_16 (kc_m1) ?_
      cases hF
      exact pr_iret dX6_chain_17 rfl rfl rfl
    · refine pr_ifT (tgt := 18) dX6_chain_13 (by decide) (pc_neT hc) ?_
      refine pr_iconst (v := 1) dX6_chain_18 (kc_1) ?_
      refine pr_iload_n dX6_chain_19 rfl ?_
      refine pr_ishl dX6_chain_20 ?_
      refine pr_istore_n (L' := [.ref a0, .int x1, .int x2, .int (pm_shl 1 x1), pm_D, pm_D, pm_D]) dX6_chain_21 rfl ?_
      refine pr_iconst (v := 0) dX6_chain_22 (kc_0) ?_
      refine pr_istore (L' := [.ref a0, .int x1, .int x2, .int (pm_shl 1 x1), .int 0, pm_D, pm_D]) dX6_chain_23 rfl ?_
      refine pr_iconst (v := 0) dX6_chain_25 (kc_0) ?_
      refine pr_istore (L' := [.ref a0, .int x1, .int x2, .int (pm_shl 1 x1), .int 0, .int 0, pm_D]) dX6_chain_26 rfl ?_
      obtain ⟨q7, hq7, hF⟩ := po_b hF
      refine ok_L_X6_chain_28 n hq7 rfl rfl (fun r hq => ?_) (fun e8 hq z3 hz3 z4 hz4 z6 hz6 => ?_)
      · subst hq
        replace hF := po_sl hF
        cases hF
        exact rfl
      subst hq
      replace hF := po_sr hF
      refine pr_iload dX6_chain_92 rfl ?_
      cases hF
      exact pr_iret dX6_chain_94 rfl rfl rfl

def L_X6_isParty_15 : Nat → Nat → Int32 → Int32 → pm_H → Option ((Int32) ⊕ (Unit))
  | 0, _, _, _, _ => none
  | n + 1, x0, x1, x2, h =>
    if x2 < 16 then
      (F_X6_has x1 x2).bind fun q2 =>
      if q2 = 0 then
        L_X6_isParty_15 n x0 x1 (x2 + 1) h
      else
        (pm_fR [(5, 4)] h x0).bind fun v3 =>
        (pm_ai 0 h v3 x2).bind fun v4 =>
        if (v4 &&& x1) = 0 then
          L_X6_isParty_15 n x0 x1 (x2 + 1) h
        else
          some (.inl 0)
    else
      some (.inr ())
theorem ok_L_X6_isParty_15 {d : Nat} : ∀ (n : Nat) {x0 : Nat} {x1 : Int32} {x2 : Int32} {h : pm_H} {q : (Int32) ⊕ (Unit)} {res : Option Value × pm_H}, L_X6_isParty_15 n x0 x1 x2 h = some q → (∀ r, q = .inl r → res = (some (.int r), h)) → (∀ e, q = .inr e → ∀ z2 : Value, pm_nolong z2 = true → pm_E (d + 1) 6 cX6_isParty (some .boolean) 48 [.ref x0, .int x1, z2] [] h res) → pm_E (d + 1) 6 cX6_isParty (some .boolean) 15 [.ref x0, .int x1, .int x2] [] h res := by
  intro n
  induction n with
  | zero =>
    intro x0 x1 x2 h q res hF hr hk
    rw [L_X6_isParty_15] at hF
    cases hF
  | succ n ih =>
    intro x0 x1 x2 h q res hF hr hk
    rw [L_X6_isParty_15] at hF
    refine pr_iload_n dX6_isParty_15 rfl ?_
    refine pr_bipush (v := 16) dX6_isParty_16 (kb_16) ?_
    refine po_i hF (fun hc hF => ?_) (fun hc hF => ?_)
    · refine pr_icF (tgt := 48) dX6_isParty_18 (by decide) (pc_geF hc) ?_
      refine pr_iload_n dX6_isParty_21 rfl ?_
      refine pr_iload_n dX6_isParty_22 rfl ?_
      obtain ⟨q2, hq2, hF⟩ := po_b hF
      refine pr_S dX6_isParty_23 cs_6_100 (as := [.int x1, .int x2]) (rest := []) rfl rfl rfl (lb rfl) (lb rfl) (lb rfl) (ok_F_X6_has hq2) ?_
      refine po_i hF (fun hc hF => ?_) (fun hc hF => ?_)
      · refine pr_ifT (tgt := 42) dX6_isParty_26 (by decide) (pc_eqT hc) ?_
        refine pr_iinc (v := 1) (L' := [.ref x0, .int x1, .int (x2 + 1)]) dX6_isParty_42 rfl (kc_1) rfl ?_
        refine pr_goto (tgt := 15) dX6_isParty_45 (by decide) ?_
        exact ih hF hr hk
      · refine pr_ifF (tgt := 42) dX6_isParty_26 (by decide) (pc_eqF hc) ?_
        refine pr_aload_n dX6_isParty_29 rfl ?_
        obtain ⟨v3, hv3, hF⟩ := po_b hF
        refine pr_getR dX6_isParty_30 tf_6_22 (hv3) ?_
        refine pr_iload_n dX6_isParty_33 rfl ?_
        obtain ⟨v4, hv4, hF⟩ := po_b hF
        refine pr_iald dX6_isParty_34 (hv4) ?_
        refine pr_iload_n dX6_isParty_35 rfl ?_
        refine pr_iand dX6_isParty_36 ?_
        refine po_i hF (fun hc hF => ?_) (fun hc hF => ?_)
        · refine pr_ifT (tgt := 42) dX6_isParty_37 (by decide) (pc_eqT hc) ?_
          refine pr_iinc (v := 1) (L' := [.ref x0, .int x1, .int (x2 + 1)]) dX6_isParty_42 rfl (kc_1) rfl ?_
          refine pr_goto (tgt := 15) dX6_isParty_45 (by decide) ?_
          exact ih hF hr hk
        · refine pr_ifF (tgt := 42) dX6_isParty_37 (by decide) (pc_eqF hc) ?_
          refine pr_iconst (v := 0) dX6_isParty_40 (kc_0) ?_
          cases hF
          exact pr_iret dX6_isParty_41 rfl nb_0 (hr _ rfl)
    · refine pr_icT (tgt := 48) dX6_isParty_18 (by decide) (pc_geT hc) ?_
      cases hF
      exact hk _ rfl _ rfl
def F_X6_isParty (n : Nat) (h : pm_H) (a0 : Nat) (x1 : Int32) : Option (Int32) :=
  (pm_fI [(5, 7)] h a0).bind fun v1 =>
  if (x1 &&& (v1 ^^^ (-1))) = 0 then
    (L_X6_isParty_15 n a0 x1 0 h).bind fun q5 => po_s q5 (fun r => some r) fun e6 =>
    some 1
  else
    some 0
theorem ok_F_X6_isParty {d n : Nat} {h : pm_H} {a0 : Nat} {x1 : Int32} {q : Int32} (hF : F_X6_isParty n h a0 x1 = some q) : pm_E (d + 1) 6 cX6_isParty (some .boolean) 0 [.ref a0, .int x1, pm_D] [] h (some (.int q), h) := by
  unfold F_X6_isParty at hF
  refine pr_iload_n dX6_isParty_0 rfl ?_
  refine pr_aload_n dX6_isParty_1 rfl ?_
  obtain ⟨v1, hv1, hF⟩ := po_b hF
  refine pr_getI dX6_isParty_2 tf_6_108 (hv1) ?_
  refine pr_iconst (v := (-1)) dX6_isParty_5 (kc_m1) ?_
  refine pr_ixor dX6_isParty_6 ?_
  refine pr_iand dX6_isParty_7 ?_
  refine po_i hF (fun hc hF => ?_) (fun hc hF => ?_)
  · refine pr_ifT (tgt := 13) dX6_isParty_8 (by decide) (pc_eqT hc) ?_
    refine pr_iconst (v := 0) dX6_isParty_13 (kc_0) ?_
    refine pr_istore_n (L' := [.ref a0, .int x1, .int 0]) dX6_isParty_14 rfl ?_
    obtain ⟨q5, hq5, hF⟩ := po_b hF
    refine ok_L_X6_isParty_15 n hq5 (fun r hq => ?_) (fun e6 hq z2 hz2 => ?_)
    · subst hq
      replace hF := po_sl hF
      cases hF
      exact rfl
    subst hq
    replace hF := po_sr hF
    refine pr_iconst (v := 1) dX6_isParty_48 (kc_1) ?_
    cases hF
    exact pr_iret dX6_isParty_49 rfl nb_1 rfl
  · refine pr_ifF (tgt := 13) dX6_isParty_8 (by decide) (pc_eqF hc) ?_
    refine pr_iconst (v := 0) dX6_isParty_11 (kc_0) ?_
    cases hF
    exact pr_iret dX6_isParty_12 rfl nb_0 rfl

def L_X6_party_15 : Nat → Nat → Int32 → Int32 → pm_H → Option (Int32)
  | 0, _, _, _, _ => none
  | n + 1, x0, x2, x3, h =>
    if x3 < 65536 then
      (F_X6_bits n x3).bind fun q2 =>
      (F_X6_bits n x2).bind fun q3 =>
      if q3 < q2 then
        (if pm_cl_ h x0 = some 5 then F_X6_isParty n h x0 x3 else none).bind fun q4 =>
        if q4 = 0 then
          L_X6_party_15 n x0 x2 (x3 + 1) h
        else
          L_X6_party_15 n x0 x3 (x3 + 1) h
      else
        L_X6_party_15 n x0 x2 (x3 + 1) h
    else
      some x2
theorem ok_L_X6_party_15 {d : Nat} : ∀ (n : Nat) {x0 : Nat} {x2 : Int32} {x3 : Int32} {w1 : Value} {h : pm_H} {q : Int32} {res : Option Value × pm_H}, L_X6_party_15 n x0 x2 x3 h = some q → pm_nolong w1 = true → (∀ z3 : Value, pm_nolong z3 = true → pm_E (d + 2) 6 cX6_party (some .int) 48 [.ref x0, w1, .int q, z3] [] h res) → pm_E (d + 2) 6 cX6_party (some .int) 15 [.ref x0, w1, .int x2, .int x3] [] h res := by
  intro n
  induction n with
  | zero =>
    intro x0 x2 x3 w1 h q res hF hw1 hk
    rw [L_X6_party_15] at hF
    cases hF
  | succ n ih =>
    intro x0 x2 x3 w1 h q res hF hw1 hk
    rw [L_X6_party_15] at hF
    refine pr_iload_n dX6_party_15 rfl ?_
    refine pr_ldc (v := 65536) dX6_party_16 rfl ?_
    refine po_i hF (fun hc hF => ?_) (fun hc hF => ?_)
    · refine pr_icF (tgt := 48) dX6_party_18 (by decide) (pc_geF hc) ?_
      refine pr_iload_n dX6_party_21 rfl ?_
      obtain ⟨q2, hq2, hF⟩ := po_b hF
      refine pr_S dX6_party_22 cs_6_276 (as := [.int x3]) (rest := []) rfl rfl rfl (lb rfl) (lb rfl) (lb rfl) (ok_F_X6_bits hq2) ?_
      refine pr_iload_n dX6_party_25 rfl ?_
      obtain ⟨q3, hq3, hF⟩ := po_b hF
      refine pr_S dX6_party_26 cs_6_276 (as := [.int x2]) (rest := [.int q2]) rfl rfl rfl (lb rfl) (lb rfl) (lb rfl) (ok_F_X6_bits hq3) ?_
      refine po_i hF (fun hc hF => ?_) (fun hc hF => ?_)
      · refine pr_icF (tgt := 42) dX6_party_29 (by decide) (pc_leF hc) ?_
        refine pr_aload_n dX6_party_32 rfl ?_
        refine pr_iload_n dX6_party_33 rfl ?_
        obtain ⟨q4, hq4, hF⟩ := po_b hF
        refine po_i hq4 (fun hcl hq => ?_) (fun _ hq => nomatch hq)
        refine pr_V (as := [.int x3]) (rest := []) dX6_party_34 cv_6_356 hcl rfl rfl rfl rfl (lb rfl) (lb rfl) (lb rfl) (ok_F_X6_isParty hq) ?_
        refine po_i hF (fun hc hF => ?_) (fun hc hF => ?_)
        · refine pr_ifT (tgt := 42) dX6_party_37 (by decide) (pc_eqT hc) ?_
          refine pr_iinc (v := 1) (L' := [.ref x0, w1, .int x2, .int (x3 + 1)]) dX6_party_42 rfl (kc_1) rfl ?_
          refine pr_goto (tgt := 15) dX6_party_45 (by decide) ?_
          exact ih hF hw1 hk
        · refine pr_ifF (tgt := 42) dX6_party_37 (by decide) (pc_eqF hc) ?_
          refine pr_iload_n dX6_party_40 rfl ?_
          refine pr_istore_n (L' := [.ref x0, w1, .int x3, .int x3]) dX6_party_41 (pm_st_w (i := 1) rfl rfl hw1 rfl) ?_
          refine pr_iinc (v := 1) (L' := [.ref x0, w1, .int x3, .int (x3 + 1)]) dX6_party_42 rfl (kc_1) rfl ?_
          refine pr_goto (tgt := 15) dX6_party_45 (by decide) ?_
          exact ih hF hw1 hk
      · refine pr_icT (tgt := 42) dX6_party_29 (by decide) (pc_leT hc) ?_
        refine pr_iinc (v := 1) (L' := [.ref x0, w1, .int x2, .int (x3 + 1)]) dX6_party_42 rfl (kc_1) rfl ?_
        refine pr_goto (tgt := 15) dX6_party_45 (by decide) ?_
        exact ih hF hw1 hk
    · refine pr_icT (tgt := 48) dX6_party_18 (by decide) (pc_geT hc) ?_
      cases hF
      exact hk _ rfl
def F_X6_party (n : Nat) (h : pm_H) (a0 : Nat) (x1 : Int32) : Option (Int32) :=
  (F_X6_in x1 0 1).bind fun q1 =>
  if q1 = 0 then
    some (-1)
  else
    (L_X6_party_15 n a0 0 1 h).bind fun q5 =>
    if x1 = 0 then
      (F_X6_bits n q5).bind fun q6 =>
      some q6
    else
      some q5
theorem ok_F_X6_party {d n : Nat} {h : pm_H} {a0 : Nat} {x1 : Int32} {q : Int32} (hF : F_X6_party n h a0 x1 = some q) : pm_E (d + 2) 6 cX6_party (some .int) 0 [.ref a0, .int x1, pm_D, pm_D] [] h (some (.int q), h) := by
  unfold F_X6_party at hF
  refine pr_iload_n dX6_party_0 rfl ?_
  refine pr_iconst (v := 0) dX6_party_1 (kc_0) ?_
  refine pr_iconst (v := 1) dX6_party_2 (kc_1) ?_
  obtain ⟨q1, hq1, hF⟩ := po_b hF
  refine pr_S dX6_party_3 cs_6_104 (as := [.int x1, .int 0, .int 1]) (rest := []) rfl rfl rfl (lb rfl) (lb rfl) (lb rfl) (ok_F_X6_in hq1) ?_
  refine po_i hF (fun hc hF => ?_) (fun hc hF => ?_)
  · refine pr_ifF (tgt := 11) dX6_party_6 (by decide) (pc_neF hc) ?_
    refine pr_iconst (v := (-1)) dX6_party_9 (kc_m1) ?_
    cases hF
    exact pr_iret dX6_party_10 rfl rfl rfl
  · refine pr_ifT (tgt := 11) dX6_party_6 (by decide) (pc_neT hc) ?_
    refine pr_iconst (v := 0) dX6_party_11 (kc_0) ?_
    refine pr_istore_n (L' := [.ref a0, .int x1, .int 0, pm_D]) dX6_party_12 rfl ?_
    refine pr_iconst (v := 1) dX6_party_13 (kc_1) ?_
    refine pr_istore_n (L' := [.ref a0, .int x1, .int 0, .int 1]) dX6_party_14 rfl ?_
    obtain ⟨q5, hq5, hF⟩ := po_b hF
    refine ok_L_X6_party_15 n hq5 rfl (fun z3 hz3 => ?_)
    refine pr_iload_n dX6_party_48 rfl ?_
    refine po_i hF (fun hc hF => ?_) (fun hc hF => ?_)
    · refine pr_ifF (tgt := 59) dX6_party_49 (by decide) (pc_neF hc) ?_
      refine pr_iload_n dX6_party_52 rfl ?_
      obtain ⟨q6, hq6, hF⟩ := po_b hF
      refine pr_S dX6_party_53 cs_6_276 (as := [.int q5]) (rest := []) rfl rfl rfl (lb rfl) (lb rfl) (lb rfl) (ok_F_X6_bits hq6) ?_
      refine pr_goto (tgt := 60) dX6_party_56 (by decide) ?_
      cases hF
      exact pr_iret dX6_party_60 rfl rfl rfl
    · refine pr_ifT (tgt := 59) dX6_party_49 (by decide) (pc_neT hc) ?_
      refine pr_iload_n dX6_party_59 rfl ?_
      cases hF
      exact pr_iret dX6_party_60 rfl rfl rfl

def L_X6_twoStreets_58 : Nat → Nat → Int32 → Int32 → Int32 → pm_H → Option (Int32 × Int32)
  | 0, _, _, _, _, _ => none
  | n + 1, x0, x1, x2, x5, h =>
    if x5 < 16 then
      (F_X6_has x1 x5).bind fun q3 =>
      ((
        if q3 = 0 then
          some x2
        else
          (pm_fR [(5, 4)] h x0).bind fun v4 =>
          (pm_ai 0 h v4 x5).bind fun v5 =>
          some (x2 ||| v5)
      ) : Option (Int32)).bind fun q6 =>
      (F_X6_has q6 x5).bind fun q7 =>
      if q7 = 0 then
        L_X6_twoStreets_58 n x0 x1 q6 (x5 + 1) h
      else
        (pm_fR [(5, 4)] h x0).bind fun v8 =>
        (pm_ai 0 h v8 x5).bind fun v9 =>
        L_X6_twoStreets_58 n x0 (x1 ||| v9) q6 (x5 + 1) h
    else
      some (x1, x2)
theorem ok_L_X6_twoStreets_58 {d : Nat} : ∀ (n : Nat) {x0 : Nat} {x1 : Int32} {x2 : Int32} {x5 : Int32} {w3 w4 : Value} {h : pm_H} {q : Int32 × Int32} {res : Option Value × pm_H}, L_X6_twoStreets_58 n x0 x1 x2 x5 h = some q → pm_nolong w3 = true → pm_nolong w4 = true → (∀ z5 : Value, pm_nolong z5 = true → pm_E (d + 2) 6 cX6_twoStreets (some .int) 109 [.ref x0, .int q.1, .int q.2, w3, w4, z5] [] h res) → pm_E (d + 2) 6 cX6_twoStreets (some .int) 58 [.ref x0, .int x1, .int x2, w3, w4, .int x5] [] h res := by
  intro n
  induction n with
  | zero =>
    intro x0 x1 x2 x5 w3 w4 h q res hF hw3 hw4 hk
    rw [L_X6_twoStreets_58] at hF
    cases hF
  | succ n ih =>
    intro x0 x1 x2 x5 w3 w4 h q res hF hw3 hw4 hk
    rw [L_X6_twoStreets_58] at hF
    refine pr_iload dX6_twoStreets_58 rfl ?_
    refine pr_bipush (v := 16) dX6_twoStreets_60 (kb_16) ?_
    refine po_i hF (fun hc hF => ?_) (fun hc hF => ?_)
    · refine pr_icF (tgt := 109) dX6_twoStreets_62 (by decide) (pc_geF hc) ?_
      refine pr_iload_n dX6_twoStreets_65 rfl ?_
      refine pr_iload dX6_twoStreets_66 rfl ?_
      obtain ⟨q3, hq3, hF⟩ := po_b hF
      refine pr_S dX6_twoStreets_68 cs_6_100 (as := [.int x1, .int x5]) (rest := []) rfl rfl rfl (lb rfl) (lb rfl) (lb rfl) (ok_F_X6_has hq3) ?_
      obtain ⟨q6, hq6, hF⟩ := po_b hF
      have J84 : pm_E (d + 2) 6 cX6_twoStreets (some .int) 84 [.ref x0, .int x1, .int q6, w3, w4, .int x5] [] h res := by
        refine pr_iload_n dX6_twoStreets_84 rfl ?_
        refine pr_iload dX6_twoStreets_85 rfl ?_
        obtain ⟨q7, hq7, hF⟩ := po_b hF
        refine pr_S dX6_twoStreets_87 cs_6_100 (as := [.int q6, .int x5]) (rest := []) rfl rfl rfl (lb rfl) (lb rfl) (lb rfl) (ok_F_X6_has hq7) ?_
        refine po_i hF (fun hc hF => ?_) (fun hc hF => ?_)
        · refine pr_ifT (tgt := 103) dX6_twoStreets_90 (by decide) (pc_eqT hc) ?_
          refine pr_iinc (v := 1) (L' := [.ref x0, .int x1, .int q6, w3, w4, .int (x5 + 1)]) dX6_twoStreets_103 rfl (kc_1) (pm_st_w (i := 4) rfl rfl hw4 rfl) ?_
          refine pr_goto (tgt := 58) dX6_twoStreets_106 (by decide) ?_
          exact ih hF hw3 hw4 hk
        · refine pr_ifF (tgt := 103) dX6_twoStreets_90 (by decide) (pc_eqF hc) ?_
          refine pr_iload_n dX6_twoStreets_93 rfl ?_
          refine pr_aload_n dX6_twoStreets_94 rfl ?_
          obtain ⟨v8, hv8, hF⟩ := po_b hF
          refine pr_getR dX6_twoStreets_95 tf_6_22 (hv8) ?_
          refine pr_iload dX6_twoStreets_98 rfl ?_
          obtain ⟨v9, hv9, hF⟩ := po_b hF
          refine pr_iald dX6_twoStreets_100 (hv9) ?_
          refine pr_ior dX6_twoStreets_101 ?_
          refine pr_istore_n (L' := [.ref x0, .int (x1 ||| v9), .int q6, w3, w4, .int x5]) dX6_twoStreets_102 rfl ?_
          refine pr_iinc (v := 1) (L' := [.ref x0, .int (x1 ||| v9), .int q6, w3, w4, .int (x5 + 1)]) dX6_twoStreets_103 rfl (kc_1) (pm_st_w (i := 4) rfl rfl hw4 rfl) ?_
          refine pr_goto (tgt := 58) dX6_twoStreets_106 (by decide) ?_
          exact ih hF hw3 hw4 hk
      clear hF
      have hF := hq6
      refine po_i hF (fun hc hF => ?_) (fun hc hF => ?_)
      · refine pr_ifT (tgt := 84) dX6_twoStreets_71 (by decide) (pc_eqT hc) ?_
        cases hF
        exact J84
      · refine pr_ifF (tgt := 84) dX6_twoStreets_71 (by decide) (pc_eqF hc) ?_
        refine pr_iload_n dX6_twoStreets_74 rfl ?_
        refine pr_aload_n dX6_twoStreets_75 rfl ?_
        obtain ⟨v4, hv4, hF⟩ := po_b hF
        refine pr_getR dX6_twoStreets_76 tf_6_22 (hv4) ?_
        refine pr_iload dX6_twoStreets_79 rfl ?_
        obtain ⟨v5, hv5, hF⟩ := po_b hF
        refine pr_iald dX6_twoStreets_81 (hv5) ?_
        refine pr_ior dX6_twoStreets_82 ?_
        refine pr_istore_n (L' := [.ref x0, .int x1, .int (x2 ||| v5), w3, w4, .int x5]) dX6_twoStreets_83 rfl ?_
        cases hF
        exact J84
    · refine pr_icT (tgt := 109) dX6_twoStreets_62 (by decide) (pc_geT hc) ?_
      cases hF
      exact hk _ rfl
def L_X6_twoStreets_42 : Nat → Nat → Int32 → Int32 → Int32 → pm_H → Option (Int32 × Int32)
  | 0, _, _, _, _, _ => none
  | n + 1, x0, x1, x2, x4, h =>
    if x4 = (x1 ||| x2) then
      some (x1, x2)
    else
      (L_X6_twoStreets_58 n x0 x1 x2 0 h).bind fun q10 =>
      L_X6_twoStreets_42 n x0 q10.1 q10.2 (x1 ||| x2) h
theorem ok_L_X6_twoStreets_42 {d : Nat} : ∀ (n : Nat) {x0 : Nat} {x1 : Int32} {x2 : Int32} {x4 : Int32} {w3 w5 : Value} {h : pm_H} {q : Int32 × Int32} {res : Option Value × pm_H}, L_X6_twoStreets_42 n x0 x1 x2 x4 h = some q → pm_nolong w3 = true → pm_nolong w5 = true → (∀ z4 : Value, pm_nolong z4 = true → ∀ z5 : Value, pm_nolong z5 = true → pm_E (d + 2) 6 cX6_twoStreets (some .int) 112 [.ref x0, .int q.1, .int q.2, w3, z4, z5] [] h res) → pm_E (d + 2) 6 cX6_twoStreets (some .int) 42 [.ref x0, .int x1, .int x2, w3, .int x4, w5] [] h res := by
  intro n
  induction n with
  | zero =>
    intro x0 x1 x2 x4 w3 w5 h q res hF hw3 hw5 hk
    rw [L_X6_twoStreets_42] at hF
    cases hF
  | succ n ih =>
    intro x0 x1 x2 x4 w3 w5 h q res hF hw3 hw5 hk
    rw [L_X6_twoStreets_42] at hF
    refine pr_iload dX6_twoStreets_42 rfl ?_
    refine pr_iload_n dX6_twoStreets_44 rfl ?_
    refine pr_iload_n dX6_twoStreets_45 rfl ?_
    refine pr_ior dX6_twoStreets_46 ?_
    refine po_i hF (fun hc hF => ?_) (fun hc hF => ?_)
    · refine pr_icT (tgt := 112) dX6_twoStreets_47 (by decide) (pc_eqT hc) ?_
      cases hF
      exact hk _ rfl _ hw5
    · refine pr_icF (tgt := 112) dX6_twoStreets_47 (by decide) (pc_eqF hc) ?_
      refine pr_iload_n dX6_twoStreets_50 rfl ?_
      refine pr_iload_n dX6_twoStreets_51 rfl ?_
      refine pr_ior dX6_twoStreets_52 ?_
      refine pr_istore (L' := [.ref x0, .int x1, .int x2, w3, .int (x1 ||| x2), w5]) dX6_twoStreets_53 (pm_st_w (i := 3) rfl rfl hw3 rfl) ?_
      refine pr_iconst (v := 0) dX6_twoStreets_55 (kc_0) ?_
      refine pr_istore (L' := [.ref x0, .int x1, .int x2, w3, .int (x1 ||| x2), .int 0]) dX6_twoStreets_56 rfl ?_
      obtain ⟨q10, hq10, hF⟩ := po_b hF
      refine ok_L_X6_twoStreets_58 n hq10 hw3 rfl (fun z5 hz5 => ?_)
      refine pr_goto (tgt := 42) dX6_twoStreets_109 (by decide) ?_
      exact ih hF hw3 hz5 hk
def L_X6_twoStreets_6 : Nat → Nat → Int32 → Int32 → Int32 → pm_H → Option (Int32 × Int32)
  | 0, _, _, _, _, _ => none
  | n + 1, x0, x1, x2, x3, h =>
    if x3 < 16 then
      (if pm_cl_ h x0 = some 5 then F_X6_isTold h x0 x3 else none).bind fun q1 =>
      if q1 = 0 then
        L_X6_twoStreets_6 n x0 x1 x2 (x3 + 1) h
      else
        (F_X6_has (x1 ||| x2) x3).bind fun q2 =>
        if q2 = 0 then
          (L_X6_twoStreets_42 n x0 (x1 ||| (pm_shl 1 x3)) x2 (-1) h).bind fun q11 =>
          L_X6_twoStreets_6 n x0 q11.1 q11.2 (x3 + 1) h
        else
          L_X6_twoStreets_6 n x0 x1 x2 (x3 + 1) h
    else
      some (x1, x2)
theorem ok_L_X6_twoStreets_6 {d : Nat} : ∀ (n : Nat) {x0 : Nat} {x1 : Int32} {x2 : Int32} {x3 : Int32} {w4 w5 : Value} {h : pm_H} {q : Int32 × Int32} {res : Option Value × pm_H}, L_X6_twoStreets_6 n x0 x1 x2 x3 h = some q → pm_nolong w4 = true → pm_nolong w5 = true → (∀ z3 : Value, pm_nolong z3 = true → ∀ z4 : Value, pm_nolong z4 = true → ∀ z5 : Value, pm_nolong z5 = true → pm_E (d + 2) 6 cX6_twoStreets (some .int) 118 [.ref x0, .int q.1, .int q.2, z3, z4, z5] [] h res) → pm_E (d + 2) 6 cX6_twoStreets (some .int) 6 [.ref x0, .int x1, .int x2, .int x3, w4, w5] [] h res := by
  intro n
  induction n with
  | zero =>
    intro x0 x1 x2 x3 w4 w5 h q res hF hw4 hw5 hk
    rw [L_X6_twoStreets_6] at hF
    cases hF
  | succ n ih =>
    intro x0 x1 x2 x3 w4 w5 h q res hF hw4 hw5 hk
    rw [L_X6_twoStreets_6] at hF
    refine pr_iload_n dX6_twoStreets_6 rfl ?_
    refine pr_bipush (v := 16) dX6_twoStreets_7 (kb_16) ?_
    refine po_i hF (fun hc hF => ?_) (fun hc hF => ?_)
    · refine pr_icF (tgt := 118) dX6_twoStreets_9 (by decide) (pc_geF hc) ?_
      refine pr_aload_n dX6_twoStreets_12 rfl ?_
      refine pr_iload_n dX6_twoStreets_13 rfl ?_
      obtain ⟨q1, hq1, hF⟩ := po_b hF
      refine po_i hq1 (fun hcl hq => ?_) (fun _ hq => nomatch hq)
      refine pr_V (as := [.int x3]) (rest := []) dX6_twoStreets_14 cv_6_233 hcl rfl rfl rfl rfl (lb rfl) (lb rfl) (lb rfl) (ok_F_X6_isTold hq) ?_
      refine po_i hF (fun hc hF => ?_) (fun hc hF => ?_)
      · refine pr_ifT (tgt := 112) dX6_twoStreets_17 (by decide) (pc_eqT hc) ?_
        refine pr_iinc (v := 1) (L' := [.ref x0, .int x1, .int x2, .int (x3 + 1), w4, w5]) dX6_twoStreets_112 rfl (kc_1) rfl ?_
        refine pr_goto (tgt := 6) dX6_twoStreets_115 (by decide) ?_
        exact ih hF hw4 hw5 hk
      · refine pr_ifF (tgt := 112) dX6_twoStreets_17 (by decide) (pc_eqF hc) ?_
        refine pr_iload_n dX6_twoStreets_20 rfl ?_
        refine pr_iload_n dX6_twoStreets_21 rfl ?_
        refine pr_ior dX6_twoStreets_22 ?_
        refine pr_iload_n dX6_twoStreets_23 rfl ?_
        obtain ⟨q2, hq2, hF⟩ := po_b hF
        refine pr_S dX6_twoStreets_24 cs_6_100 (as := [.int (x1 ||| x2), .int x3]) (rest := []) rfl rfl rfl (lb rfl) (lb rfl) (lb rfl) (ok_F_X6_has hq2) ?_
        refine po_i hF (fun hc hF => ?_) (fun hc hF => ?_)
        · refine pr_ifT (tgt := 33) dX6_twoStreets_27 (by decide) (pc_eqT hc) ?_
          refine pr_iload_n dX6_twoStreets_33 rfl ?_
          refine pr_iconst (v := 1) dX6_twoStreets_34 (kc_1) ?_
          refine pr_iload_n dX6_twoStreets_35 rfl ?_
          refine pr_ishl dX6_twoStreets_36 ?_
          refine pr_ior dX6_twoStreets_37 ?_
          refine pr_istore_n (L' := [.ref x0, .int (x1 ||| (pm_shl 1 x3)), .int x2, .int x3, w4, w5]) dX6_twoStreets_38 rfl ?_
          refine pr_iconst (v := (-1)) dX6_twoStreets_39 (kc_m1) ?_
          refine pr_istore (L' := [.ref x0, .int (x1 ||| (pm_shl 1 x3)), .int x2, .int x3, .int (-1), w5]) dX6_twoStreets_40 rfl ?_
          obtain ⟨q11, hq11, hF⟩ := po_b hF
          refine ok_L_X6_twoStreets_42 n hq11 rfl hw5 (fun z4 hz4 z5 hz5 => ?_)
          refine pr_iinc (v := 1) (L' := [.ref x0, .int q11.1, .int q11.2, .int (x3 + 1), z4, z5]) dX6_twoStreets_112 rfl (kc_1) rfl ?_
          refine pr_goto (tgt := 6) dX6_twoStreets_115 (by decide) ?_
          exact ih hF hz4 hz5 hk
        · refine pr_ifF (tgt := 33) dX6_twoStreets_27 (by decide) (pc_eqF hc) ?_
          refine pr_goto (tgt := 112) dX6_twoStreets_30 (by decide) ?_
          refine pr_iinc (v := 1) (L' := [.ref x0, .int x1, .int x2, .int (x3 + 1), w4, w5]) dX6_twoStreets_112 rfl (kc_1) rfl ?_
          refine pr_goto (tgt := 6) dX6_twoStreets_115 (by decide) ?_
          exact ih hF hw4 hw5 hk
    · refine pr_icT (tgt := 118) dX6_twoStreets_9 (by decide) (pc_geT hc) ?_
      cases hF
      exact hk _ rfl _ hw4 _ hw5
def F_X6_twoStreets (n : Nat) (h : pm_H) (a0 : Nat) : Option (Int32) :=
  (L_X6_twoStreets_6 n a0 0 0 0 h).bind fun q12 =>
  if (q12.1 &&& q12.2) = 0 then
    some q12.2
  else
    some (-2)
theorem ok_F_X6_twoStreets {d n : Nat} {h : pm_H} {a0 : Nat} {q : Int32} (hF : F_X6_twoStreets n h a0 = some q) : pm_E (d + 2) 6 cX6_twoStreets (some .int) 0 [.ref a0, pm_D, pm_D, pm_D, pm_D, pm_D] [] h (some (.int q), h) := by
  unfold F_X6_twoStreets at hF
  refine pr_iconst (v := 0) dX6_twoStreets_0 (kc_0) ?_
  refine pr_istore_n (L' := [.ref a0, .int 0, pm_D, pm_D, pm_D, pm_D]) dX6_twoStreets_1 rfl ?_
  refine pr_iconst (v := 0) dX6_twoStreets_2 (kc_0) ?_
  refine pr_istore_n (L' := [.ref a0, .int 0, .int 0, pm_D, pm_D, pm_D]) dX6_twoStreets_3 rfl ?_
  refine pr_iconst (v := 0) dX6_twoStreets_4 (kc_0) ?_
  refine pr_istore_n (L' := [.ref a0, .int 0, .int 0, .int 0, pm_D, pm_D]) dX6_twoStreets_5 rfl ?_
  obtain ⟨q12, hq12, hF⟩ := po_b hF
  refine ok_L_X6_twoStreets_6 n hq12 rfl rfl (fun z3 hz3 z4 hz4 z5 hz5 => ?_)
  refine pr_iload_n dX6_twoStreets_118 rfl ?_
  refine pr_iload_n dX6_twoStreets_119 rfl ?_
  refine pr_iand dX6_twoStreets_120 ?_
  refine po_i hF (fun hc hF => ?_) (fun hc hF => ?_)
  · refine pr_ifT (tgt := 129) dX6_twoStreets_121 (by decide) (pc_eqT hc) ?_
    refine pr_iload_n dX6_twoStreets_129 rfl ?_
    cases hF
    exact pr_iret dX6_twoStreets_130 rfl rfl rfl
  · refine pr_ifF (tgt := 129) dX6_twoStreets_121 (by decide) (pc_eqF hc) ?_
    refine pr_bipush (v := (-2)) dX6_twoStreets_124 (kb_m2) ?_
    refine pr_goto (tgt := 130) dX6_twoStreets_126 (by decide) ?_
    cases hF
    exact pr_iret dX6_twoStreets_130 rfl rfl rfl

def L_X6_usedAhead_4 : Nat → Nat → Int32 → Int32 → Int32 → pm_H → Option (Int32)
  | 0, _, _, _, _, _ => none
  | n + 1, x0, x1, x2, x3, h =>
    if x3 < x1 then
      (if pm_cl_ h x0 = some 5 then F_X6_isTold h x0 x3 else none).bind fun q1 =>
      if q1 = 0 then
        L_X6_usedAhead_4 n x0 x1 x2 (x3 + 1) h
      else
        (pm_fR [(5, 46)] h x0).bind fun v2 =>
        (pm_ai 0 h v2 x3).bind fun v3 =>
        if v3 < x2 then
          L_X6_usedAhead_4 n x0 x1 x2 (x3 + 1) h
        else
          (pm_fR [(5, 46)] h x0).bind fun v4 =>
          (pm_ai 0 h v4 x3).bind fun v5 =>
          L_X6_usedAhead_4 n x0 x1 (v5 + 1) (x3 + 1) h
    else
      some x2
theorem ok_L_X6_usedAhead_4 {d : Nat} : ∀ (n : Nat) {x0 : Nat} {x1 : Int32} {x2 : Int32} {x3 : Int32} {h : pm_H} {q : Int32} {res : Option Value × pm_H}, L_X6_usedAhead_4 n x0 x1 x2 x3 h = some q → (∀ z3 : Value, pm_nolong z3 = true → pm_E (d + 2) 6 cX6_usedAhead (some .int) 42 [.ref x0, .int x1, .int q, z3] [] h res) → pm_E (d + 2) 6 cX6_usedAhead (some .int) 4 [.ref x0, .int x1, .int x2, .int x3] [] h res := by
  intro n
  induction n with
  | zero =>
    intro x0 x1 x2 x3 h q res hF hk
    rw [L_X6_usedAhead_4] at hF
    cases hF
  | succ n ih =>
    intro x0 x1 x2 x3 h q res hF hk
    rw [L_X6_usedAhead_4] at hF
    refine pr_iload_n dX6_usedAhead_4 rfl ?_
    refine pr_iload_n dX6_usedAhead_5 rfl ?_
    refine po_i hF (fun hc hF => ?_) (fun hc hF => ?_)
    · refine pr_icF (tgt := 42) dX6_usedAhead_6 (by decide) (pc_geF hc) ?_
      refine pr_aload_n dX6_usedAhead_9 rfl ?_
      refine pr_iload_n dX6_usedAhead_10 rfl ?_
      obtain ⟨q1, hq1, hF⟩ := po_b hF
      refine po_i hq1 (fun hcl hq => ?_) (fun _ hq => nomatch hq)
      refine pr_V (as := [.int x3]) (rest := []) dX6_usedAhead_11 cv_6_233 hcl rfl rfl rfl rfl (lb rfl) (lb rfl) (lb rfl) (ok_F_X6_isTold hq) ?_
      refine po_i hF (fun hc hF => ?_) (fun hc hF => ?_)
      · refine pr_ifT (tgt := 36) dX6_usedAhead_14 (by decide) (pc_eqT hc) ?_
        refine pr_iinc (v := 1) (L' := [.ref x0, .int x1, .int x2, .int (x3 + 1)]) dX6_usedAhead_36 rfl (kc_1) rfl ?_
        refine pr_goto (tgt := 4) dX6_usedAhead_39 (by decide) ?_
        exact ih hF hk
      · refine pr_ifF (tgt := 36) dX6_usedAhead_14 (by decide) (pc_eqF hc) ?_
        refine pr_aload_n dX6_usedAhead_17 rfl ?_
        obtain ⟨v2, hv2, hF⟩ := po_b hF
        refine pr_getR dX6_usedAhead_18 tf_6_85 (hv2) ?_
        refine pr_iload_n dX6_usedAhead_21 rfl ?_
        obtain ⟨v3, hv3, hF⟩ := po_b hF
        refine pr_iald dX6_usedAhead_22 (hv3) ?_
        refine pr_iload_n dX6_usedAhead_23 rfl ?_
        refine po_i hF (fun hc hF => ?_) (fun hc hF => ?_)
        · refine pr_icT (tgt := 36) dX6_usedAhead_24 (by decide) (pc_ltT hc) ?_
          refine pr_iinc (v := 1) (L' := [.ref x0, .int x1, .int x2, .int (x3 + 1)]) dX6_usedAhead_36 rfl (kc_1) rfl ?_
          refine pr_goto (tgt := 4) dX6_usedAhead_39 (by decide) ?_
          exact ih hF hk
        · refine pr_icF (tgt := 36) dX6_usedAhead_24 (by decide) (pc_ltF hc) ?_
          refine pr_aload_n dX6_usedAhead_27 rfl ?_
          obtain ⟨v4, hv4, hF⟩ := po_b hF
          refine pr_getR dX6_usedAhead_28 tf_6_85 (hv4) ?_
          refine pr_iload_n dX6_usedAhead_31 rfl ?_
          obtain ⟨v5, hv5, hF⟩ := po_b hF
          refine pr_iald dX6_usedAhead_32 (hv5) ?_
          refine pr_iconst (v := 1) dX6_usedAhead_33 (kc_1) ?_
          refine pr_iadd dX6_usedAhead_34 ?_
          refine pr_istore_n (L' := [.ref x0, .int x1, .int (v5 + 1), .int x3]) dX6_usedAhead_35 rfl ?_
          refine pr_iinc (v := 1) (L' := [.ref x0, .int x1, .int (v5 + 1), .int (x3 + 1)]) dX6_usedAhead_36 rfl (kc_1) rfl ?_
          refine pr_goto (tgt := 4) dX6_usedAhead_39 (by decide) ?_
          exact ih hF hk
    · refine pr_icT (tgt := 42) dX6_usedAhead_6 (by decide) (pc_geT hc) ?_
      cases hF
      exact hk _ rfl
def F_X6_usedAhead (n : Nat) (h : pm_H) (a0 : Nat) (x1 : Int32) : Option (Int32) :=
  (L_X6_usedAhead_4 n a0 x1 0 0 h).bind fun q6 =>
  some q6
theorem ok_F_X6_usedAhead {d n : Nat} {h : pm_H} {a0 : Nat} {x1 : Int32} {q : Int32} (hF : F_X6_usedAhead n h a0 x1 = some q) : pm_E (d + 2) 6 cX6_usedAhead (some .int) 0 [.ref a0, .int x1, pm_D, pm_D] [] h (some (.int q), h) := by
  unfold F_X6_usedAhead at hF
  refine pr_iconst (v := 0) dX6_usedAhead_0 (kc_0) ?_
  refine pr_istore_n (L' := [.ref a0, .int x1, .int 0, pm_D]) dX6_usedAhead_1 rfl ?_
  refine pr_iconst (v := 0) dX6_usedAhead_2 (kc_0) ?_
  refine pr_istore_n (L' := [.ref a0, .int x1, .int 0, .int 0]) dX6_usedAhead_3 rfl ?_
  obtain ⟨q6, hq6, hF⟩ := po_b hF
  refine ok_L_X6_usedAhead_4 n hq6 (fun z3 hz3 => ?_)
  refine pr_iload_n dX6_usedAhead_42 rfl ?_
  cases hF
  exact pr_iret dX6_usedAhead_43 rfl rfl rfl

def L_X6_canJoin_2 : Nat → Nat → Int32 → Int32 → Int32 → pm_H → Option ((Int32) ⊕ (Unit))
  | 0, _, _, _, _, _ => none
  | n + 1, x0, x1, x2, x3, h =>
    if x3 < x1 then
      (pm_fR [(5, 4)] h x0).bind fun v1 =>
      (pm_ai 0 h v1 x1).bind fun v2 =>
      (F_X6_has v2 x3).bind fun q3 =>
      if q3 = 0 then
        L_X6_canJoin_2 n x0 x1 x2 (x3 + 1) h
      else
        (pm_fR [(5, 46)] h x0).bind fun v4 =>
        (pm_ai 0 h v4 x3).bind fun v5 =>
        if v5 = x2 then
          some (.inl 0)
        else
          L_X6_canJoin_2 n x0 x1 x2 (x3 + 1) h
    else
      some (.inr ())
theorem ok_L_X6_canJoin_2 {d : Nat} : ∀ (n : Nat) {x0 : Nat} {x1 : Int32} {x2 : Int32} {x3 : Int32} {h : pm_H} {q : (Int32) ⊕ (Unit)} {res : Option Value × pm_H}, L_X6_canJoin_2 n x0 x1 x2 x3 h = some q → (∀ r, q = .inl r → res = (some (.int r), h)) → (∀ e, q = .inr e → ∀ z3 : Value, pm_nolong z3 = true → pm_E (d + 1) 6 cX6_canJoin (some .boolean) 38 [.ref x0, .int x1, .int x2, z3] [] h res) → pm_E (d + 1) 6 cX6_canJoin (some .boolean) 2 [.ref x0, .int x1, .int x2, .int x3] [] h res := by
  intro n
  induction n with
  | zero =>
    intro x0 x1 x2 x3 h q res hF hr hk
    rw [L_X6_canJoin_2] at hF
    cases hF
  | succ n ih =>
    intro x0 x1 x2 x3 h q res hF hr hk
    rw [L_X6_canJoin_2] at hF
    refine pr_iload_n dX6_canJoin_2 rfl ?_
    refine pr_iload_n dX6_canJoin_3 rfl ?_
    refine po_i hF (fun hc hF => ?_) (fun hc hF => ?_)
    · refine pr_icF (tgt := 38) dX6_canJoin_4 (by decide) (pc_geF hc) ?_
      refine pr_aload_n dX6_canJoin_7 rfl ?_
      obtain ⟨v1, hv1, hF⟩ := po_b hF
      refine pr_getR dX6_canJoin_8 tf_6_22 (hv1) ?_
      refine pr_iload_n dX6_canJoin_11 rfl ?_
      obtain ⟨v2, hv2, hF⟩ := po_b hF
      refine pr_iald dX6_canJoin_12 (hv2) ?_
      refine pr_iload_n dX6_canJoin_13 rfl ?_
      obtain ⟨q3, hq3, hF⟩ := po_b hF
      refine pr_S dX6_canJoin_14 cs_6_100 (as := [.int v2, .int x3]) (rest := []) rfl rfl rfl (lb rfl) (lb rfl) (lb rfl) (ok_F_X6_has hq3) ?_
      refine po_i hF (fun hc hF => ?_) (fun hc hF => ?_)
      · refine pr_ifT (tgt := 32) dX6_canJoin_17 (by decide) (pc_eqT hc) ?_
        refine pr_iinc (v := 1) (L' := [.ref x0, .int x1, .int x2, .int (x3 + 1)]) dX6_canJoin_32 rfl (kc_1) rfl ?_
        refine pr_goto (tgt := 2) dX6_canJoin_35 (by decide) ?_
        exact ih hF hr hk
      · refine pr_ifF (tgt := 32) dX6_canJoin_17 (by decide) (pc_eqF hc) ?_
        refine pr_aload_n dX6_canJoin_20 rfl ?_
        obtain ⟨v4, hv4, hF⟩ := po_b hF
        refine pr_getR dX6_canJoin_21 tf_6_85 (hv4) ?_
        refine pr_iload_n dX6_canJoin_24 rfl ?_
        obtain ⟨v5, hv5, hF⟩ := po_b hF
        refine pr_iald dX6_canJoin_25 (hv5) ?_
        refine pr_iload_n dX6_canJoin_26 rfl ?_
        refine po_i hF (fun hc hF => ?_) (fun hc hF => ?_)
        · refine pr_icF (tgt := 32) dX6_canJoin_27 (by decide) (pc_neF hc) ?_
          refine pr_iconst (v := 0) dX6_canJoin_30 (kc_0) ?_
          cases hF
          exact pr_iret dX6_canJoin_31 rfl nb_0 (hr _ rfl)
        · refine pr_icT (tgt := 32) dX6_canJoin_27 (by decide) (pc_neT hc) ?_
          refine pr_iinc (v := 1) (L' := [.ref x0, .int x1, .int x2, .int (x3 + 1)]) dX6_canJoin_32 rfl (kc_1) rfl ?_
          refine pr_goto (tgt := 2) dX6_canJoin_35 (by decide) ?_
          exact ih hF hr hk
    · refine pr_icT (tgt := 38) dX6_canJoin_4 (by decide) (pc_geT hc) ?_
      cases hF
      exact hk _ rfl _ rfl
def F_X6_canJoin (n : Nat) (h : pm_H) (a0 : Nat) (x1 : Int32) (x2 : Int32) : Option (Int32) :=
  (L_X6_canJoin_2 n a0 x1 x2 0 h).bind fun q6 => po_s q6 (fun r => some r) fun e7 =>
  some 1
theorem ok_F_X6_canJoin {d n : Nat} {h : pm_H} {a0 : Nat} {x1 : Int32} {x2 : Int32} {q : Int32} (hF : F_X6_canJoin n h a0 x1 x2 = some q) : pm_E (d + 1) 6 cX6_canJoin (some .boolean) 0 [.ref a0, .int x1, .int x2, pm_D] [] h (some (.int q), h) := by
  unfold F_X6_canJoin at hF
  refine pr_iconst (v := 0) dX6_canJoin_0 (kc_0) ?_
  refine pr_istore_n (L' := [.ref a0, .int x1, .int x2, .int 0]) dX6_canJoin_1 rfl ?_
  obtain ⟨q6, hq6, hF⟩ := po_b hF
  refine ok_L_X6_canJoin_2 n hq6 (fun r hq => ?_) (fun e7 hq z3 hz3 => ?_)
  · subst hq
    replace hF := po_sl hF
    cases hF
    exact rfl
  subst hq
  replace hF := po_sr hF
  refine pr_iconst (v := 1) dX6_canJoin_38 (kc_1) ?_
  cases hF
  exact pr_iret dX6_canJoin_39 rfl nb_1 rfl

def L_X6_fits_65 : Nat → Nat → Int32 → Int32 → Int32 → pm_H → Option (Int32)
  | 0, _, _, _, _, _ => none
  | n + 1, x0, x2, x3, x5, h =>
    if x5 < x3 then
      some x3
    else
      (if pm_cl_ h x0 = some 5 then F_X6_isTold h x0 x2 else none).bind fun q8 =>
      if q8 = 0 then
        some x3
      else
        (if pm_cl_ h x0 = some 5 then F_X6_canJoin n h x0 x2 x3 else none).bind fun q9 =>
        if q9 = 0 then
          L_X6_fits_65 n x0 x2 (x3 + 1) x5 h
        else
          some x3
theorem ok_L_X6_fits_65 {d : Nat} : ∀ (n : Nat) {x0 : Nat} {x2 : Int32} {x3 : Int32} {x5 : Int32} {w1 w4 : Value} {h : pm_H} {q : Int32} {res : Option Value × pm_H}, L_X6_fits_65 n x0 x2 x3 x5 h = some q → pm_nolong w1 = true → pm_nolong w4 = true → (pm_E (d + 3) 6 cX6_fits (some .boolean) 95 [.ref x0, w1, .int x2, .int q, w4, .int x5] [] h res) → pm_E (d + 3) 6 cX6_fits (some .boolean) 65 [.ref x0, w1, .int x2, .int x3, w4, .int x5] [] h res := by
  intro n
  induction n with
  | zero =>
    intro x0 x2 x3 x5 w1 w4 h q res hF hw1 hw4 hk
    rw [L_X6_fits_65] at hF
    cases hF
  | succ n ih =>
    intro x0 x2 x3 x5 w1 w4 h q res hF hw1 hw4 hk
    rw [L_X6_fits_65] at hF
    refine pr_iload_n dX6_fits_65 rfl ?_
    refine pr_iload dX6_fits_66 rfl ?_
    refine po_i hF (fun hc hF => ?_) (fun hc hF => ?_)
    · refine pr_icT (tgt := 95) dX6_fits_68 (by decide) (pc_gtT hc) ?_
      cases hF
      exact hk
    · refine pr_icF (tgt := 95) dX6_fits_68 (by decide) (pc_gtF hc) ?_
      refine pr_aload_n dX6_fits_71 rfl ?_
      refine pr_iload_n dX6_fits_72 rfl ?_
      obtain ⟨q8, hq8, hF⟩ := po_b hF
      refine po_i hq8 (fun hcl hq => ?_) (fun _ hq => nomatch hq)
      refine pr_V (as := [.int x2]) (rest := []) dX6_fits_73 cv_6_233 hcl rfl rfl rfl rfl (lb rfl) (lb rfl) (lb rfl) (ok_F_X6_isTold hq) ?_
      refine po_i hF (fun hc hF => ?_) (fun hc hF => ?_)
      · refine pr_ifT (tgt := 95) dX6_fits_76 (by decide) (pc_eqT hc) ?_
        cases hF
        exact hk
      · refine pr_ifF (tgt := 95) dX6_fits_76 (by decide) (pc_eqF hc) ?_
        refine pr_aload_n dX6_fits_79 rfl ?_
        refine pr_iload_n dX6_fits_80 rfl ?_
        refine pr_iload_n dX6_fits_81 rfl ?_
        obtain ⟨q9, hq9, hF⟩ := po_b hF
        refine po_i hq9 (fun hcl hq => ?_) (fun _ hq => nomatch hq)
        refine pr_V (as := [.int x2, .int x3]) (rest := []) dX6_fits_82 cv_6_362 hcl rfl rfl rfl rfl (lb rfl) (lb rfl) (lb rfl) (ok_F_X6_canJoin hq) ?_
        refine po_i hF (fun hc hF => ?_) (fun hc hF => ?_)
        · refine pr_ifF (tgt := 95) dX6_fits_85 (by decide) (pc_neF hc) ?_
          refine pr_iload_n dX6_fits_88 rfl ?_
          refine pr_iconst (v := 1) dX6_fits_89 (kc_1) ?_
          refine pr_iadd dX6_fits_90 ?_
          refine pr_istore_n (L' := [.ref x0, w1, .int x2, .int (x3 + 1), w4, .int x5]) dX6_fits_91 rfl ?_
          refine pr_goto (tgt := 65) dX6_fits_92 (by decide) ?_
          exact ih hF hw1 hw4 hk
        · refine pr_ifT (tgt := 95) dX6_fits_85 (by decide) (pc_neT hc) ?_
          cases hF
          exact hk
def L_X6_fits_9 : Nat → Nat → Int32 → Int32 → pm_H → Option (Int32 × pm_H)
  | 0, _, _, _, _ => none
  | n + 1, x0, x1, x2, h =>
    if x2 < 0 then
      some (x2, h)
    else
    if x2 < 16 then
      (pm_fR [(5, 46)] h x0).bind fun v3 =>
      (pm_ai 0 h v3 x2).bind fun v4 =>
      (if pm_cl_ h x0 = some 5 then F_X6_usedAhead n h x0 x2 else none).bind fun q5 =>
      (if pm_cl_ h x0 = some 5 then F_X6_isTold h x0 x2 else none).bind fun q6 =>
      ((
        if q6 = 0 then
          some 0
        else
        if q5 < (x1 - 1) then
          some q5
        else
          some (x1 - 1)
      ) : Option (Int32)).bind fun q7 =>
      (L_X6_fits_65 n x0 x2 (v4 + 1) q7 h).bind fun q10 =>
      if q7 < q10 then
        L_X6_fits_9 n x0 x1 (x2 - 1) h
      else
        (pm_fR [(5, 46)] h x0).bind fun v11 =>
        (pm_si 0 h v11 x2 q10).bind fun h12 =>
        if (x2 + 1) < 16 then
          (pm_fR [(5, 46)] h12 x0).bind fun v13 =>
          (pm_si 0 h12 v13 (x2 + 1) (-1)).bind fun h14 =>
          L_X6_fits_9 n x0 x1 (x2 + 1) h14
        else
          L_X6_fits_9 n x0 x1 (x2 + 1) h12
    else
      some (x2, h)
theorem ok_L_X6_fits_9 {d : Nat} : ∀ (n : Nat) {x0 : Nat} {x1 : Int32} {x2 : Int32} {w3 w4 w5 : Value} {h : pm_H} {q : Int32 × pm_H} {res : Option Value × pm_H}, L_X6_fits_9 n x0 x1 x2 h = some q → pm_nolong w3 = true → pm_nolong w4 = true → pm_nolong w5 = true → (∀ z3 : Value, pm_nolong z3 = true → ∀ z4 : Value, pm_nolong z4 = true → ∀ z5 : Value, pm_nolong z5 = true → pm_E (d + 3) 6 cX6_fits (some .boolean) 135 [.ref x0, .int x1, .int q.1, z3, z4, z5] [] q.2 res) → pm_E (d + 3) 6 cX6_fits (some .boolean) 9 [.ref x0, .int x1, .int x2, w3, w4, w5] [] h res := by
  intro n
  induction n with
  | zero =>
    intro x0 x1 x2 w3 w4 w5 h q res hF hw3 hw4 hw5 hk
    rw [L_X6_fits_9] at hF
    cases hF
  | succ n ih =>
    intro x0 x1 x2 w3 w4 w5 h q res hF hw3 hw4 hw5 hk
    rw [L_X6_fits_9] at hF
    refine pr_iload_n dX6_fits_9 rfl ?_
    refine po_i hF (fun hc hF => ?_) (fun hc hF => ?_)
    · refine pr_ifT (tgt := 135) dX6_fits_10 (by decide) (pc_ltT hc) ?_
      cases hF
      exact hk _ hw3 _ hw4 _ hw5
    · refine pr_ifF (tgt := 135) dX6_fits_10 (by decide) (pc_ltF hc) ?_
      refine pr_iload_n dX6_fits_13 rfl ?_
      refine pr_bipush (v := 16) dX6_fits_14 (kb_16) ?_
      refine po_i hF (fun hc hF => ?_) (fun hc hF => ?_)
      · refine pr_icF (tgt := 135) dX6_fits_16 (by decide) (pc_geF hc) ?_
        refine pr_aload_n dX6_fits_19 rfl ?_
        obtain ⟨v3, hv3, hF⟩ := po_b hF
        refine pr_getR dX6_fits_20 tf_6_85 (hv3) ?_
        refine pr_iload_n dX6_fits_23 rfl ?_
        obtain ⟨v4, hv4, hF⟩ := po_b hF
        refine pr_iald dX6_fits_24 (hv4) ?_
        refine pr_iconst (v := 1) dX6_fits_25 (kc_1) ?_
        refine pr_iadd dX6_fits_26 ?_
        refine pr_istore_n (L' := [.ref x0, .int x1, .int x2, .int (v4 + 1), w4, w5]) dX6_fits_27 rfl ?_
        refine pr_aload_n dX6_fits_28 rfl ?_
        refine pr_iload_n dX6_fits_29 rfl ?_
        obtain ⟨q5, hq5, hF⟩ := po_b hF
        refine po_i hq5 (fun hcl hq => ?_) (fun _ hq => nomatch hq)
        refine pr_V (as := [.int x2]) (rest := []) dX6_fits_30 cv_6_359 hcl rfl rfl rfl rfl (lb rfl) (lb rfl) (lb rfl) (ok_F_X6_usedAhead hq) ?_
        refine pr_istore (L' := [.ref x0, .int x1, .int x2, .int (v4 + 1), .int q5, w5]) dX6_fits_33 rfl ?_
        refine pr_aload_n dX6_fits_35 rfl ?_
        refine pr_iload_n dX6_fits_36 rfl ?_
        obtain ⟨q6, hq6, hF⟩ := po_b hF
        refine po_i hq6 (fun hcl hq => ?_) (fun _ hq => nomatch hq)
        refine pr_V (as := [.int x2]) (rest := []) dX6_fits_37 cv_6_233 hcl rfl rfl rfl rfl (lb rfl) (lb rfl) (lb rfl) (ok_F_X6_isTold hq) ?_
        obtain ⟨q7, hq7, hF⟩ := po_b hF
        have J63 : pm_E (d + 3) 6 cX6_fits (some .boolean) 63 [.ref x0, .int x1, .int x2, .int (v4 + 1), .int q5, w5] [.int q7] h res := by
          refine pr_istore (L' := [.ref x0, .int x1, .int x2, .int (v4 + 1), .int q5, .int q7]) dX6_fits_63 rfl ?_
          obtain ⟨q10, hq10, hF⟩ := po_b hF
          refine ok_L_X6_fits_65 n hq10 rfl rfl ?_
          refine pr_iload_n dX6_fits_95 rfl ?_
          refine pr_iload dX6_fits_96 rfl ?_
          refine po_i hF (fun hc hF => ?_) (fun hc hF => ?_)
          · refine pr_icF (tgt := 108) dX6_fits_98 (by decide) (pc_leF hc) ?_
            refine pr_iload_n dX6_fits_101 rfl ?_
            refine pr_iconst (v := 1) dX6_fits_102 (kc_1) ?_
            refine pr_isub dX6_fits_103 ?_
            refine pr_istore_n (L' := [.ref x0, .int x1, .int (x2 - 1), .int q10, .int q5, .int q7]) dX6_fits_104 rfl ?_
            refine pr_goto (tgt := 9) dX6_fits_105 (by decide) ?_
            exact ih hF rfl rfl rfl hk
          · refine pr_icT (tgt := 108) dX6_fits_98 (by decide) (pc_leT hc) ?_
            refine pr_aload_n dX6_fits_108 rfl ?_
            obtain ⟨v11, hv11, hF⟩ := po_b hF
            refine pr_getR dX6_fits_109 tf_6_85 (hv11) ?_
            refine pr_iload_n dX6_fits_112 rfl ?_
            refine pr_iload_n dX6_fits_113 rfl ?_
            obtain ⟨h12, hh12, hF⟩ := po_b hF
            refine pr_iast dX6_fits_114 (hh12) ?_
            refine pr_iload_n dX6_fits_115 rfl ?_
            refine pr_iconst (v := 1) dX6_fits_116 (kc_1) ?_
            refine pr_iadd dX6_fits_117 ?_
            refine pr_istore_n (L' := [.ref x0, .int x1, .int (x2 + 1), .int q10, .int q5, .int q7]) dX6_fits_118 rfl ?_
            refine pr_iload_n dX6_fits_119 rfl ?_
            refine pr_bipush (v := 16) dX6_fits_120 (kb_16) ?_
            refine po_i hF (fun hc hF => ?_) (fun hc hF => ?_)
            · refine pr_icF (tgt := 132) dX6_fits_122 (by decide) (pc_geF hc) ?_
              refine pr_aload_n dX6_fits_125 rfl ?_
              obtain ⟨v13, hv13, hF⟩ := po_b hF
              refine pr_getR dX6_fits_126 tf_6_85 (hv13) ?_
              refine pr_iload_n dX6_fits_129 rfl ?_
              refine pr_iconst (v := (-1)) dX6_fits_130 (kc_m1) ?_
              obtain ⟨h14, hh14, hF⟩ := po_b hF
              refine pr_iast dX6_fits_131 (hh14) ?_
              refine pr_goto (tgt := 9) dX6_fits_132 (by decide) ?_
              exact ih hF rfl rfl rfl hk
            · refine pr_icT (tgt := 132) dX6_fits_122 (by decide) (pc_geT hc) ?_
              refine pr_goto (tgt := 9) dX6_fits_132 (by decide) ?_
              exact ih hF rfl rfl rfl hk
        clear hF
        have hF := hq7
        refine po_i hF (fun hc hF => ?_) (fun hc hF => ?_)
        · refine pr_ifF (tgt := 47) dX6_fits_40 (by decide) (pc_neF hc) ?_
          refine pr_iconst (v := 0) dX6_fits_43 (kc_0) ?_
          refine pr_goto (tgt := 63) dX6_fits_44 (by decide) ?_
          cases hF
          exact J63
        · refine pr_ifT (tgt := 47) dX6_fits_40 (by decide) (pc_neT hc) ?_
          refine pr_iload dX6_fits_47 rfl ?_
          refine pr_iload_n dX6_fits_49 rfl ?_
          refine pr_iconst (v := 1) dX6_fits_50 (kc_1) ?_
          refine pr_isub dX6_fits_51 ?_
          refine po_i hF (fun hc hF => ?_) (fun hc hF => ?_)
          · refine pr_icF (tgt := 60) dX6_fits_52 (by decide) (pc_geF hc) ?_
            refine pr_iload dX6_fits_55 rfl ?_
            refine pr_goto (tgt := 63) dX6_fits_57 (by decide) ?_
            cases hF
            exact J63
          · refine pr_icT (tgt := 60) dX6_fits_52 (by decide) (pc_geT hc) ?_
            refine pr_iload_n dX6_fits_60 rfl ?_
            refine pr_iconst (v := 1) dX6_fits_61 (kc_1) ?_
            refine pr_isub dX6_fits_62 ?_
            cases hF
            exact J63
      · refine pr_icT (tgt := 135) dX6_fits_16 (by decide) (pc_geT hc) ?_
        cases hF
        exact hk _ hw3 _ hw4 _ hw5
def F_X6_fits (n : Nat) (h : pm_H) (a0 : Nat) (x1 : Int32) : Option (Int32 × pm_H) :=
  (pm_fR [(5, 46)] h a0).bind fun v1 =>
  (pm_si 0 h v1 0 (-1)).bind fun h2 =>
  (L_X6_fits_9 n a0 x1 0 h2).bind fun q15 =>
  if q15.1 = 16 then
    some (1, q15.2)
  else
    some (0, q15.2)
theorem ok_F_X6_fits {d n : Nat} {h : pm_H} {a0 : Nat} {x1 : Int32} {q : Int32 × pm_H} (hF : F_X6_fits n h a0 x1 = some q) : pm_E (d + 3) 6 cX6_fits (some .boolean) 0 [.ref a0, .int x1, pm_D, pm_D, pm_D, pm_D] [] h (some (.int q.1), q.2) := by
  unfold F_X6_fits at hF
  refine pr_iconst (v := 0) dX6_fits_0 (kc_0) ?_
  refine pr_istore_n (L' := [.ref a0, .int x1, .int 0, pm_D, pm_D, pm_D]) dX6_fits_1 rfl ?_
  refine pr_aload_n dX6_fits_2 rfl ?_
  obtain ⟨v1, hv1, hF⟩ := po_b hF
  refine pr_getR dX6_fits_3 tf_6_85 (hv1) ?_
  refine pr_iconst (v := 0) dX6_fits_6 (kc_0) ?_
  refine pr_iconst (v := (-1)) dX6_fits_7 (kc_m1) ?_
  obtain ⟨h2, hh2, hF⟩ := po_b hF
  refine pr_iast dX6_fits_8 (hh2) ?_
  obtain ⟨q15, hq15, hF⟩ := po_b hF
  refine ok_L_X6_fits_9 n hq15 rfl rfl rfl (fun z3 hz3 z4 hz4 z5 hz5 => ?_)
  refine pr_iload_n dX6_fits_135 rfl ?_
  refine pr_bipush (v := 16) dX6_fits_136 (kb_16) ?_
  refine po_i hF (fun hc hF => ?_) (fun hc hF => ?_)
  · refine pr_icF (tgt := 145) dX6_fits_138 (by decide) (pc_neF hc) ?_
    refine pr_iconst (v := 1) dX6_fits_141 (kc_1) ?_
    refine pr_goto (tgt := 146) dX6_fits_142 (by decide) ?_
    cases hF
    exact pr_iret dX6_fits_146 rfl nb_1 rfl
  · refine pr_icT (tgt := 145) dX6_fits_138 (by decide) (pc_neT hc) ?_
    refine pr_iconst (v := 0) dX6_fits_145 (kc_0) ?_
    cases hF
    exact pr_iret dX6_fits_146 rfl nb_0 rfl

def L_X6_parties_27 : Nat → Nat → Int32 → pm_H → Option (Int32 × pm_H)
  | 0, _, _, _ => none
  | n + 1, x0, x2, h =>
    (if pm_cl_ h x0 = some 5 then F_X6_fits n h x0 x2 else none).bind fun q2 =>
    if q2.1 = 0 then
      L_X6_parties_27 n x0 (x2 + 1) q2.2
    else
      some (x2, q2.2)
theorem ok_L_X6_parties_27 {d : Nat} : ∀ (n : Nat) {x0 : Nat} {x2 : Int32} {w1 : Value} {h : pm_H} {q : Int32 × pm_H} {res : Option Value × pm_H}, L_X6_parties_27 n x0 x2 h = some q → pm_nolong w1 = true → (pm_E (d + 4) 6 cX6_parties (some .int) 42 [.ref x0, w1, .int q.1] [] q.2 res) → pm_E (d + 4) 6 cX6_parties (some .int) 27 [.ref x0, w1, .int x2] [] h res := by
  intro n
  induction n with
  | zero =>
    intro x0 x2 w1 h q res hF hw1 hk
    rw [L_X6_parties_27] at hF
    cases hF
  | succ n ih =>
    intro x0 x2 w1 h q res hF hw1 hk
    rw [L_X6_parties_27] at hF
    refine pr_aload_n dX6_parties_27 rfl ?_
    refine pr_iload_n dX6_parties_28 rfl ?_
    obtain ⟨q2, hq2, hF⟩ := po_b hF
    refine po_i hq2 (fun hcl hq => ?_) (fun _ hq => nomatch hq)
    refine pr_V (as := [.int x2]) (rest := []) dX6_parties_29 cv_6_365 hcl rfl rfl rfl rfl (lb rfl) (lb rfl) (lb rfl) (ok_F_X6_fits hq) ?_
    refine po_i hF (fun hc hF => ?_) (fun hc hF => ?_)
    · refine pr_ifF (tgt := 42) dX6_parties_32 (by decide) (pc_neF hc) ?_
      refine pr_iload_n dX6_parties_35 rfl ?_
      refine pr_iconst (v := 1) dX6_parties_36 (kc_1) ?_
      refine pr_iadd dX6_parties_37 ?_
      refine pr_istore_n (L' := [.ref x0, w1, .int (x2 + 1)]) dX6_parties_38 (pm_st_w (i := 1) rfl rfl hw1 rfl) ?_
      refine pr_goto (tgt := 27) dX6_parties_39 (by decide) ?_
      exact ih hF hw1 hk
    · refine pr_ifT (tgt := 42) dX6_parties_32 (by decide) (pc_neT hc) ?_
      cases hF
      exact hk
def F_X6_parties (n : Nat) (h : pm_H) (a0 : Nat) (x1 : Int32) : Option (Int32 × pm_H) :=
  if x1 = 100 then
    (pm_fI [(5, 7)] h a0).bind fun v1 =>
    if v1 = 0 then
      some (0, h)
    else
      (L_X6_parties_27 n a0 1 h).bind fun q3 =>
      if x1 = 100 then
        some (q3.1, q3.2)
      else
        (pm_fR [(5, 46)] q3.2 a0).bind fun v4 =>
        (pm_ai 0 q3.2 v4 x1).bind fun v5 =>
        some (v5, q3.2)
  else
    (if pm_cl_ h a0 = some 5 then F_X6_isTold h a0 x1 else none).bind fun q6 =>
    if q6 = 0 then
      some ((-1), h)
    else
      (pm_fI [(5, 7)] h a0).bind fun v7 =>
      if v7 = 0 then
        some (0, h)
      else
        (L_X6_parties_27 n a0 1 h).bind fun q9 =>
        if x1 = 100 then
          some (q9.1, q9.2)
        else
          (pm_fR [(5, 46)] q9.2 a0).bind fun v10 =>
          (pm_ai 0 q9.2 v10 x1).bind fun v11 =>
          some (v11, q9.2)
theorem ok_F_X6_parties {d n : Nat} {h : pm_H} {a0 : Nat} {x1 : Int32} {q : Int32 × pm_H} (hF : F_X6_parties n h a0 x1 = some q) : pm_E (d + 4) 6 cX6_parties (some .int) 0 [.ref a0, .int x1, pm_D] [] h (some (.int q.1), q.2) := by
  unfold F_X6_parties at hF
  refine pr_iload_n dX6_parties_0 rfl ?_
  refine pr_bipush (v := 100) dX6_parties_1 (kb_100) ?_
  refine po_i hF (fun hc hF => ?_) (fun hc hF => ?_)
  · refine pr_icT (tgt := 16) dX6_parties_3 (by decide) (pc_eqT hc) ?_
    refine pr_aload_n dX6_parties_16 rfl ?_
    obtain ⟨v1, hv1, hF⟩ := po_b hF
    refine pr_getI dX6_parties_17 tf_6_108 (hv1) ?_
    refine po_i hF (fun hc hF => ?_) (fun hc hF => ?_)
    · refine pr_ifF (tgt := 25) dX6_parties_20 (by decide) (pc_neF hc) ?_
      refine pr_iconst (v := 0) dX6_parties_23 (kc_0) ?_
      cases hF
      exact pr_iret dX6_parties_24 rfl rfl rfl
    · refine pr_ifT (tgt := 25) dX6_parties_20 (by decide) (pc_neT hc) ?_
      refine pr_iconst (v := 1) dX6_parties_25 (kc_1) ?_
      refine pr_istore_n (L' := [.ref a0, .int x1, .int 1]) dX6_parties_26 rfl ?_
      obtain ⟨q3, hq3, hF⟩ := po_b hF
      refine ok_L_X6_parties_27 n hq3 rfl ?_
      refine pr_iload_n dX6_parties_42 rfl ?_
      refine pr_bipush (v := 100) dX6_parties_43 (kb_100) ?_
      refine po_i hF (fun hc hF => ?_) (fun hc hF => ?_)
      · refine pr_icF (tgt := 52) dX6_parties_45 (by decide) (pc_neF hc) ?_
        refine pr_iload_n dX6_parties_48 rfl ?_
        refine pr_goto (tgt := 58) dX6_parties_49 (by decide) ?_
        cases hF
        exact pr_iret dX6_parties_58 rfl rfl rfl
      · refine pr_icT (tgt := 52) dX6_parties_45 (by decide) (pc_neT hc) ?_
        refine pr_aload_n dX6_parties_52 rfl ?_
        obtain ⟨v4, hv4, hF⟩ := po_b hF
        refine pr_getR dX6_parties_53 tf_6_85 (hv4) ?_
        refine pr_iload_n dX6_parties_56 rfl ?_
        obtain ⟨v5, hv5, hF⟩ := po_b hF
        refine pr_iald dX6_parties_57 (hv5) ?_
        cases hF
        exact pr_iret dX6_parties_58 rfl rfl rfl
  · refine pr_icF (tgt := 16) dX6_parties_3 (by decide) (pc_eqF hc) ?_
    refine pr_aload_n dX6_parties_6 rfl ?_
    refine pr_iload_n dX6_parties_7 rfl ?_
    obtain ⟨q6, hq6, hF⟩ := po_b hF
    refine po_i hq6 (fun hcl hq => ?_) (fun _ hq => nomatch hq)
    refine pr_V (as := [.int x1]) (rest := []) dX6_parties_8 cv_6_233 hcl rfl rfl rfl rfl (lb rfl) (lb rfl) (lb rfl) (ok_F_X6_isTold hq) ?_
    refine po_i hF (fun hc hF => ?_) (fun hc hF => ?_)
    · refine pr_ifF (tgt := 16) dX6_parties_11 (by decide) (pc_neF hc) ?_
      refine pr_iconst (v := (-1)) dX6_parties_14 (kc_m1) ?_
      cases hF
      exact pr_iret dX6_parties_15 rfl rfl rfl
    · refine pr_ifT (tgt := 16) dX6_parties_11 (by decide) (pc_neT hc) ?_
      refine pr_aload_n dX6_parties_16 rfl ?_
      obtain ⟨v7, hv7, hF⟩ := po_b hF
      refine pr_getI dX6_parties_17 tf_6_108 (hv7) ?_
      refine po_i hF (fun hc hF => ?_) (fun hc hF => ?_)
      · refine pr_ifF (tgt := 25) dX6_parties_20 (by decide) (pc_neF hc) ?_
        refine pr_iconst (v := 0) dX6_parties_23 (kc_0) ?_
        cases hF
        exact pr_iret dX6_parties_24 rfl rfl rfl
      · refine pr_ifT (tgt := 25) dX6_parties_20 (by decide) (pc_neT hc) ?_
        refine pr_iconst (v := 1) dX6_parties_25 (kc_1) ?_
        refine pr_istore_n (L' := [.ref a0, .int x1, .int 1]) dX6_parties_26 rfl ?_
        obtain ⟨q9, hq9, hF⟩ := po_b hF
        refine ok_L_X6_parties_27 n hq9 rfl ?_
        refine pr_iload_n dX6_parties_42 rfl ?_
        refine pr_bipush (v := 100) dX6_parties_43 (kb_100) ?_
        refine po_i hF (fun hc hF => ?_) (fun hc hF => ?_)
        · refine pr_icF (tgt := 52) dX6_parties_45 (by decide) (pc_neF hc) ?_
          refine pr_iload_n dX6_parties_48 rfl ?_
          refine pr_goto (tgt := 58) dX6_parties_49 (by decide) ?_
          cases hF
          exact pr_iret dX6_parties_58 rfl rfl rfl
        · refine pr_icT (tgt := 52) dX6_parties_45 (by decide) (pc_neT hc) ?_
          refine pr_aload_n dX6_parties_52 rfl ?_
          obtain ⟨v10, hv10, hF⟩ := po_b hF
          refine pr_getR dX6_parties_53 tf_6_85 (hv10) ?_
          refine pr_iload_n dX6_parties_56 rfl ?_
          obtain ⟨v11, hv11, hF⟩ := po_b hF
          refine pr_iald dX6_parties_57 (hv11) ?_
          cases hF
          exact pr_iret dX6_parties_58 rfl rfl rfl

def F_X6_max (x0 : Int32) (x1 : Int32) : Option (Int32) :=
  if x1 < x0 then
    some x0
  else
    some x1
theorem ok_F_X6_max {d : Nat} {h : pm_H} {x0 : Int32} {x1 : Int32} {q : Int32} (hF : F_X6_max x0 x1 = some q) : pm_E (d + 0) 6 cX6_max (some .int) 0 [.int x0, .int x1] [] h (some (.int q), h) := by
  unfold F_X6_max at hF
  refine pr_iload_n dX6_max_0 rfl ?_
  refine pr_iload_n dX6_max_1 rfl ?_
  refine po_i hF (fun hc hF => ?_) (fun hc hF => ?_)
  · refine pr_icF (tgt := 9) dX6_max_2 (by decide) (pc_leF hc) ?_
    refine pr_iload_n dX6_max_5 rfl ?_
    refine pr_goto (tgt := 10) dX6_max_6 (by decide) ?_
    cases hF
    exact pr_iret dX6_max_10 rfl rfl rfl
  · refine pr_icT (tgt := 9) dX6_max_2 (by decide) (pc_leT hc) ?_
    refine pr_iload_n dX6_max_9 rfl ?_
    cases hF
    exact pr_iret dX6_max_10 rfl rfl rfl

def L_X6_mended_75 : Nat → Nat → Int32 → Int32 → Int32 → Int32 → pm_H → Option (Int32)
  | 0, _, _, _, _, _, _ => none
  | n + 1, x0, x4, x5, x6, x7, h =>
    if x5 < x7 then
      if x4 = (-2) then
        (pm_fR [(5, 4)] h x0).bind fun v7 =>
        (pm_ai 0 h v7 x5).bind fun v8 =>
        (F_X6_has (v8 &&& (x6 ^^^ (-1))) x7).bind fun q9 =>
        if q9 = 0 then
          L_X6_mended_75 n x0 x4 x5 x6 (x7 + (-1)) h
        else
          L_X6_mended_75 n x0 ((16 * x5) + x7) x5 x6 (x7 + (-1)) h
      else
      if (x4 / 16) = x5 then
        (pm_fR [(5, 4)] h x0).bind fun v10 =>
        (pm_ai 0 h v10 x5).bind fun v11 =>
        (F_X6_has (v11 &&& (x6 ^^^ (-1))) x7).bind fun q12 =>
        if q12 = 0 then
          L_X6_mended_75 n x0 x4 x5 x6 (x7 + (-1)) h
        else
          L_X6_mended_75 n x0 ((16 * x5) + x7) x5 x6 (x7 + (-1)) h
      else
        some x4
    else
      some x4
theorem ok_L_X6_mended_75 {d : Nat} : ∀ (n : Nat) {x0 : Nat} {x4 : Int32} {x5 : Int32} {x6 : Int32} {x7 : Int32} {w1 w2 w3 : Value} {h : pm_H} {q : Int32} {res : Option Value × pm_H}, L_X6_mended_75 n x0 x4 x5 x6 x7 h = some q → pm_nolong w1 = true → pm_nolong w2 = true → pm_nolong w3 = true → (∀ z7 : Value, pm_nolong z7 = true → pm_E (d + 2) 6 cX6_mended (some .int) 135 [.ref x0, w1, w2, w3, .int q, .int x5, .int x6, z7] [] h res) → pm_E (d + 2) 6 cX6_mended (some .int) 75 [.ref x0, w1, w2, w3, .int x4, .int x5, .int x6, .int x7] [] h res := by
  intro n
  induction n with
  | zero =>
    intro x0 x4 x5 x6 x7 w1 w2 w3 h q res hF hw1 hw2 hw3 hk
    rw [L_X6_mended_75] at hF
    cases hF
  | succ n ih =>
    intro x0 x4 x5 x6 x7 w1 w2 w3 h q res hF hw1 hw2 hw3 hk
    rw [L_X6_mended_75] at hF
    refine pr_iload dX6_mended_75 rfl ?_
    refine pr_iload dX6_mended_77 rfl ?_
    refine po_i hF (fun hc hF => ?_) (fun hc hF => ?_)
    · refine pr_icF (tgt := 135) dX6_mended_79 (by decide) (pc_leF hc) ?_
      refine pr_iload dX6_mended_82 rfl ?_
      refine pr_bipush (v := (-2)) dX6_mended_84 (kb_m2) ?_
      refine po_i hF (fun hc hF => ?_) (fun hc hF => ?_)
      · refine pr_icT (tgt := 99) dX6_mended_86 (by decide) (pc_eqT hc) ?_
        refine pr_aload_n dX6_mended_99 rfl ?_
        obtain ⟨v7, hv7, hF⟩ := po_b hF
        refine pr_getR dX6_mended_100 tf_6_22 (hv7) ?_
        refine pr_iload dX6_mended_103 rfl ?_
        obtain ⟨v8, hv8, hF⟩ := po_b hF
        refine pr_iald dX6_mended_105 (hv8) ?_
        refine pr_iload dX6_mended_106 rfl ?_
        refine pr_iconst (v := (-1)) dX6_mended_108 (kc_m1) ?_
        refine pr_ixor dX6_mended_109 ?_
        refine pr_iand dX6_mended_110 ?_
        refine pr_iload dX6_mended_111 rfl ?_
        obtain ⟨q9, hq9, hF⟩ := po_b hF
        refine pr_S dX6_mended_113 cs_6_100 (as := [.int (v8 &&& (x6 ^^^ (-1))), .int x7]) (rest := []) rfl rfl rfl (lb rfl) (lb rfl) (lb rfl) (ok_F_X6_has hq9) ?_
        refine po_i hF (fun hc hF => ?_) (fun hc hF => ?_)
        · refine pr_ifT (tgt := 129) dX6_mended_116 (by decide) (pc_eqT hc) ?_
          refine pr_iinc (v := (-1)) (L' := [.ref x0, w1, w2, w3, .int x4, .int x5, .int x6, .int (x7 + (-1))]) dX6_mended_129 rfl (kc_m1) rfl ?_
          refine pr_goto (tgt := 75) dX6_mended_132 (by decide) ?_
          exact ih hF hw1 hw2 hw3 hk
        · refine pr_ifF (tgt := 129) dX6_mended_116 (by decide) (pc_eqF hc) ?_
          refine pr_bipush (v := 16) dX6_mended_119 (kb_16) ?_
          refine pr_iload dX6_mended_121 rfl ?_
          refine pr_imul dX6_mended_123 ?_
          refine pr_iload dX6_mended_124 rfl ?_
          refine pr_iadd dX6_mended_126 ?_
          refine pr_istore (L' := [.ref x0, w1, w2, w3, .int ((16 * x5) + x7), .int x5, .int x6, .int x7]) dX6_mended_127 (pm_st_w (i := 3) rfl rfl hw3 rfl) ?_
          refine pr_iinc (v := (-1)) (L' := [.ref x0, w1, w2, w3, .int ((16 * x5) + x7), .int x5, .int x6, .int (x7 + (-1))]) dX6_mended_129 rfl (kc_m1) rfl ?_
          refine pr_goto (tgt := 75) dX6_mended_132 (by decide) ?_
          exact ih hF hw1 hw2 hw3 hk
      · refine pr_icF (tgt := 99) dX6_mended_86 (by decide) (pc_eqF hc) ?_
        refine pr_iload dX6_mended_89 rfl ?_
        refine pr_bipush (v := 16) dX6_mended_91 (kb_16) ?_
        refine pr_idiv dX6_mended_93 (by decide) ?_
        refine pr_iload dX6_mended_94 rfl ?_
        refine po_i hF (fun hc hF => ?_) (fun hc hF => ?_)
        · refine pr_icF (tgt := 135) dX6_mended_96 (by decide) (pc_neF hc) ?_
          refine pr_aload_n dX6_mended_99 rfl ?_
          obtain ⟨v10, hv10, hF⟩ := po_b hF
          refine pr_getR dX6_mended_100 tf_6_22 (hv10) ?_
          refine pr_iload dX6_mended_103 rfl ?_
          obtain ⟨v11, hv11, hF⟩ := po_b hF
          refine pr_iald dX6_mended_105 (hv11) ?_
          refine pr_iload dX6_mended_106 rfl ?_
          refine pr_iconst (v := (-1)) dX6_mended_108 (kc_m1) ?_
          refine pr_ixor dX6_mended_109 ?_
          refine pr_iand dX6_mended_110 ?_
          refine pr_iload dX6_mended_111 rfl ?_
          obtain ⟨q12, hq12, hF⟩ := po_b hF
          refine pr_S dX6_mended_113 cs_6_100 (as := [.int (v11 &&& (x6 ^^^ (-1))), .int x7]) (rest := []) rfl rfl rfl (lb rfl) (lb rfl) (lb rfl) (ok_F_X6_has hq12) ?_
          refine po_i hF (fun hc hF => ?_) (fun hc hF => ?_)
          · refine pr_ifT (tgt := 129) dX6_mended_116 (by decide) (pc_eqT hc) ?_
            refine pr_iinc (v := (-1)) (L' := [.ref x0, w1, w2, w3, .int x4, .int x5, .int x6, .int (x7 + (-1))]) dX6_mended_129 rfl (kc_m1) rfl ?_
            refine pr_goto (tgt := 75) dX6_mended_132 (by decide) ?_
            exact ih hF hw1 hw2 hw3 hk
          · refine pr_ifF (tgt := 129) dX6_mended_116 (by decide) (pc_eqF hc) ?_
            refine pr_bipush (v := 16) dX6_mended_119 (kb_16) ?_
            refine pr_iload dX6_mended_121 rfl ?_
            refine pr_imul dX6_mended_123 ?_
            refine pr_iload dX6_mended_124 rfl ?_
            refine pr_iadd dX6_mended_126 ?_
            refine pr_istore (L' := [.ref x0, w1, w2, w3, .int ((16 * x5) + x7), .int x5, .int x6, .int x7]) dX6_mended_127 (pm_st_w (i := 3) rfl rfl hw3 rfl) ?_
            refine pr_iinc (v := (-1)) (L' := [.ref x0, w1, w2, w3, .int ((16 * x5) + x7), .int x5, .int x6, .int (x7 + (-1))]) dX6_mended_129 rfl (kc_m1) rfl ?_
            refine pr_goto (tgt := 75) dX6_mended_132 (by decide) ?_
            exact ih hF hw1 hw2 hw3 hk
        · refine pr_icT (tgt := 135) dX6_mended_96 (by decide) (pc_neT hc) ?_
          cases hF
          exact hk _ rfl
    · refine pr_icT (tgt := 135) dX6_mended_79 (by decide) (pc_leT hc) ?_
      cases hF
      exact hk _ rfl
def L_X6_mended_22 : Nat → Nat → Int32 → Int32 → Int32 → Int32 → pm_H → Option (Int32 × Int32)
  | 0, _, _, _, _, _, _ => none
  | n + 1, x0, x2, x3, x4, x5, h =>
    if x5 < 16 then
      (if pm_cl_ h x0 = some 5 then F_X6_isTold h x0 x5 else none).bind fun q2 =>
      if q2 = 0 then
        L_X6_mended_22 n x0 x2 x3 x4 (x5 + 1) h
      else
        (pm_fI [(5, 7)] h x0).bind fun v3 =>
        (if pm_cl_ h x0 = some 5 then F_X6_groupOf n h x0 x5 v3 else none).bind fun q4 =>
        (F_X6_has x3 x5).bind fun q5 =>
        ((
          if q5 = 0 then
            some (x2 + 1)
          else
            some x2
        ) : Option (Int32)).bind fun q6 =>
        (L_X6_mended_75 n x0 x4 x5 q4 15 h).bind fun q13 =>
        L_X6_mended_22 n x0 q6 (x3 ||| q4) q13 (x5 + 1) h
    else
      some (x2, x4)
theorem ok_L_X6_mended_22 {d : Nat} : ∀ (n : Nat) {x0 : Nat} {x2 : Int32} {x3 : Int32} {x4 : Int32} {x5 : Int32} {w1 w6 w7 : Value} {h : pm_H} {q : Int32 × Int32} {res : Option Value × pm_H}, L_X6_mended_22 n x0 x2 x3 x4 x5 h = some q → pm_nolong w1 = true → pm_nolong w6 = true → pm_nolong w7 = true → (∀ z3 : Value, pm_nolong z3 = true → ∀ z5 : Value, pm_nolong z5 = true → ∀ z6 : Value, pm_nolong z6 = true → ∀ z7 : Value, pm_nolong z7 = true → pm_E (d + 2) 6 cX6_mended (some .int) 141 [.ref x0, w1, .int q.1, z3, .int q.2, z5, z6, z7] [] h res) → pm_E (d + 2) 6 cX6_mended (some .int) 22 [.ref x0, w1, .int x2, .int x3, .int x4, .int x5, w6, w7] [] h res := by
  intro n
  induction n with
  | zero =>
    intro x0 x2 x3 x4 x5 w1 w6 w7 h q res hF hw1 hw6 hw7 hk
    rw [L_X6_mended_22] at hF
    cases hF
  | succ n ih =>
    intro x0 x2 x3 x4 x5 w1 w6 w7 h q res hF hw1 hw6 hw7 hk
    rw [L_X6_mended_22] at hF
    refine pr_iload dX6_mended_22 rfl ?_
    refine pr_bipush (v := 16) dX6_mended_24 (kb_16) ?_
    refine po_i hF (fun hc hF => ?_) (fun hc hF => ?_)
    · refine pr_icF (tgt := 141) dX6_mended_26 (by decide) (pc_geF hc) ?_
      refine pr_aload_n dX6_mended_29 rfl ?_
      refine pr_iload dX6_mended_30 rfl ?_
      obtain ⟨q2, hq2, hF⟩ := po_b hF
      refine po_i hq2 (fun hcl hq => ?_) (fun _ hq => nomatch hq)
      refine pr_V (as := [.int x5]) (rest := []) dX6_mended_32 cv_6_233 hcl rfl rfl rfl rfl (lb rfl) (lb rfl) (lb rfl) (ok_F_X6_isTold hq) ?_
      refine po_i hF (fun hc hF => ?_) (fun hc hF => ?_)
      · refine pr_ifF (tgt := 41) dX6_mended_35 (by decide) (pc_neF hc) ?_
        refine pr_goto (tgt := 135) dX6_mended_38 (by decide) ?_
        refine pr_iinc (v := 1) (L' := [.ref x0, w1, .int x2, .int x3, .int x4, .int (x5 + 1), w6, w7]) dX6_mended_135 rfl (kc_1) rfl ?_
        refine pr_goto (tgt := 22) dX6_mended_138 (by decide) ?_
        exact ih hF hw1 hw6 hw7 hk
      · refine pr_ifT (tgt := 41) dX6_mended_35 (by decide) (pc_neT hc) ?_
        refine pr_aload_n dX6_mended_41 rfl ?_
        refine pr_iload dX6_mended_42 rfl ?_
        refine pr_aload_n dX6_mended_44 rfl ?_
        obtain ⟨v3, hv3, hF⟩ := po_b hF
        refine pr_getI dX6_mended_45 tf_6_108 (hv3) ?_
        obtain ⟨q4, hq4, hF⟩ := po_b hF
        refine po_i hq4 (fun hcl hq => ?_) (fun _ hq => nomatch hq)
        refine pr_V (as := [.int x5, .int v3]) (rest := []) dX6_mended_48 cv_6_337 hcl rfl rfl rfl rfl (lb rfl) (lb rfl) (lb rfl) (ok_F_X6_groupOf hq) ?_
        refine pr_istore (L' := [.ref x0, w1, .int x2, .int x3, .int x4, .int x5, .int q4, w7]) dX6_mended_51 rfl ?_
        refine pr_iload_n dX6_mended_53 rfl ?_
        refine pr_iload dX6_mended_54 rfl ?_
        obtain ⟨q5, hq5, hF⟩ := po_b hF
        refine pr_S dX6_mended_56 cs_6_100 (as := [.int x3, .int x5]) (rest := []) rfl rfl rfl (lb rfl) (lb rfl) (lb rfl) (ok_F_X6_has hq5) ?_
        obtain ⟨q6, hq6, hF⟩ := po_b hF
        have J66 : pm_E (d + 2) 6 cX6_mended (some .int) 66 [.ref x0, w1, .int q6, .int x3, .int x4, .int x5, .int q4, w7] [] h res := by
          refine pr_iload_n dX6_mended_66 rfl ?_
          refine pr_iload dX6_mended_67 rfl ?_
          refine pr_ior dX6_mended_69 ?_
          refine pr_istore_n (L' := [.ref x0, w1, .int q6, .int (x3 ||| q4), .int x4, .int x5, .int q4, w7]) dX6_mended_70 rfl ?_
          refine pr_bipush (v := 15) dX6_mended_71 (kb_15) ?_
          refine pr_istore (L' := [.ref x0, w1, .int q6, .int (x3 ||| q4), .int x4, .int x5, .int q4, .int 15]) dX6_mended_73 rfl ?_
          obtain ⟨q13, hq13, hF⟩ := po_b hF
          refine ok_L_X6_mended_75 n hq13 hw1 rfl rfl (fun z7 hz7 => ?_)
          refine pr_iinc (v := 1) (L' := [.ref x0, w1, .int q6, .int (x3 ||| q4), .int q13, .int (x5 + 1), .int q4, z7]) dX6_mended_135 rfl (kc_1) rfl ?_
          refine pr_goto (tgt := 22) dX6_mended_138 (by decide) ?_
          exact ih hF hw1 rfl hz7 hk
        clear hF
        have hF := hq6
        refine po_i hF (fun hc hF => ?_) (fun hc hF => ?_)
        · refine pr_ifF (tgt := 66) dX6_mended_59 (by decide) (pc_neF hc) ?_
          refine pr_iload_n dX6_mended_62 rfl ?_
          refine pr_iconst (v := 1) dX6_mended_63 (kc_1) ?_
          refine pr_iadd dX6_mended_64 ?_
          refine pr_istore_n (L' := [.ref x0, w1, .int (x2 + 1), .int x3, .int x4, .int x5, .int q4, w7]) dX6_mended_65 (pm_st_w (i := 1) rfl rfl hw1 rfl) ?_
          cases hF
          exact J66
        · refine pr_ifT (tgt := 66) dX6_mended_59 (by decide) (pc_neT hc) ?_
          cases hF
          exact J66
    · refine pr_icT (tgt := 141) dX6_mended_26 (by decide) (pc_geT hc) ?_
      cases hF
      exact hk _ rfl _ rfl _ hw6 _ hw7
def F_X6_mended (n : Nat) (h : pm_H) (a0 : Nat) (x1 : Int32) : Option (Int32) :=
  (F_X6_in x1 0 1).bind fun q1 =>
  if q1 = 0 then
    some (-1)
  else
    (L_X6_mended_22 n a0 0 0 (-2) 0 h).bind fun q14 =>
    if x1 = 1 then
      some q14.2
    else
      (F_X6_max 0 (q14.1 - 1)).bind fun q15 =>
      some q15
theorem ok_F_X6_mended {d n : Nat} {h : pm_H} {a0 : Nat} {x1 : Int32} {q : Int32} (hF : F_X6_mended n h a0 x1 = some q) : pm_E (d + 2) 6 cX6_mended (some .int) 0 [.ref a0, .int x1, pm_D, pm_D, pm_D, pm_D, pm_D, pm_D] [] h (some (.int q), h) := by
  unfold F_X6_mended at hF
  refine pr_iload_n dX6_mended_0 rfl ?_
  refine pr_iconst (v := 0) dX6_mended_1 (kc_0) ?_
  refine pr_iconst (v := 1) dX6_mended_2 (kc_1) ?_
  obtain ⟨q1, hq1, hF⟩ := po_b hF
  refine pr_S dX6_mended_3 cs_6_104 (as := [.int x1, .int 0, .int 1]) (rest := []) rfl rfl rfl (lb rfl) (lb rfl) (lb rfl) (ok_F_X6_in hq1) ?_
  refine po_i hF (fun hc hF => ?_) (fun hc hF => ?_)
  · refine pr_ifF (tgt := 11) dX6_mended_6 (by decide) (pc_neF hc) ?_
    refine pr_iconst (v := (-1)) dX6_mended_9 (kc_m1) ?_
    cases hF
    exact pr_iret dX6_mended_10 rfl rfl rfl
  · refine pr_ifT (tgt := 11) dX6_mended_6 (by decide) (pc_neT hc) ?_
    refine pr_iconst (v := 0) dX6_mended_11 (kc_0) ?_
    refine pr_istore_n (L' := [.ref a0, .int x1, .int 0, pm_D, pm_D, pm_D, pm_D, pm_D]) dX6_mended_12 rfl ?_
    refine pr_iconst (v := 0) dX6_mended_13 (kc_0) ?_
    refine pr_istore_n (L' := [.ref a0, .int x1, .int 0, .int 0, pm_D, pm_D, pm_D, pm_D]) dX6_mended_14 rfl ?_
    refine pr_bipush (v := (-2)) dX6_mended_15 (kb_m2) ?_
    refine pr_istore (L' := [.ref a0, .int x1, .int 0, .int 0, .int (-2), pm_D, pm_D, pm_D]) dX6_mended_17 rfl ?_
    refine pr_iconst (v := 0) dX6_mended_19 (kc_0) ?_
    refine pr_istore (L' := [.ref a0, .int x1, .int 0, .int 0, .int (-2), .int 0, pm_D, pm_D]) dX6_mended_20 rfl ?_
    obtain ⟨q14, hq14, hF⟩ := po_b hF
    refine ok_L_X6_mended_22 n hq14 rfl rfl rfl (fun z3 hz3 z5 hz5 z6 hz6 z7 hz7 => ?_)
    refine pr_iload_n dX6_mended_141 rfl ?_
    refine pr_iconst (v := 1) dX6_mended_142 (kc_1) ?_
    refine po_i hF (fun hc hF => ?_) (fun hc hF => ?_)
    · refine pr_icF (tgt := 151) dX6_mended_143 (by decide) (pc_neF hc) ?_
      refine pr_iload dX6_mended_146 rfl ?_
      refine pr_goto (tgt := 158) dX6_mended_148 (by decide) ?_
      cases hF
      exact pr_iret dX6_mended_158 rfl rfl rfl
    · refine pr_icT (tgt := 151) dX6_mended_143 (by decide) (pc_neT hc) ?_
      refine pr_iconst (v := 0) dX6_mended_151 (kc_0) ?_
      refine pr_iload_n dX6_mended_152 rfl ?_
      refine pr_iconst (v := 1) dX6_mended_153 (kc_1) ?_
      refine pr_isub dX6_mended_154 ?_
      obtain ⟨q15, hq15, hF⟩ := po_b hF
      refine pr_S dX6_mended_155 cs_6_368 (as := [.int 0, .int (q14.1 - 1)]) (rest := []) rfl rfl rfl (lb rfl) (lb rfl) (lb rfl) (ok_F_X6_max hq15) ?_
      cases hF
      exact pr_iret dX6_mended_158 rfl rfl rfl

def L_X6_longest_51 : Nat → Nat → Int32 → Int32 → pm_H → Option (pm_H)
  | 0, _, _, _, _ => none
  | n + 1, x0, x4, x5, h =>
    if x5 < 16 then
      (F_X6_has x4 x5).bind fun q5 =>
      if q5 = 0 then
        L_X6_longest_51 n x0 x4 (x5 + 1) h
      else
      if (x4 &&& ((pm_shl 1 x5) ^^^ (-1))) = 0 then
        (pm_fR [(5, 47)] h x0).bind fun v6 =>
        (pm_fR [(5, 47)] h x0).bind fun v7 =>
        (pm_ai 0 h v7 x4).bind fun v8 =>
        (pm_si 0 h v6 x4 (v8 ||| (pm_shl 1 x5))).bind fun h9 =>
        L_X6_longest_51 n x0 x4 (x5 + 1) h9
      else
        (pm_fR [(5, 47)] h x0).bind fun v10 =>
        (pm_ai 0 h v10 (x4 &&& ((pm_shl 1 x5) ^^^ (-1)))).bind fun v11 =>
        (if pm_cl_ h x0 = some 5 then F_X6_friendsOf h x0 x5 else none).bind fun q12 =>
        if (v11 &&& q12) = 0 then
          L_X6_longest_51 n x0 x4 (x5 + 1) h
        else
          (pm_fR [(5, 47)] h x0).bind fun v13 =>
          (pm_fR [(5, 47)] h x0).bind fun v14 =>
          (pm_ai 0 h v14 x4).bind fun v15 =>
          (pm_si 0 h v13 x4 (v15 ||| (pm_shl 1 x5))).bind fun h16 =>
          L_X6_longest_51 n x0 x4 (x5 + 1) h16
    else
      some h
theorem ok_L_X6_longest_51 {d : Nat} : ∀ (n : Nat) {x0 : Nat} {x4 : Int32} {x5 : Int32} {w1 w2 w3 w6 : Value} {h : pm_H} {q : pm_H} {res : Option Value × pm_H}, L_X6_longest_51 n x0 x4 x5 h = some q → pm_nolong w1 = true → pm_nolong w2 = true → pm_nolong w3 = true → pm_nolong w6 = true → (∀ z5 : Value, pm_nolong z5 = true → ∀ z6 : Value, pm_nolong z6 = true → pm_E (d + 2) 6 cX6_longest (some .int) 126 [.ref x0, w1, w2, w3, .int x4, z5, z6] [] q res) → pm_E (d + 2) 6 cX6_longest (some .int) 51 [.ref x0, w1, w2, w3, .int x4, .int x5, w6] [] h res := by
  intro n
  induction n with
  | zero =>
    intro x0 x4 x5 w1 w2 w3 w6 h q res hF hw1 hw2 hw3 hw6 hk
    rw [L_X6_longest_51] at hF
    cases hF
  | succ n ih =>
    intro x0 x4 x5 w1 w2 w3 w6 h q res hF hw1 hw2 hw3 hw6 hk
    rw [L_X6_longest_51] at hF
    refine pr_iload dX6_longest_51 rfl ?_
    refine pr_bipush (v := 16) dX6_longest_53 (kb_16) ?_
    refine po_i hF (fun hc hF => ?_) (fun hc hF => ?_)
    · refine pr_icF (tgt := 126) dX6_longest_55 (by decide) (pc_geF hc) ?_
      refine pr_iload dX6_longest_58 rfl ?_
      refine pr_iconst (v := 1) dX6_longest_60 (kc_1) ?_
      refine pr_iload dX6_longest_61 rfl ?_
      refine pr_ishl dX6_longest_63 ?_
      refine pr_iconst (v := (-1)) dX6_longest_64 (kc_m1) ?_
      refine pr_ixor dX6_longest_65 ?_
      refine pr_iand dX6_longest_66 ?_
      refine pr_istore (L' := [.ref x0, w1, w2, w3, .int x4, .int x5, .int (x4 &&& ((pm_shl 1 x5) ^^^ (-1)))]) dX6_longest_67 rfl ?_
      refine pr_iload dX6_longest_69 rfl ?_
      refine pr_iload dX6_longest_71 rfl ?_
      obtain ⟨q5, hq5, hF⟩ := po_b hF
      refine pr_S dX6_longest_73 cs_6_100 (as := [.int x4, .int x5]) (rest := []) rfl rfl rfl (lb rfl) (lb rfl) (lb rfl) (ok_F_X6_has hq5) ?_
      refine po_i hF (fun hc hF => ?_) (fun hc hF => ?_)
      · refine pr_ifT (tgt := 120) dX6_longest_76 (by decide) (pc_eqT hc) ?_
        refine pr_iinc (v := 1) (L' := [.ref x0, w1, w2, w3, .int x4, .int (x5 + 1), .int (x4 &&& ((pm_shl 1 x5) ^^^ (-1)))]) dX6_longest_120 rfl (kc_1) rfl ?_
        refine pr_goto (tgt := 51) dX6_longest_123 (by decide) ?_
        exact ih hF hw1 hw2 hw3 rfl hk
      · refine pr_ifF (tgt := 120) dX6_longest_76 (by decide) (pc_eqF hc) ?_
        refine pr_iload dX6_longest_79 rfl ?_
        refine po_i hF (fun hc hF => ?_) (fun hc hF => ?_)
        · refine pr_ifT (tgt := 101) dX6_longest_81 (by decide) (pc_eqT hc) ?_
          refine pr_aload_n dX6_longest_101 rfl ?_
          obtain ⟨v6, hv6, hF⟩ := po_b hF
          refine pr_getR dX6_longest_102 tf_6_88 (hv6) ?_
          refine pr_iload dX6_longest_105 rfl ?_
          refine pr_aload_n dX6_longest_107 rfl ?_
          obtain ⟨v7, hv7, hF⟩ := po_b hF
          refine pr_getR dX6_longest_108 tf_6_88 (hv7) ?_
          refine pr_iload dX6_longest_111 rfl ?_
          obtain ⟨v8, hv8, hF⟩ := po_b hF
          refine pr_iald dX6_longest_113 (hv8) ?_
          refine pr_iconst (v := 1) dX6_longest_114 (kc_1) ?_
          refine pr_iload dX6_longest_115 rfl ?_
          refine pr_ishl dX6_longest_117 ?_
          refine pr_ior dX6_longest_118 ?_
          obtain ⟨h9, hh9, hF⟩ := po_b hF
          refine pr_iast dX6_longest_119 (hh9) ?_
          refine pr_iinc (v := 1) (L' := [.ref x0, w1, w2, w3, .int x4, .int (x5 + 1), .int (x4 &&& ((pm_shl 1 x5) ^^^ (-1)))]) dX6_longest_120 rfl (kc_1) rfl ?_
          refine pr_goto (tgt := 51) dX6_longest_123 (by decide) ?_
          exact ih hF hw1 hw2 hw3 rfl hk
        · refine pr_ifF (tgt := 101) dX6_longest_81 (by decide) (pc_eqF hc) ?_
          refine pr_aload_n dX6_longest_84 rfl ?_
          obtain ⟨v10, hv10, hF⟩ := po_b hF
          refine pr_getR dX6_longest_85 tf_6_88 (hv10) ?_
          refine pr_iload dX6_longest_88 rfl ?_
          obtain ⟨v11, hv11, hF⟩ := po_b hF
          refine pr_iald dX6_longest_90 (hv11) ?_
          refine pr_aload_n dX6_longest_91 rfl ?_
          refine pr_iload dX6_longest_92 rfl ?_
          obtain ⟨q12, hq12, hF⟩ := po_b hF
          refine po_i hq12 (fun hcl hq => ?_) (fun _ hq => nomatch hq)
          refine pr_V (as := [.int x5]) (rest := [.int v11]) dX6_longest_94 cv_6_291 hcl rfl rfl rfl rfl (lb rfl) (lb rfl) (lb rfl) (ok_F_X6_friendsOf hq) ?_
          refine pr_iand dX6_longest_97 ?_
          refine po_i hF (fun hc hF => ?_) (fun hc hF => ?_)
          · refine pr_ifT (tgt := 120) dX6_longest_98 (by decide) (pc_eqT hc) ?_
            refine pr_iinc (v := 1) (L' := [.ref x0, w1, w2, w3, .int x4, .int (x5 + 1), .int (x4 &&& ((pm_shl 1 x5) ^^^ (-1)))]) dX6_longest_120 rfl (kc_1) rfl ?_
            refine pr_goto (tgt := 51) dX6_longest_123 (by decide) ?_
            exact ih hF hw1 hw2 hw3 rfl hk
          · refine pr_ifF (tgt := 120) dX6_longest_98 (by decide) (pc_eqF hc) ?_
            refine pr_aload_n dX6_longest_101 rfl ?_
            obtain ⟨v13, hv13, hF⟩ := po_b hF
            refine pr_getR dX6_longest_102 tf_6_88 (hv13) ?_
            refine pr_iload dX6_longest_105 rfl ?_
            refine pr_aload_n dX6_longest_107 rfl ?_
            obtain ⟨v14, hv14, hF⟩ := po_b hF
            refine pr_getR dX6_longest_108 tf_6_88 (hv14) ?_
            refine pr_iload dX6_longest_111 rfl ?_
            obtain ⟨v15, hv15, hF⟩ := po_b hF
            refine pr_iald dX6_longest_113 (hv15) ?_
            refine pr_iconst (v := 1) dX6_longest_114 (kc_1) ?_
            refine pr_iload dX6_longest_115 rfl ?_
            refine pr_ishl dX6_longest_117 ?_
            refine pr_ior dX6_longest_118 ?_
            obtain ⟨h16, hh16, hF⟩ := po_b hF
            refine pr_iast dX6_longest_119 (hh16) ?_
            refine pr_iinc (v := 1) (L' := [.ref x0, w1, w2, w3, .int x4, .int (x5 + 1), .int (x4 &&& ((pm_shl 1 x5) ^^^ (-1)))]) dX6_longest_120 rfl (kc_1) rfl ?_
            refine pr_goto (tgt := 51) dX6_longest_123 (by decide) ?_
            exact ih hF hw1 hw2 hw3 rfl hk
    · refine pr_icT (tgt := 126) dX6_longest_55 (by decide) (pc_geT hc) ?_
      cases hF
      exact hk _ rfl _ hw6
def L_X6_longest_18 : Nat → Nat → Int32 → Int32 → Int32 → pm_H → Option (Int32 × Int32 × pm_H)
  | 0, _, _, _, _, _ => none
  | n + 1, x0, x2, x3, x4, h =>
    if x4 < 65536 then
      (pm_fR [(5, 47)] h x0).bind fun v2 =>
      (pm_si 0 h v2 x4 0).bind fun h3 =>
      (pm_fI [(5, 7)] h3 x0).bind fun v4 =>
      if (x4 &&& (v4 ^^^ (-1))) = 0 then
        (L_X6_longest_51 n x0 x4 0 h3).bind fun q17 =>
        (pm_fR [(5, 47)] q17 x0).bind fun v18 =>
        (pm_ai 0 q17 v18 x4).bind fun v19 =>
        if v19 = 0 then
          L_X6_longest_18 n x0 x2 x3 (x4 + 1) q17
        else
          (F_X6_bits n x4).bind fun q20 =>
          if q20 < x2 then
            L_X6_longest_18 n x0 x2 x3 (x4 + 1) q17
          else
            (F_X6_bits n x4).bind fun q21 =>
            if x2 < q21 then
              (pm_fR [(5, 47)] q17 x0).bind fun v25 =>
              (pm_ai 0 q17 v25 x4).bind fun v26 =>
              (F_X6_bits n x4).bind fun q27 =>
              L_X6_longest_18 n x0 q27 v26 (x4 + 1) q17
            else
              (pm_fR [(5, 47)] q17 x0).bind fun v22 =>
              (pm_ai 0 q17 v22 x4).bind fun v23 =>
              (F_X6_bits n x4).bind fun q24 =>
              L_X6_longest_18 n x0 q24 (x3 ||| v23) (x4 + 1) q17
      else
        L_X6_longest_18 n x0 x2 x3 (x4 + 1) h3
    else
      some (x2, x3, h)
theorem ok_L_X6_longest_18 {d : Nat} : ∀ (n : Nat) {x0 : Nat} {x2 : Int32} {x3 : Int32} {x4 : Int32} {w1 w5 w6 : Value} {h : pm_H} {q : Int32 × Int32 × pm_H} {res : Option Value × pm_H}, L_X6_longest_18 n x0 x2 x3 x4 h = some q → pm_nolong w1 = true → pm_nolong w5 = true → pm_nolong w6 = true → (∀ z4 : Value, pm_nolong z4 = true → ∀ z5 : Value, pm_nolong z5 = true → ∀ z6 : Value, pm_nolong z6 = true → pm_E (d + 2) 6 cX6_longest (some .int) 189 [.ref x0, w1, .int q.1, .int q.2.1, z4, z5, z6] [] q.2.2 res) → pm_E (d + 2) 6 cX6_longest (some .int) 18 [.ref x0, w1, .int x2, .int x3, .int x4, w5, w6] [] h res := by
  intro n
  induction n with
  | zero =>
    intro x0 x2 x3 x4 w1 w5 w6 h q res hF hw1 hw5 hw6 hk
    rw [L_X6_longest_18] at hF
    cases hF
  | succ n ih =>
    intro x0 x2 x3 x4 w1 w5 w6 h q res hF hw1 hw5 hw6 hk
    rw [L_X6_longest_18] at hF
    refine pr_iload dX6_longest_18 rfl ?_
    refine pr_ldc (v := 65536) dX6_longest_20 rfl ?_
    refine po_i hF (fun hc hF => ?_) (fun hc hF => ?_)
    · refine pr_icF (tgt := 189) dX6_longest_22 (by decide) (pc_geF hc) ?_
      refine pr_aload_n dX6_longest_25 rfl ?_
      obtain ⟨v2, hv2, hF⟩ := po_b hF
      refine pr_getR dX6_longest_26 tf_6_88 (hv2) ?_
      refine pr_iload dX6_longest_29 rfl ?_
      refine pr_iconst (v := 0) dX6_longest_31 (kc_0) ?_
      obtain ⟨h3, hh3, hF⟩ := po_b hF
      refine pr_iast dX6_longest_32 (hh3) ?_
      refine pr_iload dX6_longest_33 rfl ?_
      refine pr_aload_n dX6_longest_35 rfl ?_
      obtain ⟨v4, hv4, hF⟩ := po_b hF
      refine pr_getI dX6_longest_36 tf_6_108 (hv4) ?_
      refine pr_iconst (v := (-1)) dX6_longest_39 (kc_m1) ?_
      refine pr_ixor dX6_longest_40 ?_
      refine pr_iand dX6_longest_41 ?_
      refine po_i hF (fun hc hF => ?_) (fun hc hF => ?_)
      · refine pr_ifT (tgt := 48) dX6_longest_42 (by decide) (pc_eqT hc) ?_
        refine pr_iconst (v := 0) dX6_longest_48 (kc_0) ?_
        refine pr_istore (L' := [.ref x0, w1, .int x2, .int x3, .int x4, .int 0, w6]) dX6_longest_49 rfl ?_
        obtain ⟨q17, hq17, hF⟩ := po_b hF
        refine ok_L_X6_longest_51 n hq17 hw1 rfl rfl hw6 (fun z5 hz5 z6 hz6 => ?_)
        refine pr_aload_n dX6_longest_126 rfl ?_
        obtain ⟨v18, hv18, hF⟩ := po_b hF
        refine pr_getR dX6_longest_127 tf_6_88 (hv18) ?_
        refine pr_iload dX6_longest_130 rfl ?_
        obtain ⟨v19, hv19, hF⟩ := po_b hF
        refine pr_iald dX6_longest_132 (hv19) ?_
        refine po_i hF (fun hc hF => ?_) (fun hc hF => ?_)
        · refine pr_ifT (tgt := 183) dX6_longest_133 (by decide) (pc_eqT hc) ?_
          refine pr_iinc (v := 1) (L' := [.ref x0, w1, .int x2, .int x3, .int (x4 + 1), z5, z6]) dX6_longest_183 rfl (kc_1) rfl ?_
          refine pr_goto (tgt := 18) dX6_longest_186 (by decide) ?_
          exact ih hF hw1 hz5 hz6 hk
        · refine pr_ifF (tgt := 183) dX6_longest_133 (by decide) (pc_eqF hc) ?_
          refine pr_iload dX6_longest_136 rfl ?_
          obtain ⟨q20, hq20, hF⟩ := po_b hF
          refine pr_S dX6_longest_138 cs_6_276 (as := [.int x4]) (rest := []) rfl rfl rfl (lb rfl) (lb rfl) (lb rfl) (ok_F_X6_bits hq20) ?_
          refine pr_iload_n dX6_longest_141 rfl ?_
          refine po_i hF (fun hc hF => ?_) (fun hc hF => ?_)
          · refine pr_icF (tgt := 148) dX6_longest_142 (by decide) (pc_geF hc) ?_
            refine pr_goto (tgt := 183) dX6_longest_145 (by decide) ?_
            refine pr_iinc (v := 1) (L' := [.ref x0, w1, .int x2, .int x3, .int (x4 + 1), z5, z6]) dX6_longest_183 rfl (kc_1) rfl ?_
            refine pr_goto (tgt := 18) dX6_longest_186 (by decide) ?_
            exact ih hF hw1 hz5 hz6 hk
          · refine pr_icT (tgt := 148) dX6_longest_142 (by decide) (pc_geT hc) ?_
            refine pr_iload dX6_longest_148 rfl ?_
            obtain ⟨q21, hq21, hF⟩ := po_b hF
            refine pr_S dX6_longest_150 cs_6_276 (as := [.int x4]) (rest := []) rfl rfl rfl (lb rfl) (lb rfl) (lb rfl) (ok_F_X6_bits hq21) ?_
            refine pr_iload_n dX6_longest_153 rfl ?_
            refine po_i hF (fun hc hF => ?_) (fun hc hF => ?_)
            · refine pr_icF (tgt := 167) dX6_longest_154 (by decide) (pc_leF hc) ?_
              refine pr_aload_n dX6_longest_157 rfl ?_
              obtain ⟨v25, hv25, hF⟩ := po_b hF
              refine pr_getR dX6_longest_158 tf_6_88 (hv25) ?_
              refine pr_iload dX6_longest_161 rfl ?_
              obtain ⟨v26, hv26, hF⟩ := po_b hF
              refine pr_iald dX6_longest_163 (hv26) ?_
              refine pr_goto (tgt := 176) dX6_longest_164 (by decide) ?_
              refine pr_istore_n (L' := [.ref x0, w1, .int x2, .int v26, .int x4, z5, z6]) dX6_longest_176 rfl ?_
              refine pr_iload dX6_longest_177 rfl ?_
              obtain ⟨q27, hq27, hF⟩ := po_b hF
              refine pr_S dX6_longest_179 cs_6_276 (as := [.int x4]) (rest := []) rfl rfl rfl (lb rfl) (lb rfl) (lb rfl) (ok_F_X6_bits hq27) ?_
              refine pr_istore_n (L' := [.ref x0, w1, .int q27, .int v26, .int x4, z5, z6]) dX6_longest_182 (pm_st_w (i := 1) rfl rfl hw1 rfl) ?_
              refine pr_iinc (v := 1) (L' := [.ref x0, w1, .int q27, .int v26, .int (x4 + 1), z5, z6]) dX6_longest_183 rfl (kc_1) rfl ?_
              refine pr_goto (tgt := 18) dX6_longest_186 (by decide) ?_
              exact ih hF hw1 hz5 hz6 hk
            · refine pr_icT (tgt := 167) dX6_longest_154 (by decide) (pc_leT hc) ?_
              refine pr_iload_n dX6_longest_167 rfl ?_
              refine pr_aload_n dX6_longest_168 rfl ?_
              obtain ⟨v22, hv22, hF⟩ := po_b hF
              refine pr_getR dX6_longest_169 tf_6_88 (hv22) ?_
              refine pr_iload dX6_longest_172 rfl ?_
              obtain ⟨v23, hv23, hF⟩ := po_b hF
              refine pr_iald dX6_longest_174 (hv23) ?_
              refine pr_ior dX6_longest_175 ?_
              refine pr_istore_n (L' := [.ref x0, w1, .int x2, .int (x3 ||| v23), .int x4, z5, z6]) dX6_longest_176 rfl ?_
              refine pr_iload dX6_longest_177 rfl ?_
              obtain ⟨q24, hq24, hF⟩ := po_b hF
              refine pr_S dX6_longest_179 cs_6_276 (as := [.int x4]) (rest := []) rfl rfl rfl (lb rfl) (lb rfl) (lb rfl) (ok_F_X6_bits hq24) ?_
              refine pr_istore_n (L' := [.ref x0, w1, .int q24, .int (x3 ||| v23), .int x4, z5, z6]) dX6_longest_182 (pm_st_w (i := 1) rfl rfl hw1 rfl) ?_
              refine pr_iinc (v := 1) (L' := [.ref x0, w1, .int q24, .int (x3 ||| v23), .int (x4 + 1), z5, z6]) dX6_longest_183 rfl (kc_1) rfl ?_
              refine pr_goto (tgt := 18) dX6_longest_186 (by decide) ?_
              exact ih hF hw1 hz5 hz6 hk
      · refine pr_ifF (tgt := 48) dX6_longest_42 (by decide) (pc_eqF hc) ?_
        refine pr_goto (tgt := 183) dX6_longest_45 (by decide) ?_
        refine pr_iinc (v := 1) (L' := [.ref x0, w1, .int x2, .int x3, .int (x4 + 1), w5, w6]) dX6_longest_183 rfl (kc_1) rfl ?_
        refine pr_goto (tgt := 18) dX6_longest_186 (by decide) ?_
        exact ih hF hw1 hw5 hw6 hk
    · refine pr_icT (tgt := 189) dX6_longest_22 (by decide) (pc_geT hc) ?_
      cases hF
      exact hk _ rfl _ hw5 _ hw6
def F_X6_longest (n : Nat) (h : pm_H) (a0 : Nat) (x1 : Int32) : Option (Int32 × pm_H) :=
  (F_X6_in x1 0 1).bind fun q1 =>
  if q1 = 0 then
    some ((-1), h)
  else
    (L_X6_longest_18 n a0 0 0 1 h).bind fun q28 =>
    if x1 = 0 then
      some (q28.1, q28.2.2)
    else
    if q28.1 = 0 then
      some ((-2), q28.2.2)
    else
      (F_X6_lowest n q28.2.1).bind fun q29 =>
      some (q29, q28.2.2)
theorem ok_F_X6_longest {d n : Nat} {h : pm_H} {a0 : Nat} {x1 : Int32} {q : Int32 × pm_H} (hF : F_X6_longest n h a0 x1 = some q) : pm_E (d + 2) 6 cX6_longest (some .int) 0 [.ref a0, .int x1, pm_D, pm_D, pm_D, pm_D, pm_D] [] h (some (.int q.1), q.2) := by
  unfold F_X6_longest at hF
  refine pr_iload_n dX6_longest_0 rfl ?_
  refine pr_iconst (v := 0) dX6_longest_1 (kc_0) ?_
  refine pr_iconst (v := 1) dX6_longest_2 (kc_1) ?_
  obtain ⟨q1, hq1, hF⟩ := po_b hF
  refine pr_S dX6_longest_3 cs_6_104 (as := [.int x1, .int 0, .int 1]) (rest := []) rfl rfl rfl (lb rfl) (lb rfl) (lb rfl) (ok_F_X6_in hq1) ?_
  refine po_i hF (fun hc hF => ?_) (fun hc hF => ?_)
  · refine pr_ifF (tgt := 11) dX6_longest_6 (by decide) (pc_neF hc) ?_
    refine pr_iconst (v := (-1)) dX6_longest_9 (kc_m1) ?_
    cases hF
    exact pr_iret dX6_longest_10 rfl rfl rfl
  · refine pr_ifT (tgt := 11) dX6_longest_6 (by decide) (pc_neT hc) ?_
    refine pr_iconst (v := 0) dX6_longest_11 (kc_0) ?_
    refine pr_istore_n (L' := [.ref a0, .int x1, .int 0, pm_D, pm_D, pm_D, pm_D]) dX6_longest_12 rfl ?_
    refine pr_iconst (v := 0) dX6_longest_13 (kc_0) ?_
    refine pr_istore_n (L' := [.ref a0, .int x1, .int 0, .int 0, pm_D, pm_D, pm_D]) dX6_longest_14 rfl ?_
    refine pr_iconst (v := 1) dX6_longest_15 (kc_1) ?_
    refine pr_istore (L' := [.ref a0, .int x1, .int 0, .int 0, .int 1, pm_D, pm_D]) dX6_longest_16 rfl ?_
    obtain ⟨q28, hq28, hF⟩ := po_b hF
    refine ok_L_X6_longest_18 n hq28 rfl rfl rfl (fun z4 hz4 z5 hz5 z6 hz6 => ?_)
    refine pr_iload_n dX6_longest_189 rfl ?_
    refine po_i hF (fun hc hF => ?_) (fun hc hF => ?_)
    · refine pr_ifF (tgt := 197) dX6_longest_190 (by decide) (pc_neF hc) ?_
      refine pr_iload_n dX6_longest_193 rfl ?_
      refine pr_goto (tgt := 210) dX6_longest_194 (by decide) ?_
      cases hF
      exact pr_iret dX6_longest_210 rfl rfl rfl
    · refine pr_ifT (tgt := 197) dX6_longest_190 (by decide) (pc_neT hc) ?_
      refine pr_iload_n dX6_longest_197 rfl ?_
      refine po_i hF (fun hc hF => ?_) (fun hc hF => ?_)
      · refine pr_ifF (tgt := 206) dX6_longest_198 (by decide) (pc_neF hc) ?_
        refine pr_bipush (v := (-2)) dX6_longest_201 (kb_m2) ?_
        refine pr_goto (tgt := 210) dX6_longest_203 (by decide) ?_
        cases hF
        exact pr_iret dX6_longest_210 rfl rfl rfl
      · refine pr_ifT (tgt := 206) dX6_longest_198 (by decide) (pc_neT hc) ?_
        refine pr_iload_n dX6_longest_206 rfl ?_
        obtain ⟨q29, hq29, hF⟩ := po_b hF
        refine pr_S dX6_longest_207 cs_6_343 (as := [.int q28.2.1]) (rest := []) rfl rfl rfl (lb rfl) (lb rfl) (lb rfl) (ok_F_X6_lowest hq29) ?_
        cases hF
        exact pr_iret dX6_longest_210 rfl rfl rfl
