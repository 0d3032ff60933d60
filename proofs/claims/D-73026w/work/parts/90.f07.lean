set_option maxRecDepth 100000
def L_X6_bits_4 : Nat → Int32 → Int32 → Int32 → Option (Int32)
  | 0, _, _, _ => none
  | n + 1, x0, x1, x2 =>
    if x2 < 16 then
      L_X6_bits_4 n x0 (x1 + ((pm_shr x0 x2) &&& 1)) (x2 + 1)
    else
      some x1
theorem ok_L_X6_bits_4 {d : Nat} : ∀ (n : Nat) {x0 : Int32} {x1 : Int32} {x2 : Int32} {h : pm_H} {q : Int32} {res : Option Value × pm_H}, L_X6_bits_4 n x0 x1 x2 = some q → (∀ z2 : Value, pm_nolong z2 = true → pm_E (d + 0) 6 cX6_bits (some .int) 24 [.int x0, .int q, z2] [] h res) → pm_E (d + 0) 6 cX6_bits (some .int) 4 [.int x0, .int x1, .int x2] [] h res := by
  intro n
  induction n with
  | zero =>
    intro x0 x1 x2 h q res hF hk
    rw [L_X6_bits_4] at hF
    cases hF
  | succ n ih =>
    intro x0 x1 x2 h q res hF hk
    rw [L_X6_bits_4] at hF
    refine pr_iload_n dX6_bits_4 rfl ?_
    refine pr_bipush (v := 16) dX6_bits_5 (kb_16) ?_
    refine po_i hF (fun hc hF => ?_) (fun hc hF => ?_)
    · refine pr_icF (tgt := 24) dX6_bits_7 (by decide) (pc_geF hc) ?_
      refine pr_iload_n dX6_bits_10 rfl ?_
      refine pr_iload_n dX6_bits_11 rfl ?_
      refine pr_iload_n dX6_bits_12 rfl ?_
      refine pr_ishr dX6_bits_13 ?_
      refine pr_iconst (v := 1) dX6_bits_14 (kc_1) ?_
      refine pr_iand dX6_bits_15 ?_
      refine pr_iadd dX6_bits_16 ?_
      refine pr_istore_n (L' := [.int x0, .int (x1 + ((pm_shr x0 x2) &&& 1)), .int x2]) dX6_bits_17 rfl ?_
      refine pr_iinc (v := 1) (L' := [.int x0, .int (x1 + ((pm_shr x0 x2) &&& 1)), .int (x2 + 1)]) dX6_bits_18 rfl (kc_1) rfl ?_
      refine pr_goto (tgt := 4) dX6_bits_21 (by decide) ?_
      exact ih hF hk
    · refine pr_icT (tgt := 24) dX6_bits_7 (by decide) (pc_geT hc) ?_
      cases hF
      exact hk _ rfl
def F_X6_bits (n : Nat) (x0 : Int32) : Option (Int32) :=
  (L_X6_bits_4 n x0 0 0).bind fun q1 =>
  some q1
theorem ok_F_X6_bits {d n : Nat} {h : pm_H} {x0 : Int32} {q : Int32} (hF : F_X6_bits n x0 = some q) : pm_E (d + 0) 6 cX6_bits (some .int) 0 [.int x0, pm_D, pm_D] [] h (some (.int q), h) := by
  unfold F_X6_bits at hF
  refine pr_iconst (v := 0) dX6_bits_0 (kc_0) ?_
  refine pr_istore_n (L' := [.int x0, .int 0, pm_D]) dX6_bits_1 rfl ?_
  refine pr_iconst (v := 0) dX6_bits_2 (kc_0) ?_
  refine pr_istore_n (L' := [.int x0, .int 0, .int 0]) dX6_bits_3 rfl ?_
  obtain ⟨q1, hq1, hF⟩ := po_b hF
  refine ok_L_X6_bits_4 n hq1 (fun z2 hz2 => ?_)
  refine pr_iload_n dX6_bits_24 rfl ?_
  cases hF
  exact pr_iret dX6_bits_25 rfl rfl rfl

def L_X6_feels_2 : Nat → Nat → Int32 → pm_H → Option (pm_H)
  | 0, _, _, _ => none
  | n + 1, x0, x2, h =>
    if x2 < 7 then
      (pm_fR [(5, 34)] h x0).bind fun v1 =>
      (pm_si 0 h v1 x2 0).bind fun h2 =>
      L_X6_feels_2 n x0 (x2 + 1) h2
    else
      some h
theorem ok_L_X6_feels_2 {d : Nat} : ∀ (n : Nat) {x0 : Nat} {x2 : Int32} {w1 : Value} {h : pm_H} {q : pm_H} {res : Option Value × pm_H}, L_X6_feels_2 n x0 x2 h = some q → pm_nolong w1 = true → (∀ z2 : Value, pm_nolong z2 = true → pm_E (d + 1) 6 cX6_feels (none) 21 [.ref x0, w1, z2] [] q res) → pm_E (d + 1) 6 cX6_feels (none) 2 [.ref x0, w1, .int x2] [] h res := by
  intro n
  induction n with
  | zero =>
    intro x0 x2 w1 h q res hF hw1 hk
    rw [L_X6_feels_2] at hF
    cases hF
  | succ n ih =>
    intro x0 x2 w1 h q res hF hw1 hk
    rw [L_X6_feels_2] at hF
    refine pr_iload_n dX6_feels_2 rfl ?_
    refine pr_bipush (v := 7) dX6_feels_3 (kb_7) ?_
    refine po_i hF (fun hc hF => ?_) (fun hc hF => ?_)
    · refine pr_icF (tgt := 21) dX6_feels_5 (by decide) (pc_geF hc) ?_
      refine pr_aload_n dX6_feels_8 rfl ?_
      obtain ⟨v1, hv1, hF⟩ := po_b hF
      refine pr_getR dX6_feels_9 tf_6_71 (hv1) ?_
      refine pr_iload_n dX6_feels_12 rfl ?_
      refine pr_iconst (v := 0) dX6_feels_13 (kc_0) ?_
      obtain ⟨h2, hh2, hF⟩ := po_b hF
      refine pr_iast dX6_feels_14 (hh2) ?_
      refine pr_iinc (v := 1) (L' := [.ref x0, w1, .int (x2 + 1)]) dX6_feels_15 rfl (kc_1) (pm_st_w (i := 1) rfl rfl hw1 rfl) ?_
      refine pr_goto (tgt := 2) dX6_feels_18 (by decide) ?_
      exact ih hF hw1 hk
    · refine pr_icT (tgt := 21) dX6_feels_5 (by decide) (pc_geT hc) ?_
      cases hF
      exact hk _ rfl
def F_X6_feels (n : Nat) (h : pm_H) (a0 : Nat) (x1 : Int32) : Option (pm_H) :=
  (L_X6_feels_2 n a0 1 h).bind fun q3 =>
  (pm_fR [(5, 34)] q3 a0).bind fun v4 =>
  (pm_si 0 q3 v4 0 x1).bind fun h5 =>
  (pm_fR [(5, 34)] h5 a0).bind fun v6 =>
  (pm_fR [(5, 3)] h5 a0).bind fun v7 =>
  (pm_ai 0 h5 v7 x1).bind fun v8 =>
  (pm_si 0 h5 v6 2 v8).bind fun h9 =>
  (pm_fR [(5, 34)] h9 a0).bind fun v10 =>
  (pm_fR [(5, 0)] h9 a0).bind fun v11 =>
  (pm_ai 0 h9 v11 (0 + x1)).bind fun v12 =>
  (pm_si 0 h9 v10 6 v12).bind fun h13 =>
  (pm_fR [(5, 34)] h13 a0).bind fun v14 =>
  (pm_fI [(5, 41)] h13 a0).bind fun v15 =>
  (pm_fI [(5, 8)] h13 a0).bind fun v16 =>
  (F_X6_bits n (v15 &&& v16)).bind fun q17 =>
  (pm_si 0 h13 v14 7 q17).bind fun h18 =>
  (pm_fR [(5, 34)] h18 a0).bind fun v19 =>
  (pm_fR [(5, 0)] h18 a0).bind fun v20 =>
  (pm_ai 0 h18 v20 272).bind fun v21 =>
  (pm_si 0 h18 v19 8 (pm_rem v21 100)).bind fun h22 =>
  (pm_fR [(5, 34)] h22 a0).bind fun v23 =>
  (pm_fR [(5, 40)] h22 a0).bind fun v24 =>
  (pm_ai 0 h22 v24 x1).bind fun v25 =>
  (pm_si 0 h22 v23 9 v25).bind fun h26 =>
  some h26
theorem ok_F_X6_feels {d n : Nat} {h : pm_H} {a0 : Nat} {x1 : Int32} {q : pm_H} (hF : F_X6_feels n h a0 x1 = some q) : pm_E (d + 1) 6 cX6_feels (none) 0 [.ref a0, .int x1, pm_D] [] h (none, q) := by
  unfold F_X6_feels at hF
  refine pr_iconst (v := 1) dX6_feels_0 (kc_1) ?_
  refine pr_istore_n (L' := [.ref a0, .int x1, .int 1]) dX6_feels_1 rfl ?_
  obtain ⟨q3, hq3, hF⟩ := po_b hF
  refine ok_L_X6_feels_2 n hq3 rfl (fun z2 hz2 => ?_)
  refine pr_aload_n dX6_feels_21 rfl ?_
  obtain ⟨v4, hv4, hF⟩ := po_b hF
  refine pr_getR dX6_feels_22 tf_6_71 (hv4) ?_
  refine pr_iconst (v := 0) dX6_feels_25 (kc_0) ?_
  refine pr_iload_n dX6_feels_26 rfl ?_
  obtain ⟨h5, hh5, hF⟩ := po_b hF
  refine pr_iast dX6_feels_27 (hh5) ?_
  refine pr_aload_n dX6_feels_28 rfl ?_
  obtain ⟨v6, hv6, hF⟩ := po_b hF
  refine pr_getR dX6_feels_29 tf_6_71 (hv6) ?_
  refine pr_iconst (v := 2) dX6_feels_32 (kc_2) ?_
  refine pr_aload_n dX6_feels_33 rfl ?_
  obtain ⟨v7, hv7, hF⟩ := po_b hF
  refine pr_getR dX6_feels_34 tf_6_19 (hv7) ?_
  refine pr_iload_n dX6_feels_37 rfl ?_
  obtain ⟨v8, hv8, hF⟩ := po_b hF
  refine pr_iald dX6_feels_38 (hv8) ?_
  obtain ⟨h9, hh9, hF⟩ := po_b hF
  refine pr_iast dX6_feels_39 (hh9) ?_
  refine pr_aload_n dX6_feels_40 rfl ?_
  obtain ⟨v10, hv10, hF⟩ := po_b hF
  refine pr_getR dX6_feels_41 tf_6_71 (hv10) ?_
  refine pr_bipush (v := 6) dX6_feels_44 (kb_6) ?_
  refine pr_aload_n dX6_feels_46 rfl ?_
  obtain ⟨v11, hv11, hF⟩ := po_b hF
  refine pr_getR dX6_feels_47 tf_6_7 (hv11) ?_
  refine pr_iconst (v := 0) dX6_feels_50 (kc_0) ?_
  refine pr_iload_n dX6_feels_51 rfl ?_
  refine pr_iadd dX6_feels_52 ?_
  obtain ⟨v12, hv12, hF⟩ := po_b hF
  refine pr_iald dX6_feels_53 (hv12) ?_
  obtain ⟨h13, hh13, hF⟩ := po_b hF
  refine pr_iast dX6_feels_54 (hh13) ?_
  refine pr_aload_n dX6_feels_55 rfl ?_
  obtain ⟨v14, hv14, hF⟩ := po_b hF
  refine pr_getR dX6_feels_56 tf_6_71 (hv14) ?_
  refine pr_bipush (v := 7) dX6_feels_59 (kb_7) ?_
  refine pr_aload_n dX6_feels_61 rfl ?_
  obtain ⟨v15, hv15, hF⟩ := po_b hF
  refine pr_getI dX6_feels_62 tf_6_273 (hv15) ?_
  refine pr_aload_n dX6_feels_65 rfl ?_
  obtain ⟨v16, hv16, hF⟩ := po_b hF
  refine pr_getI dX6_feels_66 tf_6_227 (hv16) ?_
  refine pr_iand dX6_feels_69 ?_
  obtain ⟨q17, hq17, hF⟩ := po_b hF
  refine pr_S dX6_feels_70 cs_6_276 (as := [.int (v15 &&& v16)]) (rest := [.int 7, .ref v14]) rfl rfl rfl (lb rfl) (lb rfl) (lb rfl) (ok_F_X6_bits hq17) ?_
  obtain ⟨h18, hh18, hF⟩ := po_b hF
  refine pr_iast dX6_feels_73 (hh18) ?_
  refine pr_aload_n dX6_feels_74 rfl ?_
  obtain ⟨v19, hv19, hF⟩ := po_b hF
  refine pr_getR dX6_feels_75 tf_6_71 (hv19) ?_
  refine pr_bipush (v := 8) dX6_feels_78 (kb_8) ?_
  refine pr_aload_n dX6_feels_80 rfl ?_
  obtain ⟨v20, hv20, hF⟩ := po_b hF
  refine pr_getR dX6_feels_81 tf_6_7 (hv20) ?_
  refine pr_sipush (v := 272) dX6_feels_84 (ks_272) ?_
  obtain ⟨v21, hv21, hF⟩ := po_b hF
  refine pr_iald dX6_feels_87 (hv21) ?_
  refine pr_bipush (v := 100) dX6_feels_88 (kb_100) ?_
  refine pr_irem dX6_feels_90 (by decide) ?_
  obtain ⟨h22, hh22, hF⟩ := po_b hF
  refine pr_iast dX6_feels_91 (hh22) ?_
  refine pr_aload_n dX6_feels_92 rfl ?_
  obtain ⟨v23, hv23, hF⟩ := po_b hF
  refine pr_getR dX6_feels_93 tf_6_71 (hv23) ?_
  refine pr_bipush (v := 9) dX6_feels_96 (kb_9) ?_
  refine pr_aload_n dX6_feels_98 rfl ?_
  obtain ⟨v24, hv24, hF⟩ := po_b hF
  refine pr_getR dX6_feels_99 tf_6_77 (hv24) ?_
  refine pr_iload_n dX6_feels_102 rfl ?_
  obtain ⟨v25, hv25, hF⟩ := po_b hF
  refine pr_iald dX6_feels_103 (hv25) ?_
  obtain ⟨h26, hh26, hF⟩ := po_b hF
  refine pr_iast dX6_feels_104 (hh26) ?_
  cases hF
  exact pr_vret dX6_feels_105 rfl rfl

def F_X6_reckon (x0 : Int32) (x1 : Int32) (x2 : Int32) : Option (Int32) :=
  if x0.toInt < 2 ∨ 8 < x0.toInt then
    if x1 = x2 then
      some 1
    else
      some 0
  else if x0 = 2 then
    some (x1 + x2)
  else if x0 = 3 then
    some (x1 - x2)
  else if x0 = 4 then
    some (x1 * x2)
  else if x0 = 5 then
    if x2 = 0 then none else
    some (x1 / x2)
  else if x0 = 6 then
    if x2 = 0 then none else
    some (pm_rem x1 x2)
  else if x0 = 7 then
    if x1 < x2 then
      some 1
    else
      some 0
  else if x0 = 8 then
    if x2 < x1 then
      some 1
    else
      some 0
  else none
theorem ok_F_X6_reckon {d : Nat} {h : pm_H} {x0 : Int32} {x1 : Int32} {x2 : Int32} {q : Int32} (hF : F_X6_reckon x0 x1 x2 = some q) : pm_E (d + 0) 6 cX6_reckon (some .int) 0 [.int x0, .int x1, .int x2] [] h (some (.int q), h) := by
  unfold F_X6_reckon at hF
  refine pr_iload_n dX6_reckon_0 rfl ?_
  refine po_i hF (fun hc hF => ?_) (fun hc hF => ?_)
  · refine pr_tabO (tgt := 86) dX6_reckon_1 hc (by decide) ?_
    refine pr_iload_n dX6_reckon_86 rfl ?_
    refine pr_iload_n dX6_reckon_87 rfl ?_
    refine po_i hF (fun hc hF => ?_) (fun hc hF => ?_)
    · refine pr_icF (tgt := 95) dX6_reckon_88 (by decide) (pc_neF hc) ?_
      refine pr_iconst (v := 1) dX6_reckon_91 (kc_1) ?_
      refine pr_goto (tgt := 96) dX6_reckon_92 (by decide) ?_
      cases hF
      exact pr_iret dX6_reckon_96 rfl rfl rfl
    · refine pr_icT (tgt := 95) dX6_reckon_88 (by decide) (pc_neT hc) ?_
      refine pr_iconst (v := 0) dX6_reckon_95 (kc_0) ?_
      cases hF
      exact pr_iret dX6_reckon_96 rfl rfl rfl
  refine po_i hF (fun he hF => ?_) (fun he2 hF => ?_)
  · refine pr_tabI (off := 43) (tgt := 44) dX6_reckon_1 hc (by rw [he]; rfl) (by decide) ?_
    refine pr_iload_n dX6_reckon_44 rfl ?_
    refine pr_iload_n dX6_reckon_45 rfl ?_
    refine pr_iadd dX6_reckon_46 ?_
    cases hF
    exact pr_iret dX6_reckon_47 rfl rfl rfl
  refine po_i hF (fun he hF => ?_) (fun he3 hF => ?_)
  · refine pr_tabI (off := 47) (tgt := 48) dX6_reckon_1 hc (by rw [he]; rfl) (by decide) ?_
    refine pr_iload_n dX6_reckon_48 rfl ?_
    refine pr_iload_n dX6_reckon_49 rfl ?_
    refine pr_isub dX6_reckon_50 ?_
    cases hF
    exact pr_iret dX6_reckon_51 rfl rfl rfl
  refine po_i hF (fun he hF => ?_) (fun he4 hF => ?_)
  · refine pr_tabI (off := 51) (tgt := 52) dX6_reckon_1 hc (by rw [he]; rfl) (by decide) ?_
    refine pr_iload_n dX6_reckon_52 rfl ?_
    refine pr_iload_n dX6_reckon_53 rfl ?_
    refine pr_imul dX6_reckon_54 ?_
    cases hF
    exact pr_iret dX6_reckon_55 rfl rfl rfl
  refine po_i hF (fun he hF => ?_) (fun he5 hF => ?_)
  · refine pr_tabI (off := 55) (tgt := 56) dX6_reckon_1 hc (by rw [he]; rfl) (by decide) ?_
    refine pr_iload_n dX6_reckon_56 rfl ?_
    refine pr_iload_n dX6_reckon_57 rfl ?_
    refine po_i hF (fun _ hF => nomatch hF) (fun hg hF => ?_)
    refine pr_idiv dX6_reckon_58 hg ?_
    cases hF
    exact pr_iret dX6_reckon_59 rfl rfl rfl
  refine po_i hF (fun he hF => ?_) (fun he6 hF => ?_)
  · refine pr_tabI (off := 59) (tgt := 60) dX6_reckon_1 hc (by rw [he]; rfl) (by decide) ?_
    refine pr_iload_n dX6_reckon_60 rfl ?_
    refine pr_iload_n dX6_reckon_61 rfl ?_
    refine po_i hF (fun _ hF => nomatch hF) (fun hg hF => ?_)
    refine pr_irem dX6_reckon_62 hg ?_
    cases hF
    exact pr_iret dX6_reckon_63 rfl rfl rfl
  refine po_i hF (fun he hF => ?_) (fun he7 hF => ?_)
  · refine pr_tabI (off := 63) (tgt := 64) dX6_reckon_1 hc (by rw [he]; rfl) (by decide) ?_
    refine pr_iload_n dX6_reckon_64 rfl ?_
    refine pr_iload_n dX6_reckon_65 rfl ?_
    refine po_i hF (fun hc hF => ?_) (fun hc hF => ?_)
    · refine pr_icF (tgt := 73) dX6_reckon_66 (by decide) (pc_geF hc) ?_
      refine pr_iconst (v := 1) dX6_reckon_69 (kc_1) ?_
      refine pr_goto (tgt := 74) dX6_reckon_70 (by decide) ?_
      cases hF
      exact pr_iret dX6_reckon_74 rfl rfl rfl
    · refine pr_icT (tgt := 73) dX6_reckon_66 (by decide) (pc_geT hc) ?_
      refine pr_iconst (v := 0) dX6_reckon_73 (kc_0) ?_
      cases hF
      exact pr_iret dX6_reckon_74 rfl rfl rfl
  refine po_i hF (fun he hF => ?_) (fun he8 hF => ?_)
  · refine pr_tabI (off := 74) (tgt := 75) dX6_reckon_1 hc (by rw [he]; rfl) (by decide) ?_
    refine pr_iload_n dX6_reckon_75 rfl ?_
    refine pr_iload_n dX6_reckon_76 rfl ?_
    refine po_i hF (fun hc hF => ?_) (fun hc hF => ?_)
    · refine pr_icF (tgt := 84) dX6_reckon_77 (by decide) (pc_leF hc) ?_
      refine pr_iconst (v := 1) dX6_reckon_80 (kc_1) ?_
      refine pr_goto (tgt := 85) dX6_reckon_81 (by decide) ?_
      cases hF
      exact pr_iret dX6_reckon_85 rfl rfl rfl
    · refine pr_icT (tgt := 84) dX6_reckon_77 (by decide) (pc_leT hc) ?_
      refine pr_iconst (v := 0) dX6_reckon_84 (kc_0) ?_
      cases hF
      exact pr_iret dX6_reckon_85 rfl rfl rfl
  cases hF

def L_X6_reckonsTo_16 : Nat → Nat → Int32 → Int32 → Int32 → Int32 → pm_H → Option ((Int32 × pm_H) ⊕ (pm_H))
  | 0, _, _, _, _, _, _ => none
  | n + 1, x0, x2, x3, x4, x5, h =>
    if x5 < x2 then
      (pm_fR [(5, 28)] h x0).bind fun v1 =>
      (pm_ai 0 h v1 x5).bind fun v2 =>
      (pm_fR [(5, 28)] h x0).bind fun v3 =>
      (pm_ai 0 h v3 x5).bind fun v4 =>
      if (v2 / 1048576) = 0 then
        (pm_fR [(5, 33)] h x0).bind fun v5 =>
        if (v2 / 1048576) = 0 then
          (pm_si 0 h v5 x3 (pm_rem v4 1048576)).bind fun h9 =>
          L_X6_reckonsTo_16 n x0 x2 (x3 + 1) x4 (x5 + 1) h9
        else
          (pm_fR [(5, 34)] h x0).bind fun v6 =>
          (pm_ai 0 h v6 (pm_rem v4 1048576)).bind fun v7 =>
          (pm_si 0 h v5 x3 v7).bind fun h8 =>
          L_X6_reckonsTo_16 n x0 x2 (x3 + 1) x4 (x5 + 1) h8
      else
      if (v2 / 1048576) = 1 then
        (pm_fR [(5, 33)] h x0).bind fun v45 =>
        if (v2 / 1048576) = 0 then
          (pm_si 0 h v45 x3 (pm_rem v4 1048576)).bind fun h49 =>
          L_X6_reckonsTo_16 n x0 x2 (x3 + 1) x4 (x5 + 1) h49
        else
          (pm_fR [(5, 34)] h x0).bind fun v46 =>
          (pm_ai 0 h v46 (pm_rem v4 1048576)).bind fun v47 =>
          (pm_si 0 h v45 x3 v47).bind fun h48 =>
          L_X6_reckonsTo_16 n x0 x2 (x3 + 1) x4 (x5 + 1) h48
      else
      if (v2 / 1048576) = 10 then
        (pm_fR [(5, 33)] h x0).bind fun v41 =>
        (pm_fR [(5, 33)] h x0).bind fun v42 =>
        (pm_ai 0 h v42 (x3 - 1)).bind fun v43 =>
        (pm_si 0 h v41 (x3 - 1) (1 - v43)).bind fun h44 =>
        L_X6_reckonsTo_16 n x0 x2 x3 x4 (x5 + 1) h44
      else
      if (v2 / 1048576) = 11 then
        (pm_fR [(5, 33)] h x0).bind fun v10 =>
        (pm_ai 0 h v10 (x3 - 1)).bind fun v11 =>
        ((
          if (v2 / 1048576) = 12 then
            some 1
          else
            some 0
        ) : Option (Int32)).bind fun q12 =>
        if v11 = q12 then
          L_X6_reckonsTo_16 n x0 x2 x3 x4 (x4 + (pm_rem v4 1048576)) h
        else
          L_X6_reckonsTo_16 n x0 x2 (x3 - 1) x4 (x5 + 1) h
      else
      if (v2 / 1048576) = 12 then
        (pm_fR [(5, 33)] h x0).bind fun v38 =>
        (pm_ai 0 h v38 (x3 - 1)).bind fun v39 =>
        ((
          if (v2 / 1048576) = 12 then
            some 1
          else
            some 0
        ) : Option (Int32)).bind fun q40 =>
        if v39 = q40 then
          L_X6_reckonsTo_16 n x0 x2 x3 x4 (x4 + (pm_rem v4 1048576)) h
        else
          L_X6_reckonsTo_16 n x0 x2 (x3 - 1) x4 (x5 + 1) h
      else
      if (v2 / 1048576) = 5 then
        (pm_fR [(5, 33)] h x0).bind fun v13 =>
        (pm_ai 0 h v13 (x3 - 1)).bind fun v14 =>
        if v14 = 0 then
          some (.inl (0, h))
        else
          (pm_fR [(5, 33)] h x0).bind fun v15 =>
          (pm_fR [(5, 33)] h x0).bind fun v16 =>
          (pm_ai 0 h v16 ((x3 - 1) - 1)).bind fun v17 =>
          (pm_fR [(5, 33)] h x0).bind fun v18 =>
          (pm_ai 0 h v18 (x3 - 1)).bind fun v19 =>
          (F_X6_reckon (v2 / 1048576) v17 v19).bind fun q20 =>
          (pm_si 0 h v15 ((x3 - 1) - 1) q20).bind fun h21 =>
          L_X6_reckonsTo_16 n x0 x2 (x3 - 1) x4 (x5 + 1) h21
      else
      if (v2 / 1048576) = 6 then
        (pm_fR [(5, 33)] h x0).bind fun v29 =>
        (pm_ai 0 h v29 (x3 - 1)).bind fun v30 =>
        if v30 = 0 then
          some (.inl (0, h))
        else
          (pm_fR [(5, 33)] h x0).bind fun v31 =>
          (pm_fR [(5, 33)] h x0).bind fun v32 =>
          (pm_ai 0 h v32 ((x3 - 1) - 1)).bind fun v33 =>
          (pm_fR [(5, 33)] h x0).bind fun v34 =>
          (pm_ai 0 h v34 (x3 - 1)).bind fun v35 =>
          (F_X6_reckon (v2 / 1048576) v33 v35).bind fun q36 =>
          (pm_si 0 h v31 ((x3 - 1) - 1) q36).bind fun h37 =>
          L_X6_reckonsTo_16 n x0 x2 (x3 - 1) x4 (x5 + 1) h37
      else
        (pm_fR [(5, 33)] h x0).bind fun v22 =>
        (pm_fR [(5, 33)] h x0).bind fun v23 =>
        (pm_ai 0 h v23 ((x3 - 1) - 1)).bind fun v24 =>
        (pm_fR [(5, 33)] h x0).bind fun v25 =>
        (pm_ai 0 h v25 (x3 - 1)).bind fun v26 =>
        (F_X6_reckon (v2 / 1048576) v24 v26).bind fun q27 =>
        (pm_si 0 h v22 ((x3 - 1) - 1) q27).bind fun h28 =>
        L_X6_reckonsTo_16 n x0 x2 (x3 - 1) x4 (x5 + 1) h28
    else
      some (.inr h)
theorem ok_L_X6_reckonsTo_16 {d : Nat} : ∀ (n : Nat) {x0 : Nat} {x2 : Int32} {x3 : Int32} {x4 : Int32} {x5 : Int32} {w1 w6 w7 : Value} {h : pm_H} {q : (Int32 × pm_H) ⊕ (pm_H)} {res : Option Value × pm_H}, L_X6_reckonsTo_16 n x0 x2 x3 x4 x5 h = some q → pm_nolong w1 = true → pm_nolong w6 = true → pm_nolong w7 = true → (∀ r, q = .inl r → res = (some (.int r.1), r.2)) → (∀ e, q = .inr e → ∀ z3 : Value, pm_nolong z3 = true → ∀ z5 : Value, pm_nolong z5 = true → ∀ z6 : Value, pm_nolong z6 = true → ∀ z7 : Value, pm_nolong z7 = true → pm_E (d + 1) 6 cX6_reckonsTo (some .int) 233 [.ref x0, w1, .int x2, z3, .int x4, z5, z6, z7] [] e res) → pm_E (d + 1) 6 cX6_reckonsTo (some .int) 16 [.ref x0, w1, .int x2, .int x3, .int x4, .int x5, w6, w7] [] h res := by
  intro n
  induction n with
  | zero =>
    intro x0 x2 x3 x4 x5 w1 w6 w7 h q res hF hw1 hw6 hw7 hr hk
    rw [L_X6_reckonsTo_16] at hF
    cases hF
  | succ n ih =>
    intro x0 x2 x3 x4 x5 w1 w6 w7 h q res hF hw1 hw6 hw7 hr hk
    rw [L_X6_reckonsTo_16] at hF
    refine pr_iload dX6_reckonsTo_16 rfl ?_
    refine pr_iload_n dX6_reckonsTo_18 rfl ?_
    refine po_i hF (fun hc hF => ?_) (fun hc hF => ?_)
    · refine pr_icF (tgt := 233) dX6_reckonsTo_19 (by decide) (pc_geF hc) ?_
      refine pr_aload_n dX6_reckonsTo_22 rfl ?_
      obtain ⟨v1, hv1, hF⟩ := po_b hF
      refine pr_getR dX6_reckonsTo_23 tf_6_53 (hv1) ?_
      refine pr_iload dX6_reckonsTo_26 rfl ?_
      obtain ⟨v2, hv2, hF⟩ := po_b hF
      refine pr_iald dX6_reckonsTo_28 (hv2) ?_
      refine pr_ldc (v := 1048576) dX6_reckonsTo_29 rfl ?_
      refine pr_idiv dX6_reckonsTo_31 (by decide) ?_
      refine pr_istore (L' := [.ref x0, w1, .int x2, .int x3, .int x4, .int x5, .int (v2 / 1048576), w7]) dX6_reckonsTo_32 rfl ?_
      refine pr_aload_n dX6_reckonsTo_34 rfl ?_
      obtain ⟨v3, hv3, hF⟩ := po_b hF
      refine pr_getR dX6_reckonsTo_35 tf_6_53 (hv3) ?_
      refine pr_iload dX6_reckonsTo_38 rfl ?_
      obtain ⟨v4, hv4, hF⟩ := po_b hF
      refine pr_iald dX6_reckonsTo_40 (hv4) ?_
      refine pr_ldc (v := 1048576) dX6_reckonsTo_41 rfl ?_
      refine pr_irem dX6_reckonsTo_43 (by decide) ?_
      refine pr_istore (L' := [.ref x0, w1, .int x2, .int x3, .int x4, .int x5, .int (v2 / 1048576), .int (pm_rem v4 1048576)]) dX6_reckonsTo_44 rfl ?_
      refine pr_iload dX6_reckonsTo_46 rfl ?_
      refine pr_iconst (v := 1) dX6_reckonsTo_48 (kc_1) ?_
      refine pr_iadd dX6_reckonsTo_49 ?_
      refine pr_istore (L' := [.ref x0, w1, .int x2, .int x3, .int x4, .int (x5 + 1), .int (v2 / 1048576), .int (pm_rem v4 1048576)]) dX6_reckonsTo_50 rfl ?_
      refine pr_iload dX6_reckonsTo_52 rfl ?_
      refine po_i hF (fun hc hF => ?_) (fun hc hF => ?_)
      · refine pr_ifT (tgt := 63) dX6_reckonsTo_54 (by decide) (pc_eqT hc) ?_
        refine pr_aload_n dX6_reckonsTo_63 rfl ?_
        obtain ⟨v5, hv5, hF⟩ := po_b hF
        refine pr_getR dX6_reckonsTo_64 tf_6_68 (hv5) ?_
        refine pr_iload_n dX6_reckonsTo_67 rfl ?_
        refine pr_iload dX6_reckonsTo_68 rfl ?_
        refine po_i hF (fun hc hF => ?_) (fun hc hF => ?_)
        · refine pr_ifF (tgt := 78) dX6_reckonsTo_70 (by decide) (pc_neF hc) ?_
          refine pr_iload dX6_reckonsTo_73 rfl ?_
          refine pr_goto (tgt := 85) dX6_reckonsTo_75 (by decide) ?_
          obtain ⟨h9, hh9, hF⟩ := po_b hF
          refine pr_iast dX6_reckonsTo_85 (hh9) ?_
          refine pr_iload_n dX6_reckonsTo_86 rfl ?_
          refine pr_iconst (v := 1) dX6_reckonsTo_87 (kc_1) ?_
          refine pr_iadd dX6_reckonsTo_88 ?_
          refine pr_istore_n (L' := [.ref x0, w1, .int x2, .int (x3 + 1), .int x4, .int (x5 + 1), .int (v2 / 1048576), .int (pm_rem v4 1048576)]) dX6_reckonsTo_89 rfl ?_
          refine pr_goto (tgt := 230) dX6_reckonsTo_90 (by decide) ?_
          refine pr_goto (tgt := 16) dX6_reckonsTo_230 (by decide) ?_
          exact ih hF hw1 rfl rfl hr hk
        · refine pr_ifT (tgt := 78) dX6_reckonsTo_70 (by decide) (pc_neT hc) ?_
          refine pr_aload_n dX6_reckonsTo_78 rfl ?_
          obtain ⟨v6, hv6, hF⟩ := po_b hF
          refine pr_getR dX6_reckonsTo_79 tf_6_71 (hv6) ?_
          refine pr_iload dX6_reckonsTo_82 rfl ?_
          obtain ⟨v7, hv7, hF⟩ := po_b hF
          refine pr_iald dX6_reckonsTo_84 (hv7) ?_
          obtain ⟨h8, hh8, hF⟩ := po_b hF
          refine pr_iast dX6_reckonsTo_85 (hh8) ?_
          refine pr_iload_n dX6_reckonsTo_86 rfl ?_
          refine pr_iconst (v := 1) dX6_reckonsTo_87 (kc_1) ?_
          refine pr_iadd dX6_reckonsTo_88 ?_
          refine pr_istore_n (L' := [.ref x0, w1, .int x2, .int (x3 + 1), .int x4, .int (x5 + 1), .int (v2 / 1048576), .int (pm_rem v4 1048576)]) dX6_reckonsTo_89 rfl ?_
          refine pr_goto (tgt := 230) dX6_reckonsTo_90 (by decide) ?_
          refine pr_goto (tgt := 16) dX6_reckonsTo_230 (by decide) ?_
          exact ih hF hw1 rfl rfl hr hk
      · refine pr_ifF (tgt := 63) dX6_reckonsTo_54 (by decide) (pc_eqF hc) ?_
        refine pr_iload dX6_reckonsTo_57 rfl ?_
        refine pr_iconst (v := 1) dX6_reckonsTo_59 (kc_1) ?_
        refine po_i hF (fun hc hF => ?_) (fun hc hF => ?_)
        · refine pr_icF (tgt := 93) dX6_reckonsTo_60 (by decide) (pc_neF hc) ?_
          refine pr_aload_n dX6_reckonsTo_63 rfl ?_
          obtain ⟨v45, hv45, hF⟩ := po_b hF
          refine pr_getR dX6_reckonsTo_64 tf_6_68 (hv45) ?_
          refine pr_iload_n dX6_reckonsTo_67 rfl ?_
          refine pr_iload dX6_reckonsTo_68 rfl ?_
          refine po_i hF (fun hc hF => ?_) (fun hc hF => ?_)
          · refine pr_ifF (tgt := 78) dX6_reckonsTo_70 (by decide) (pc_neF hc) ?_
            refine pr_iload dX6_reckonsTo_73 rfl ?_
            refine pr_goto (tgt := 85) dX6_reckonsTo_75 (by decide) ?_
            obtain ⟨h49, hh49, hF⟩ := po_b hF
            refine pr_iast dX6_reckonsTo_85 (hh49) ?_
            refine pr_iload_n dX6_reckonsTo_86 rfl ?_
            refine pr_iconst (v := 1) dX6_reckonsTo_87 (kc_1) ?_
            refine pr_iadd dX6_reckonsTo_88 ?_
            refine pr_istore_n (L' := [.ref x0, w1, .int x2, .int (x3 + 1), .int x4, .int (x5 + 1), .int (v2 / 1048576), .int (pm_rem v4 1048576)]) dX6_reckonsTo_89 rfl ?_
            refine pr_goto (tgt := 230) dX6_reckonsTo_90 (by decide) ?_
            refine pr_goto (tgt := 16) dX6_reckonsTo_230 (by decide) ?_
            exact ih hF hw1 rfl rfl hr hk
          · refine pr_ifT (tgt := 78) dX6_reckonsTo_70 (by decide) (pc_neT hc) ?_
            refine pr_aload_n dX6_reckonsTo_78 rfl ?_
            obtain ⟨v46, hv46, hF⟩ := po_b hF
            refine pr_getR dX6_reckonsTo_79 tf_6_71 (hv46) ?_
            refine pr_iload dX6_reckonsTo_82 rfl ?_
            obtain ⟨v47, hv47, hF⟩ := po_b hF
            refine pr_iald dX6_reckonsTo_84 (hv47) ?_
            obtain ⟨h48, hh48, hF⟩ := po_b hF
            refine pr_iast dX6_reckonsTo_85 (hh48) ?_
            refine pr_iload_n dX6_reckonsTo_86 rfl ?_
            refine pr_iconst (v := 1) dX6_reckonsTo_87 (kc_1) ?_
            refine pr_iadd dX6_reckonsTo_88 ?_
            refine pr_istore_n (L' := [.ref x0, w1, .int x2, .int (x3 + 1), .int x4, .int (x5 + 1), .int (v2 / 1048576), .int (pm_rem v4 1048576)]) dX6_reckonsTo_89 rfl ?_
            refine pr_goto (tgt := 230) dX6_reckonsTo_90 (by decide) ?_
            refine pr_goto (tgt := 16) dX6_reckonsTo_230 (by decide) ?_
            exact ih hF hw1 rfl rfl hr hk
        · refine pr_icT (tgt := 93) dX6_reckonsTo_60 (by decide) (pc_neT hc) ?_
          refine pr_iload dX6_reckonsTo_93 rfl ?_
          refine pr_bipush (v := 10) dX6_reckonsTo_95 (kb_10) ?_
          refine po_i hF (fun hc hF => ?_) (fun hc hF => ?_)
          · refine pr_icF (tgt := 121) dX6_reckonsTo_97 (by decide) (pc_neF hc) ?_
            refine pr_aload_n dX6_reckonsTo_100 rfl ?_
            obtain ⟨v41, hv41, hF⟩ := po_b hF
            refine pr_getR dX6_reckonsTo_101 tf_6_68 (hv41) ?_
            refine pr_iload_n dX6_reckonsTo_104 rfl ?_
            refine pr_iconst (v := 1) dX6_reckonsTo_105 (kc_1) ?_
            refine pr_isub dX6_reckonsTo_106 ?_
            refine pr_iconst (v := 1) dX6_reckonsTo_107 (kc_1) ?_
            refine pr_aload_n dX6_reckonsTo_108 rfl ?_
            obtain ⟨v42, hv42, hF⟩ := po_b hF
            refine pr_getR dX6_reckonsTo_109 tf_6_68 (hv42) ?_
            refine pr_iload_n dX6_reckonsTo_112 rfl ?_
            refine pr_iconst (v := 1) dX6_reckonsTo_113 (kc_1) ?_
            refine pr_isub dX6_reckonsTo_114 ?_
            obtain ⟨v43, hv43, hF⟩ := po_b hF
            refine pr_iald dX6_reckonsTo_115 (hv43) ?_
            refine pr_isub dX6_reckonsTo_116 ?_
            obtain ⟨h44, hh44, hF⟩ := po_b hF
            refine pr_iast dX6_reckonsTo_117 (hh44) ?_
            refine pr_goto (tgt := 230) dX6_reckonsTo_118 (by decide) ?_
            refine pr_goto (tgt := 16) dX6_reckonsTo_230 (by decide) ?_
            exact ih hF hw1 rfl rfl hr hk
          · refine pr_icT (tgt := 121) dX6_reckonsTo_97 (by decide) (pc_neT hc) ?_
            refine pr_iload dX6_reckonsTo_121 rfl ?_
            refine pr_bipush (v := 11) dX6_reckonsTo_123 (kb_11) ?_
            refine po_i hF (fun hc hF => ?_) (fun hc hF => ?_)
            · refine pr_icT (tgt := 135) dX6_reckonsTo_125 (by decide) (pc_eqT hc) ?_
              refine pr_aload_n dX6_reckonsTo_135 rfl ?_
              obtain ⟨v10, hv10, hF⟩ := po_b hF
              refine pr_getR dX6_reckonsTo_136 tf_6_68 (hv10) ?_
              refine pr_iload_n dX6_reckonsTo_139 rfl ?_
              refine pr_iconst (v := 1) dX6_reckonsTo_140 (kc_1) ?_
              refine pr_isub dX6_reckonsTo_141 ?_
              obtain ⟨v11, hv11, hF⟩ := po_b hF
              refine pr_iald dX6_reckonsTo_142 (hv11) ?_
              refine pr_iload dX6_reckonsTo_143 rfl ?_
              refine pr_bipush (v := 12) dX6_reckonsTo_145 (kb_12) ?_
              obtain ⟨q12, hq12, hF⟩ := po_b hF
              have J155 : pm_E (d + 1) 6 cX6_reckonsTo (some .int) 155 [.ref x0, w1, .int x2, .int x3, .int x4, .int (x5 + 1), .int (v2 / 1048576), .int (pm_rem v4 1048576)] [.int q12, .int v11] h res := by
                refine po_i hF (fun hc hF => ?_) (fun hc hF => ?_)
                · refine pr_icF (tgt := 168) dX6_reckonsTo_155 (by decide) (pc_neF hc) ?_
                  refine pr_iload dX6_reckonsTo_158 rfl ?_
                  refine pr_iload dX6_reckonsTo_160 rfl ?_
                  refine pr_iadd dX6_reckonsTo_162 ?_
                  refine pr_istore (L' := [.ref x0, w1, .int x2, .int x3, .int x4, .int (x4 + (pm_rem v4 1048576)), .int (v2 / 1048576), .int (pm_rem v4 1048576)]) dX6_reckonsTo_163 rfl ?_
                  refine pr_goto (tgt := 230) dX6_reckonsTo_165 (by decide) ?_
                  refine pr_goto (tgt := 16) dX6_reckonsTo_230 (by decide) ?_
                  exact ih hF hw1 rfl rfl hr hk
                · refine pr_icT (tgt := 168) dX6_reckonsTo_155 (by decide) (pc_neT hc) ?_
                  refine pr_iload_n dX6_reckonsTo_168 rfl ?_
                  refine pr_iconst (v := 1) dX6_reckonsTo_169 (kc_1) ?_
                  refine pr_isub dX6_reckonsTo_170 ?_
                  refine pr_istore_n (L' := [.ref x0, w1, .int x2, .int (x3 - 1), .int x4, .int (x5 + 1), .int (v2 / 1048576), .int (pm_rem v4 1048576)]) dX6_reckonsTo_171 rfl ?_
                  refine pr_goto (tgt := 230) dX6_reckonsTo_172 (by decide) ?_
                  refine pr_goto (tgt := 16) dX6_reckonsTo_230 (by decide) ?_
                  exact ih hF hw1 rfl rfl hr hk
              clear hF
              have hF := hq12
              refine po_i hF (fun hc hF => ?_) (fun hc hF => ?_)
              · refine pr_icF (tgt := 154) dX6_reckonsTo_147 (by decide) (pc_neF hc) ?_
                refine pr_iconst (v := 1) dX6_reckonsTo_150 (kc_1) ?_
                refine pr_goto (tgt := 155) dX6_reckonsTo_151 (by decide) ?_
                cases hF
                exact J155
              · refine pr_icT (tgt := 154) dX6_reckonsTo_147 (by decide) (pc_neT hc) ?_
                refine pr_iconst (v := 0) dX6_reckonsTo_154 (kc_0) ?_
                cases hF
                exact J155
            · refine pr_icF (tgt := 135) dX6_reckonsTo_125 (by decide) (pc_eqF hc) ?_
              refine pr_iload dX6_reckonsTo_128 rfl ?_
              refine pr_bipush (v := 12) dX6_reckonsTo_130 (kb_12) ?_
              refine po_i hF (fun hc hF => ?_) (fun hc hF => ?_)
              · refine pr_icF (tgt := 175) dX6_reckonsTo_132 (by decide) (pc_neF hc) ?_
                refine pr_aload_n dX6_reckonsTo_135 rfl ?_
                obtain ⟨v38, hv38, hF⟩ := po_b hF
                refine pr_getR dX6_reckonsTo_136 tf_6_68 (hv38) ?_
                refine pr_iload_n dX6_reckonsTo_139 rfl ?_
                refine pr_iconst (v := 1) dX6_reckonsTo_140 (kc_1) ?_
                refine pr_isub dX6_reckonsTo_141 ?_
                obtain ⟨v39, hv39, hF⟩ := po_b hF
                refine pr_iald dX6_reckonsTo_142 (hv39) ?_
                refine pr_iload dX6_reckonsTo_143 rfl ?_
                refine pr_bipush (v := 12) dX6_reckonsTo_145 (kb_12) ?_
                obtain ⟨q40, hq40, hF⟩ := po_b hF
                have J155 : pm_E (d + 1) 6 cX6_reckonsTo (some .int) 155 [.ref x0, w1, .int x2, .int x3, .int x4, .int (x5 + 1), .int (v2 / 1048576), .int (pm_rem v4 1048576)] [.int q40, .int v39] h res := by
                  refine po_i hF (fun hc hF => ?_) (fun hc hF => ?_)
                  · refine pr_icF (tgt := 168) dX6_reckonsTo_155 (by decide) (pc_neF hc) ?_
                    refine pr_iload dX6_reckonsTo_158 rfl ?_
                    refine pr_iload dX6_reckonsTo_160 rfl ?_
                    refine pr_iadd dX6_reckonsTo_162 ?_
                    refine pr_istore (L' := [.ref x0, w1, .int x2, .int x3, .int x4, .int (x4 + (pm_rem v4 1048576)), .int (v2 / 1048576), .int (pm_rem v4 1048576)]) dX6_reckonsTo_163 rfl ?_
                    refine pr_goto (tgt := 230) dX6_reckonsTo_165 (by decide) ?_
                    refine pr_goto (tgt := 16) dX6_reckonsTo_230 (by decide) ?_
                    exact ih hF hw1 rfl rfl hr hk
                  · refine pr_icT (tgt := 168) dX6_reckonsTo_155 (by decide) (pc_neT hc) ?_
                    refine pr_iload_n dX6_reckonsTo_168 rfl ?_
                    refine pr_iconst (v := 1) dX6_reckonsTo_169 (kc_1) ?_
                    refine pr_isub dX6_reckonsTo_170 ?_
                    refine pr_istore_n (L' := [.ref x0, w1, .int x2, .int (x3 - 1), .int x4, .int (x5 + 1), .int (v2 / 1048576), .int (pm_rem v4 1048576)]) dX6_reckonsTo_171 rfl ?_
                    refine pr_goto (tgt := 230) dX6_reckonsTo_172 (by decide) ?_
                    refine pr_goto (tgt := 16) dX6_reckonsTo_230 (by decide) ?_
                    exact ih hF hw1 rfl rfl hr hk
                clear hF
                have hF := hq40
                refine po_i hF (fun hc hF => ?_) (fun hc hF => ?_)
                · refine pr_icF (tgt := 154) dX6_reckonsTo_147 (by decide) (pc_neF hc) ?_
                  refine pr_iconst (v := 1) dX6_reckonsTo_150 (kc_1) ?_
                  refine pr_goto (tgt := 155) dX6_reckonsTo_151 (by decide) ?_
                  cases hF
                  exact J155
                · refine pr_icT (tgt := 154) dX6_reckonsTo_147 (by decide) (pc_neT hc) ?_
                  refine pr_iconst (v := 0) dX6_reckonsTo_154 (kc_0) ?_
                  cases hF
                  exact J155
              · refine pr_icT (tgt := 175) dX6_reckonsTo_132 (by decide) (pc_neT hc) ?_
                refine pr_iload_n dX6_reckonsTo_175 rfl ?_
                refine pr_iconst (v := 1) dX6_reckonsTo_176 (kc_1) ?_
                refine pr_isub dX6_reckonsTo_177 ?_
                refine pr_istore_n (L' := [.ref x0, w1, .int x2, .int (x3 - 1), .int x4, .int (x5 + 1), .int (v2 / 1048576), .int (pm_rem v4 1048576)]) dX6_reckonsTo_178 rfl ?_
                refine pr_iload dX6_reckonsTo_179 rfl ?_
                refine pr_iconst (v := 5) dX6_reckonsTo_181 (kc_5) ?_
                refine po_i hF (fun hc hF => ?_) (fun hc hF => ?_)
                · refine pr_icT (tgt := 192) dX6_reckonsTo_182 (by decide) (pc_eqT hc) ?_
                  refine pr_aload_n dX6_reckonsTo_192 rfl ?_
                  obtain ⟨v13, hv13, hF⟩ := po_b hF
                  refine pr_getR dX6_reckonsTo_193 tf_6_68 (hv13) ?_
                  refine pr_iload_n dX6_reckonsTo_196 rfl ?_
                  obtain ⟨v14, hv14, hF⟩ := po_b hF
                  refine pr_iald dX6_reckonsTo_197 (hv14) ?_
                  refine po_i hF (fun hc hF => ?_) (fun hc hF => ?_)
                  · refine pr_ifF (tgt := 203) dX6_reckonsTo_198 (by decide) (pc_neF hc) ?_
                    refine pr_iconst (v := 0) dX6_reckonsTo_201 (kc_0) ?_
                    cases hF
                    exact pr_iret dX6_reckonsTo_202 rfl rfl (hr _ rfl)
                  · refine pr_ifT (tgt := 203) dX6_reckonsTo_198 (by decide) (pc_neT hc) ?_
                    refine pr_aload_n dX6_reckonsTo_203 rfl ?_
                    obtain ⟨v15, hv15, hF⟩ := po_b hF
                    refine pr_getR dX6_reckonsTo_204 tf_6_68 (hv15) ?_
                    refine pr_iload_n dX6_reckonsTo_207 rfl ?_
                    refine pr_iconst (v := 1) dX6_reckonsTo_208 (kc_1) ?_
                    refine pr_isub dX6_reckonsTo_209 ?_
                    refine pr_iload dX6_reckonsTo_210 rfl ?_
                    refine pr_aload_n dX6_reckonsTo_212 rfl ?_
                    obtain ⟨v16, hv16, hF⟩ := po_b hF
                    refine pr_getR dX6_reckonsTo_213 tf_6_68 (hv16) ?_
                    refine pr_iload_n dX6_reckonsTo_216 rfl ?_
                    refine pr_iconst (v := 1) dX6_reckonsTo_217 (kc_1) ?_
                    refine pr_isub dX6_reckonsTo_218 ?_
                    obtain ⟨v17, hv17, hF⟩ := po_b hF
                    refine pr_iald dX6_reckonsTo_219 (hv17) ?_
                    refine pr_aload_n dX6_reckonsTo_220 rfl ?_
                    obtain ⟨v18, hv18, hF⟩ := po_b hF
                    refine pr_getR dX6_reckonsTo_221 tf_6_68 (hv18) ?_
                    refine pr_iload_n dX6_reckonsTo_224 rfl ?_
                    obtain ⟨v19, hv19, hF⟩ := po_b hF
                    refine pr_iald dX6_reckonsTo_225 (hv19) ?_
                    obtain ⟨q20, hq20, hF⟩ := po_b hF
                    refine pr_S dX6_reckonsTo_226 cs_6_219 (as := [.int (v2 / 1048576), .int v17, .int v19]) (rest := [.int ((x3 - 1) - 1), .ref v15]) rfl rfl rfl (lb rfl) (lb rfl) (lb rfl) (ok_F_X6_reckon hq20) ?_
                    obtain ⟨h21, hh21, hF⟩ := po_b hF
                    refine pr_iast dX6_reckonsTo_229 (hh21) ?_
                    refine pr_goto (tgt := 16) dX6_reckonsTo_230 (by decide) ?_
                    exact ih hF hw1 rfl rfl hr hk
                · refine pr_icF (tgt := 192) dX6_reckonsTo_182 (by decide) (pc_eqF hc) ?_
                  refine pr_iload dX6_reckonsTo_185 rfl ?_
                  refine pr_bipush (v := 6) dX6_reckonsTo_187 (kb_6) ?_
                  refine po_i hF (fun hc hF => ?_) (fun hc hF => ?_)
                  · refine pr_icF (tgt := 203) dX6_reckonsTo_189 (by decide) (pc_neF hc) ?_
                    refine pr_aload_n dX6_reckonsTo_192 rfl ?_
                    obtain ⟨v29, hv29, hF⟩ := po_b hF
                    refine pr_getR dX6_reckonsTo_193 tf_6_68 (hv29) ?_
                    refine pr_iload_n dX6_reckonsTo_196 rfl ?_
                    obtain ⟨v30, hv30, hF⟩ := po_b hF
                    refine pr_iald dX6_reckonsTo_197 (hv30) ?_
                    refine po_i hF (fun hc hF => ?_) (fun hc hF => ?_)
                    · refine pr_ifF (tgt := 203) dX6_reckonsTo_198 (by decide) (pc_neF hc) ?_
                      refine pr_iconst (v := 0) dX6_reckonsTo_201 (kc_0) ?_
                      cases hF
                      exact pr_iret dX6_reckonsTo_202 rfl rfl (hr _ rfl)
                    · refine pr_ifT (tgt := 203) dX6_reckonsTo_198 (by decide) (pc_neT hc) ?_
                      refine pr_aload_n dX6_reckonsTo_203 rfl ?_
                      obtain ⟨v31, hv31, hF⟩ := po_b hF
                      refine pr_getR dX6_reckonsTo_204 tf_6_68 (hv31) ?_
                      refine pr_iload_n dX6_reckonsTo_207 rfl ?_
                      refine pr_iconst (v := 1) dX6_reckonsTo_208 (kc_1) ?_
                      refine pr_isub dX6_reckonsTo_209 ?_
                      refine pr_iload dX6_reckonsTo_210 rfl ?_
                      refine pr_aload_n dX6_reckonsTo_212 rfl ?_
                      obtain ⟨v32, hv32, hF⟩ := po_b hF
                      refine pr_getR dX6_reckonsTo_213 tf_6_68 (hv32) ?_
                      refine pr_iload_n dX6_reckonsTo_216 rfl ?_
                      refine pr_iconst (v := 1) dX6_reckonsTo_217 (kc_1) ?_
                      refine pr_isub dX6_reckonsTo_218 ?_
                      obtain ⟨v33, hv33, hF⟩ := po_b hF
                      refine pr_iald dX6_reckonsTo_219 (hv33) ?_
                      refine pr_aload_n dX6_reckonsTo_220 rfl ?_
                      obtain ⟨v34, hv34, hF⟩ := po_b hF
                      refine pr_getR dX6_reckonsTo_221 tf_6_68 (hv34) ?_
                      refine pr_iload_n dX6_reckonsTo_224 rfl ?_
                      obtain ⟨v35, hv35, hF⟩ := po_b hF
                      refine pr_iald dX6_reckonsTo_225 (hv35) ?_
                      obtain ⟨q36, hq36, hF⟩ := po_b hF
                      refine pr_S dX6_reckonsTo_226 cs_6_219 (as := [.int (v2 / 1048576), .int v33, .int v35]) (rest := [.int ((x3 - 1) - 1), .ref v31]) rfl rfl rfl (lb rfl) (lb rfl) (lb rfl) (ok_F_X6_reckon hq36) ?_
                      obtain ⟨h37, hh37, hF⟩ := po_b hF
                      refine pr_iast dX6_reckonsTo_229 (hh37) ?_
                      refine pr_goto (tgt := 16) dX6_reckonsTo_230 (by decide) ?_
                      exact ih hF hw1 rfl rfl hr hk
                  · refine pr_icT (tgt := 203) dX6_reckonsTo_189 (by decide) (pc_neT hc) ?_
                    refine pr_aload_n dX6_reckonsTo_203 rfl ?_
                    obtain ⟨v22, hv22, hF⟩ := po_b hF
                    refine pr_getR dX6_reckonsTo_204 tf_6_68 (hv22) ?_
                    refine pr_iload_n dX6_reckonsTo_207 rfl ?_
                    refine pr_iconst (v := 1) dX6_reckonsTo_208 (kc_1) ?_
                    refine pr_isub dX6_reckonsTo_209 ?_
                    refine pr_iload dX6_reckonsTo_210 rfl ?_
                    refine pr_aload_n dX6_reckonsTo_212 rfl ?_
                    obtain ⟨v23, hv23, hF⟩ := po_b hF
                    refine pr_getR dX6_reckonsTo_213 tf_6_68 (hv23) ?_
                    refine pr_iload_n dX6_reckonsTo_216 rfl ?_
                    refine pr_iconst (v := 1) dX6_reckonsTo_217 (kc_1) ?_
                    refine pr_isub dX6_reckonsTo_218 ?_
                    obtain ⟨v24, hv24, hF⟩ := po_b hF
                    refine pr_iald dX6_reckonsTo_219 (hv24) ?_
                    refine pr_aload_n dX6_reckonsTo_220 rfl ?_
                    obtain ⟨v25, hv25, hF⟩ := po_b hF
                    refine pr_getR dX6_reckonsTo_221 tf_6_68 (hv25) ?_
                    refine pr_iload_n dX6_reckonsTo_224 rfl ?_
                    obtain ⟨v26, hv26, hF⟩ := po_b hF
                    refine pr_iald dX6_reckonsTo_225 (hv26) ?_
                    obtain ⟨q27, hq27, hF⟩ := po_b hF
                    refine pr_S dX6_reckonsTo_226 cs_6_219 (as := [.int (v2 / 1048576), .int v24, .int v26]) (rest := [.int ((x3 - 1) - 1), .ref v22]) rfl rfl rfl (lb rfl) (lb rfl) (lb rfl) (ok_F_X6_reckon hq27) ?_
                    obtain ⟨h28, hh28, hF⟩ := po_b hF
                    refine pr_iast dX6_reckonsTo_229 (hh28) ?_
                    refine pr_goto (tgt := 16) dX6_reckonsTo_230 (by decide) ?_
                    exact ih hF hw1 rfl rfl hr hk
    · refine pr_icT (tgt := 233) dX6_reckonsTo_19 (by decide) (pc_geT hc) ?_
      cases hF
      exact hk _ rfl _ rfl _ rfl _ hw6 _ hw7
def F_X6_reckonsTo (n : Nat) (h : pm_H) (a0 : Nat) (x1 : Int32) (x2 : Int32) : Option (Int32 × pm_H) :=
  (L_X6_reckonsTo_16 n a0 x2 0 (260 * (x1 / 260)) x1 h).bind fun q50 => po_s q50 (fun r => some r) fun e51 =>
  (pm_fR [(5, 33)] e51 a0).bind fun v52 =>
  (pm_ai 0 e51 v52 0).bind fun v53 =>
  some (v53, e51)
theorem ok_F_X6_reckonsTo {d n : Nat} {h : pm_H} {a0 : Nat} {x1 : Int32} {x2 : Int32} {q : Int32 × pm_H} (hF : F_X6_reckonsTo n h a0 x1 x2 = some q) : pm_E (d + 1) 6 cX6_reckonsTo (some .int) 0 [.ref a0, .int x1, .int x2, pm_D, pm_D, pm_D, pm_D, pm_D] [] h (some (.int q.1), q.2) := by
  unfold F_X6_reckonsTo at hF
  refine pr_iconst (v := 0) dX6_reckonsTo_0 (kc_0) ?_
  refine pr_istore_n (L' := [.ref a0, .int x1, .int x2, .int 0, pm_D, pm_D, pm_D, pm_D]) dX6_reckonsTo_1 rfl ?_
  refine pr_sipush (v := 260) dX6_reckonsTo_2 (ks_260) ?_
  refine pr_iload_n dX6_reckonsTo_5 rfl ?_
  refine pr_sipush (v := 260) dX6_reckonsTo_6 (ks_260) ?_
  refine pr_idiv dX6_reckonsTo_9 (by decide) ?_
  refine pr_imul dX6_reckonsTo_10 ?_
  refine pr_istore (L' := [.ref a0, .int x1, .int x2, .int 0, .int (260 * (x1 / 260)), pm_D, pm_D, pm_D]) dX6_reckonsTo_11 rfl ?_
  refine pr_iload_n dX6_reckonsTo_13 rfl ?_
  refine pr_istore (L' := [.ref a0, .int x1, .int x2, .int 0, .int (260 * (x1 / 260)), .int x1, pm_D, pm_D]) dX6_reckonsTo_14 rfl ?_
  obtain ⟨q50, hq50, hF⟩ := po_b hF
  refine ok_L_X6_reckonsTo_16 n hq50 rfl rfl rfl (fun r hq => ?_) (fun e51 hq z3 hz3 z5 hz5 z6 hz6 z7 hz7 => ?_)
  · subst hq
    replace hF := po_sl hF
    cases hF
    exact rfl
  subst hq
  replace hF := po_sr hF
  refine pr_aload_n dX6_reckonsTo_233 rfl ?_
  obtain ⟨v52, hv52, hF⟩ := po_b hF
  refine pr_getR dX6_reckonsTo_234 tf_6_68 (hv52) ?_
  refine pr_iconst (v := 0) dX6_reckonsTo_237 (kc_0) ?_
  obtain ⟨v53, hv53, hF⟩ := po_b hF
  refine pr_iald dX6_reckonsTo_238 (hv53) ?_
  cases hF
  exact pr_iret dX6_reckonsTo_239 rfl rfl rfl

def L_X6_holdsAny_2 : Nat → Nat → Int32 → Int32 → pm_H → Option ((Int32 × pm_H) ⊕ (pm_H))
  | 0, _, _, _, _ => none
  | n + 1, x0, x1, x2, h =>
    (pm_fI [(5, 21)] h x0).bind fun v1 =>
    if x2 < v1 then
      (pm_fR [(5, 29)] h x0).bind fun v2 =>
      (pm_ai 0 h v2 x2).bind fun v3 =>
      if v3 = x1 then
        (pm_fR [(5, 31)] h x0).bind fun v4 =>
        (pm_ai 0 h v4 x2).bind fun v5 =>
        (pm_fR [(5, 32)] h x0).bind fun v6 =>
        (pm_ai 0 h v6 x2).bind fun v7 =>
        (if pm_cl_ h x0 = some 5 then F_X6_reckonsTo n h x0 v5 v7 else none).bind fun q8 =>
        if q8.1 = 1 then
          some (.inl (1, q8.2))
        else
          L_X6_holdsAny_2 n x0 x1 (x2 + 1) q8.2
      else
        L_X6_holdsAny_2 n x0 x1 (x2 + 1) h
    else
      some (.inr h)
theorem ok_L_X6_holdsAny_2 {d : Nat} : ∀ (n : Nat) {x0 : Nat} {x1 : Int32} {x2 : Int32} {h : pm_H} {q : (Int32 × pm_H) ⊕ (pm_H)} {res : Option Value × pm_H}, L_X6_holdsAny_2 n x0 x1 x2 h = some q → (∀ r, q = .inl r → res = (some (.int r.1), r.2)) → (∀ e, q = .inr e → ∀ z2 : Value, pm_nolong z2 = true → pm_E (d + 2) 6 cX6_holdsAny (some .boolean) 48 [.ref x0, .int x1, z2] [] e res) → pm_E (d + 2) 6 cX6_holdsAny (some .boolean) 2 [.ref x0, .int x1, .int x2] [] h res := by
  intro n
  induction n with
  | zero =>
    intro x0 x1 x2 h q res hF hr hk
    rw [L_X6_holdsAny_2] at hF
    cases hF
  | succ n ih =>
    intro x0 x1 x2 h q res hF hr hk
    rw [L_X6_holdsAny_2] at hF
    refine pr_iload_n dX6_holdsAny_2 rfl ?_
    refine pr_aload_n dX6_holdsAny_3 rfl ?_
    obtain ⟨v1, hv1, hF⟩ := po_b hF
    refine pr_getI dX6_holdsAny_4 tf_6_216 (hv1) ?_
    refine po_i hF (fun hc hF => ?_) (fun hc hF => ?_)
    · refine pr_icF (tgt := 48) dX6_holdsAny_7 (by decide) (pc_geF hc) ?_
      refine pr_aload_n dX6_holdsAny_10 rfl ?_
      obtain ⟨v2, hv2, hF⟩ := po_b hF
      refine pr_getR dX6_holdsAny_11 tf_6_56 (hv2) ?_
      refine pr_iload_n dX6_holdsAny_14 rfl ?_
      obtain ⟨v3, hv3, hF⟩ := po_b hF
      refine pr_iald dX6_holdsAny_15 (hv3) ?_
      refine pr_iload_n dX6_holdsAny_16 rfl ?_
      refine po_i hF (fun hc hF => ?_) (fun hc hF => ?_)
      · refine pr_icF (tgt := 42) dX6_holdsAny_17 (by decide) (pc_neF hc) ?_
        refine pr_aload_n dX6_holdsAny_20 rfl ?_
        refine pr_aload_n dX6_holdsAny_21 rfl ?_
        obtain ⟨v4, hv4, hF⟩ := po_b hF
        refine pr_getR dX6_holdsAny_22 tf_6_62 (hv4) ?_
        refine pr_iload_n dX6_holdsAny_25 rfl ?_
        obtain ⟨v5, hv5, hF⟩ := po_b hF
        refine pr_iald dX6_holdsAny_26 (hv5) ?_
        refine pr_aload_n dX6_holdsAny_27 rfl ?_
        obtain ⟨v6, hv6, hF⟩ := po_b hF
        refine pr_getR dX6_holdsAny_28 tf_6_65 (hv6) ?_
        refine pr_iload_n dX6_holdsAny_31 rfl ?_
        obtain ⟨v7, hv7, hF⟩ := po_b hF
        refine pr_iald dX6_holdsAny_32 (hv7) ?_
        obtain ⟨q8, hq8, hF⟩ := po_b hF
        refine po_i hq8 (fun hcl hq => ?_) (fun _ hq => nomatch hq)
        refine pr_V (as := [.int v5, .int v7]) (rest := []) dX6_holdsAny_33 cv_6_223 hcl rfl rfl rfl rfl (lb rfl) (lb rfl) (lb rfl) (ok_F_X6_reckonsTo hq) ?_
        refine pr_iconst (v := 1) dX6_holdsAny_36 (kc_1) ?_
        refine po_i hF (fun hc hF => ?_) (fun hc hF => ?_)
        · refine pr_icF (tgt := 42) dX6_holdsAny_37 (by decide) (pc_neF hc) ?_
          refine pr_iconst (v := 1) dX6_holdsAny_40 (kc_1) ?_
          cases hF
          exact pr_iret dX6_holdsAny_41 rfl nb_1 (hr _ rfl)
        · refine pr_icT (tgt := 42) dX6_holdsAny_37 (by decide) (pc_neT hc) ?_
          refine pr_iinc (v := 1) (L' := [.ref x0, .int x1, .int (x2 + 1)]) dX6_holdsAny_42 rfl (kc_1) rfl ?_
          refine pr_goto (tgt := 2) dX6_holdsAny_45 (by decide) ?_
          exact ih hF hr hk
      · refine pr_icT (tgt := 42) dX6_holdsAny_17 (by decide) (pc_neT hc) ?_
        refine pr_iinc (v := 1) (L' := [.ref x0, .int x1, .int (x2 + 1)]) dX6_holdsAny_42 rfl (kc_1) rfl ?_
        refine pr_goto (tgt := 2) dX6_holdsAny_45 (by decide) ?_
        exact ih hF hr hk
    · refine pr_icT (tgt := 48) dX6_holdsAny_7 (by decide) (pc_geT hc) ?_
      cases hF
      exact hk _ rfl _ rfl
def F_X6_holdsAny (n : Nat) (h : pm_H) (a0 : Nat) (x1 : Int32) : Option (Int32 × pm_H) :=
  (L_X6_holdsAny_2 n a0 x1 0 h).bind fun q9 => po_s q9 (fun r => some r) fun e10 =>
  some (0, e10)
theorem ok_F_X6_holdsAny {d n : Nat} {h : pm_H} {a0 : Nat} {x1 : Int32} {q : Int32 × pm_H} (hF : F_X6_holdsAny n h a0 x1 = some q) : pm_E (d + 2) 6 cX6_holdsAny (some .boolean) 0 [.ref a0, .int x1, pm_D] [] h (some (.int q.1), q.2) := by
  unfold F_X6_holdsAny at hF
  refine pr_iconst (v := 0) dX6_holdsAny_0 (kc_0) ?_
  refine pr_istore_n (L' := [.ref a0, .int x1, .int 0]) dX6_holdsAny_1 rfl ?_
  obtain ⟨q9, hq9, hF⟩ := po_b hF
  refine ok_L_X6_holdsAny_2 n hq9 (fun r hq => ?_) (fun e10 hq z2 hz2 => ?_)
  · subst hq
    replace hF := po_sl hF
    cases hF
    exact rfl
  subst hq
  replace hF := po_sr hF
  refine pr_iconst (v := 0) dX6_holdsAny_48 (kc_0) ?_
  cases hF
  exact pr_iret dX6_holdsAny_49 rfl nb_0 rfl

def F_X6_friendsOf (h : pm_H) (a0 : Nat) (x1 : Int32) : Option (Int32) :=
  (pm_fI [(5, 7)] h a0).bind fun v1 =>
  (pm_fR [(5, 4)] h a0).bind fun v2 =>
  (pm_ai 0 h v2 x1).bind fun v3 =>
  some ((v1 &&& (v3 ^^^ (-1))) &&& ((pm_shl 1 x1) ^^^ (-1)))
theorem ok_F_X6_friendsOf {d : Nat} {h : pm_H} {a0 : Nat} {x1 : Int32} {q : Int32} (hF : F_X6_friendsOf h a0 x1 = some q) : pm_E (d + 0) 6 cX6_friendsOf (some .int) 0 [.ref a0, .int x1] [] h (some (.int q), h) := by
  unfold F_X6_friendsOf at hF
  refine pr_aload_n dX6_friendsOf_0 rfl ?_
  obtain ⟨v1, hv1, hF⟩ := po_b hF
  refine pr_getI dX6_friendsOf_1 tf_6_108 (hv1) ?_
  refine pr_aload_n dX6_friendsOf_4 rfl ?_
  obtain ⟨v2, hv2, hF⟩ := po_b hF
  refine pr_getR dX6_friendsOf_5 tf_6_22 (hv2) ?_
  refine pr_iload_n dX6_friendsOf_8 rfl ?_
  obtain ⟨v3, hv3, hF⟩ := po_b hF
  refine pr_iald dX6_friendsOf_9 (hv3) ?_
  refine pr_iconst (v := (-1)) dX6_friendsOf_10 (kc_m1) ?_
  refine pr_ixor dX6_friendsOf_11 ?_
  refine pr_iand dX6_friendsOf_12 ?_
  refine pr_iconst (v := 1) dX6_friendsOf_13 (kc_1) ?_
  refine pr_iload_n dX6_friendsOf_14 rfl ?_
  refine pr_ishl dX6_friendsOf_15 ?_
  refine pr_iconst (v := (-1)) dX6_friendsOf_16 (kc_m1) ?_
  refine pr_ixor dX6_friendsOf_17 ?_
  refine pr_iand dX6_friendsOf_18 ?_
  cases hF
  exact pr_iret dX6_friendsOf_19 rfl rfl rfl

def F_X6_apart (h : pm_H) (a0 : Nat) (x1 : Int32) (x2 : Int32) : Option (Int32) :=
  (pm_fR [(5, 3)] h a0).bind fun v1 =>
  (pm_ai 0 h v1 x1).bind fun v2 =>
  (pm_fR [(5, 3)] h a0).bind fun v3 =>
  (pm_ai 0 h v3 x2).bind fun v4 =>
  (F_X6_size (v2 - v4)).bind fun q5 =>
  some q5
theorem ok_F_X6_apart {d : Nat} {h : pm_H} {a0 : Nat} {x1 : Int32} {x2 : Int32} {q : Int32} (hF : F_X6_apart h a0 x1 x2 = some q) : pm_E (d + 1) 6 cX6_apart (some .int) 0 [.ref a0, .int x1, .int x2] [] h (some (.int q), h) := by
  unfold F_X6_apart at hF
  refine pr_aload_n dX6_apart_0 rfl ?_
  obtain ⟨v1, hv1, hF⟩ := po_b hF
  refine pr_getR dX6_apart_1 tf_6_19 (hv1) ?_
  refine pr_iload_n dX6_apart_4 rfl ?_
  obtain ⟨v2, hv2, hF⟩ := po_b hF
  refine pr_iald dX6_apart_5 (hv2) ?_
  refine pr_aload_n dX6_apart_6 rfl ?_
  obtain ⟨v3, hv3, hF⟩ := po_b hF
  refine pr_getR dX6_apart_7 tf_6_19 (hv3) ?_
  refine pr_iload_n dX6_apart_10 rfl ?_
  obtain ⟨v4, hv4, hF⟩ := po_b hF
  refine pr_iald dX6_apart_11 (hv4) ?_
  refine pr_isub dX6_apart_12 ?_
  obtain ⟨q5, hq5, hF⟩ := po_b hF
  refine pr_S dX6_apart_13 cs_6_112 (as := [.int (v2 - v4)]) (rest := []) rfl rfl rfl (lb rfl) (lb rfl) (lb rfl) (ok_F_X6_size hq5) ?_
  cases hF
  exact pr_iret dX6_apart_16 rfl rfl rfl

def F_X6_favoursOf (h : pm_H) (a0 : Nat) (x1 : Int32) (x2 : Int32) : Option (Int32) :=
  (pm_fR [(5, 0)] h a0).bind fun v1 =>
  (pm_ai 0 h v1 ((16 + (16 * x1)) + x2)).bind fun v2 =>
  some v2
theorem ok_F_X6_favoursOf {d : Nat} {h : pm_H} {a0 : Nat} {x1 : Int32} {x2 : Int32} {q : Int32} (hF : F_X6_favoursOf h a0 x1 x2 = some q) : pm_E (d + 0) 6 cX6_favoursOf (some .int) 0 [.ref a0, .int x1, .int x2] [] h (some (.int q), h) := by
  unfold F_X6_favoursOf at hF
  refine pr_aload_n dX6_favoursOf_0 rfl ?_
  obtain ⟨v1, hv1, hF⟩ := po_b hF
  refine pr_getR dX6_favoursOf_1 tf_6_7 (hv1) ?_
  refine pr_bipush (v := 16) dX6_favoursOf_4 (kb_16) ?_
  refine pr_bipush (v := 16) dX6_favoursOf_6 (kb_16) ?_
  refine pr_iload_n dX6_favoursOf_8 rfl ?_
  refine pr_imul dX6_favoursOf_9 ?_
  refine pr_iadd dX6_favoursOf_10 ?_
  refine pr_iload_n dX6_favoursOf_11 rfl ?_
  refine pr_iadd dX6_favoursOf_12 ?_
  obtain ⟨v2, hv2, hF⟩ := po_b hF
  refine pr_iald dX6_favoursOf_13 (hv2) ?_
  cases hF
  exact pr_iret dX6_favoursOf_14 rfl rfl rfl

def F_X6_feelsTwo (n : Nat) (h : pm_H) (a0 : Nat) (x1 : Int32) (x2 : Int32) : Option (pm_H) :=
  (if pm_cl_ h a0 = some 5 then F_X6_feels n h a0 x1 else none).bind fun q1 =>
  (pm_fR [(5, 34)] q1 a0).bind fun v2 =>
  (pm_si 0 q1 v2 1 x2).bind fun h3 =>
  (pm_fR [(5, 34)] h3 a0).bind fun v4 =>
  (if pm_cl_ h3 a0 = some 5 then F_X6_apart h3 a0 x1 x2 else none).bind fun q5 =>
  (pm_si 0 h3 v4 3 q5).bind fun h6 =>
  (pm_fR [(5, 34)] h6 a0).bind fun v7 =>
  (if pm_cl_ h6 a0 = some 5 then F_X6_favoursOf h6 a0 x1 x2 else none).bind fun q8 =>
  (pm_si 0 h6 v7 4 q8).bind fun h9 =>
  (pm_fR [(5, 34)] h9 a0).bind fun v10 =>
  (if pm_cl_ h9 a0 = some 5 then F_X6_favoursOf h9 a0 x2 x1 else none).bind fun q11 =>
  (pm_si 0 h9 v10 5 q11).bind fun h12 =>
  (pm_fR [(5, 34)] h12 a0).bind fun v13 =>
  (pm_fR [(5, 40)] h12 a0).bind fun v14 =>
  (pm_ai 0 h12 v14 x2).bind fun v15 =>
  (pm_si 0 h12 v13 9 v15).bind fun h16 =>
  some h16
theorem ok_F_X6_feelsTwo {d n : Nat} {h : pm_H} {a0 : Nat} {x1 : Int32} {x2 : Int32} {q : pm_H} (hF : F_X6_feelsTwo n h a0 x1 x2 = some q) : pm_E (d + 2) 6 cX6_feelsTwo (none) 0 [.ref a0, .int x1, .int x2] [] h (none, q) := by
  unfold F_X6_feelsTwo at hF
  refine pr_aload_n dX6_feelsTwo_0 rfl ?_
  refine pr_iload_n dX6_feelsTwo_1 rfl ?_
  obtain ⟨q1, hq1, hF⟩ := po_b hF
  refine po_i hq1 (fun hcl hq => ?_) (fun _ hq => nomatch hq)
  refine pr_V (as := [.int x1]) (rest := []) dX6_feelsTwo_2 cv_6_279 hcl rfl rfl rfl rfl (lb rfl) (lb rfl) (lb rfl) (ok_F_X6_feels hq) ?_
  refine pr_aload_n dX6_feelsTwo_5 rfl ?_
  obtain ⟨v2, hv2, hF⟩ := po_b hF
  refine pr_getR dX6_feelsTwo_6 tf_6_71 (hv2) ?_
  refine pr_iconst (v := 1) dX6_feelsTwo_9 (kc_1) ?_
  refine pr_iload_n dX6_feelsTwo_10 rfl ?_
  obtain ⟨h3, hh3, hF⟩ := po_b hF
  refine pr_iast dX6_feelsTwo_11 (hh3) ?_
  refine pr_aload_n dX6_feelsTwo_12 rfl ?_
  obtain ⟨v4, hv4, hF⟩ := po_b hF
  refine pr_getR dX6_feelsTwo_13 tf_6_71 (hv4) ?_
  refine pr_iconst (v := 3) dX6_feelsTwo_16 (kc_3) ?_
  refine pr_aload_n dX6_feelsTwo_17 rfl ?_
  refine pr_iload_n dX6_feelsTwo_18 rfl ?_
  refine pr_iload_n dX6_feelsTwo_19 rfl ?_
  obtain ⟨q5, hq5, hF⟩ := po_b hF
  refine po_i hq5 (fun hcl hq => ?_) (fun _ hq => nomatch hq)
  refine pr_V (as := [.int x1, .int x2]) (rest := [.int 3, .ref v4]) dX6_feelsTwo_20 cv_6_282 hcl rfl rfl rfl rfl (lb rfl) (lb rfl) (lb rfl) (ok_F_X6_apart hq) ?_
  obtain ⟨h6, hh6, hF⟩ := po_b hF
  refine pr_iast dX6_feelsTwo_23 (hh6) ?_
  refine pr_aload_n dX6_feelsTwo_24 rfl ?_
  obtain ⟨v7, hv7, hF⟩ := po_b hF
  refine pr_getR dX6_feelsTwo_25 tf_6_71 (hv7) ?_
  refine pr_iconst (v := 4) dX6_feelsTwo_28 (kc_4) ?_
  refine pr_aload_n dX6_feelsTwo_29 rfl ?_
  refine pr_iload_n dX6_feelsTwo_30 rfl ?_
  refine pr_iload_n dX6_feelsTwo_31 rfl ?_
  obtain ⟨q8, hq8, hF⟩ := po_b hF
  refine po_i hq8 (fun hcl hq => ?_) (fun _ hq => nomatch hq)
  refine pr_V (as := [.int x1, .int x2]) (rest := [.int 4, .ref v7]) dX6_feelsTwo_32 cv_6_285 hcl rfl rfl rfl rfl (lb rfl) (lb rfl) (lb rfl) (ok_F_X6_favoursOf hq) ?_
  obtain ⟨h9, hh9, hF⟩ := po_b hF
  refine pr_iast dX6_feelsTwo_35 (hh9) ?_
  refine pr_aload_n dX6_feelsTwo_36 rfl ?_
  obtain ⟨v10, hv10, hF⟩ := po_b hF
  refine pr_getR dX6_feelsTwo_37 tf_6_71 (hv10) ?_
  refine pr_iconst (v := 5) dX6_feelsTwo_40 (kc_5) ?_
  refine pr_aload_n dX6_feelsTwo_41 rfl ?_
  refine pr_iload_n dX6_feelsTwo_42 rfl ?_
  refine pr_iload_n dX6_feelsTwo_43 rfl ?_
  obtain ⟨q11, hq11, hF⟩ := po_b hF
  refine po_i hq11 (fun hcl hq => ?_) (fun _ hq => nomatch hq)
  refine pr_V (as := [.int x2, .int x1]) (rest := [.int 5, .ref v10]) dX6_feelsTwo_44 cv_6_285 hcl rfl rfl rfl rfl (lb rfl) (lb rfl) (lb rfl) (ok_F_X6_favoursOf hq) ?_
  obtain ⟨h12, hh12, hF⟩ := po_b hF
  refine pr_iast dX6_feelsTwo_47 (hh12) ?_
  refine pr_aload_n dX6_feelsTwo_48 rfl ?_
  obtain ⟨v13, hv13, hF⟩ := po_b hF
  refine pr_getR dX6_feelsTwo_49 tf_6_71 (hv13) ?_
  refine pr_bipush (v := 9) dX6_feelsTwo_52 (kb_9) ?_
  refine pr_aload_n dX6_feelsTwo_54 rfl ?_
  obtain ⟨v14, hv14, hF⟩ := po_b hF
  refine pr_getR dX6_feelsTwo_55 tf_6_77 (hv14) ?_
  refine pr_iload_n dX6_feelsTwo_58 rfl ?_
  obtain ⟨v15, hv15, hF⟩ := po_b hF
  refine pr_iald dX6_feelsTwo_59 (hv15) ?_
  obtain ⟨h16, hh16, hF⟩ := po_b hF
  refine pr_iast dX6_feelsTwo_60 (hh16) ?_
  cases hF
  exact pr_vret dX6_feelsTwo_61 rfl rfl

def L_X6_byLaw_2 : Nat → Nat → Int32 → Int32 → pm_H → Option ((Int32 × pm_H) ⊕ (pm_H))
  | 0, _, _, _, _ => none
  | n + 1, x0, x1, x2, h =>
    (pm_fI [(5, 21)] h x0).bind fun v1 =>
    if x2 < v1 then
      (pm_fR [(5, 29)] h x0).bind fun v2 =>
      (pm_ai 0 h v2 x2).bind fun v3 =>
      if v3 = x1 then
        (pm_fR [(5, 31)] h x0).bind fun v4 =>
        (pm_ai 0 h v4 x2).bind fun v5 =>
        (pm_fR [(5, 32)] h x0).bind fun v6 =>
        (pm_ai 0 h v6 x2).bind fun v7 =>
        (if pm_cl_ h x0 = some 5 then F_X6_reckonsTo n h x0 v5 v7 else none).bind fun q8 =>
        if q8.1 = 1 then
          (pm_fR [(5, 30)] q8.2 x0).bind fun v9 =>
          (pm_ai 0 q8.2 v9 x2).bind fun v10 =>
          (pm_fR [(5, 31)] q8.2 x0).bind fun v11 =>
          (pm_ai 0 q8.2 v11 x2).bind fun v12 =>
          (if pm_cl_ q8.2 x0 = some 5 then F_X6_reckonsTo n q8.2 x0 v10 v12 else none).bind fun q13 =>
          if q13.1 < 0 then
            some (.inl (0, q13.2))
          else
          if 9999 < q13.1 then
            some (.inl (9999, q13.2))
          else
            some (.inl (q13.1, q13.2))
        else
          L_X6_byLaw_2 n x0 x1 (x2 + 1) q8.2
      else
        L_X6_byLaw_2 n x0 x1 (x2 + 1) h
    else
      some (.inr h)
theorem ok_L_X6_byLaw_2 {d : Nat} : ∀ (n : Nat) {x0 : Nat} {x1 : Int32} {x2 : Int32} {h : pm_H} {q : (Int32 × pm_H) ⊕ (pm_H)} {res : Option Value × pm_H}, L_X6_byLaw_2 n x0 x1 x2 h = some q → (∀ r, q = .inl r → res = (some (.int r.1), r.2)) → (∀ e, q = .inr e → ∀ z2 : Value, pm_nolong z2 = true → pm_E (d + 2) 6 cX6_byLaw (some .int) 89 [.ref x0, .int x1, z2, pm_D] [] e res) → pm_E (d + 2) 6 cX6_byLaw (some .int) 2 [.ref x0, .int x1, .int x2, pm_D] [] h res := by
  intro n
  induction n with
  | zero =>
    intro x0 x1 x2 h q res hF hr hk
    rw [L_X6_byLaw_2] at hF
    cases hF
  | succ n ih =>
    intro x0 x1 x2 h q res hF hr hk
    rw [L_X6_byLaw_2] at hF
    refine pr_iload_n dX6_byLaw_2 rfl ?_
    refine pr_aload_n dX6_byLaw_3 rfl ?_
    obtain ⟨v1, hv1, hF⟩ := po_b hF
    refine pr_getI dX6_byLaw_4 tf_6_216 (hv1) ?_
    refine po_i hF (fun hc hF => ?_) (fun hc hF => ?_)
    · refine pr_icF (tgt := 89) dX6_byLaw_7 (by decide) (pc_geF hc) ?_
      refine pr_aload_n dX6_byLaw_10 rfl ?_
      obtain ⟨v2, hv2, hF⟩ := po_b hF
      refine pr_getR dX6_byLaw_11 tf_6_56 (hv2) ?_
      refine pr_iload_n dX6_byLaw_14 rfl ?_
      obtain ⟨v3, hv3, hF⟩ := po_b hF
      refine pr_iald dX6_byLaw_15 (hv3) ?_
      refine pr_iload_n dX6_byLaw_16 rfl ?_
      refine po_i hF (fun hc hF => ?_) (fun hc hF => ?_)
      · refine pr_icF (tgt := 83) dX6_byLaw_17 (by decide) (pc_neF hc) ?_
        refine pr_aload_n dX6_byLaw_20 rfl ?_
        refine pr_aload_n dX6_byLaw_21 rfl ?_
        obtain ⟨v4, hv4, hF⟩ := po_b hF
        refine pr_getR dX6_byLaw_22 tf_6_62 (hv4) ?_
        refine pr_iload_n dX6_byLaw_25 rfl ?_
        obtain ⟨v5, hv5, hF⟩ := po_b hF
        refine pr_iald dX6_byLaw_26 (hv5) ?_
        refine pr_aload_n dX6_byLaw_27 rfl ?_
        obtain ⟨v6, hv6, hF⟩ := po_b hF
        refine pr_getR dX6_byLaw_28 tf_6_65 (hv6) ?_
        refine pr_iload_n dX6_byLaw_31 rfl ?_
        obtain ⟨v7, hv7, hF⟩ := po_b hF
        refine pr_iald dX6_byLaw_32 (hv7) ?_
        obtain ⟨q8, hq8, hF⟩ := po_b hF
        refine po_i hq8 (fun hcl hq => ?_) (fun _ hq => nomatch hq)
        refine pr_V (as := [.int v5, .int v7]) (rest := []) dX6_byLaw_33 cv_6_223 hcl rfl rfl rfl rfl (lb rfl) (lb rfl) (lb rfl) (ok_F_X6_reckonsTo hq) ?_
        refine pr_iconst (v := 1) dX6_byLaw_36 (kc_1) ?_
        refine po_i hF (fun hc hF => ?_) (fun hc hF => ?_)
        · refine pr_icT (tgt := 43) dX6_byLaw_37 (by decide) (pc_eqT hc) ?_
          refine pr_aload_n dX6_byLaw_43 rfl ?_
          refine pr_aload_n dX6_byLaw_44 rfl ?_
          obtain ⟨v9, hv9, hF⟩ := po_b hF
          refine pr_getR dX6_byLaw_45 tf_6_59 (hv9) ?_
          refine pr_iload_n dX6_byLaw_48 rfl ?_
          obtain ⟨v10, hv10, hF⟩ := po_b hF
          refine pr_iald dX6_byLaw_49 (hv10) ?_
          refine pr_aload_n dX6_byLaw_50 rfl ?_
          obtain ⟨v11, hv11, hF⟩ := po_b hF
          refine pr_getR dX6_byLaw_51 tf_6_62 (hv11) ?_
          refine pr_iload_n dX6_byLaw_54 rfl ?_
          obtain ⟨v12, hv12, hF⟩ := po_b hF
          refine pr_iald dX6_byLaw_55 (hv12) ?_
          obtain ⟨q13, hq13, hF⟩ := po_b hF
          refine po_i hq13 (fun hcl hq => ?_) (fun _ hq => nomatch hq)
          refine pr_V (as := [.int v10, .int v12]) (rest := []) dX6_byLaw_56 cv_6_223 hcl rfl rfl rfl rfl (lb rfl) (lb rfl) (lb rfl) (ok_F_X6_reckonsTo hq) ?_
          refine pr_istore_n (L' := [.ref x0, .int x1, .int x2, .int q13.1]) dX6_byLaw_59 rfl ?_
          refine pr_iload_n dX6_byLaw_60 rfl ?_
          refine po_i hF (fun hc hF => ?_) (fun hc hF => ?_)
          · refine pr_ifF (tgt := 68) dX6_byLaw_61 (by decide) (pc_geF hc) ?_
            refine pr_iconst (v := 0) dX6_byLaw_64 (kc_0) ?_
            refine pr_goto (tgt := 82) dX6_byLaw_65 (by decide) ?_
            cases hF
            exact pr_iret dX6_byLaw_82 rfl rfl (hr _ rfl)
          · refine pr_ifT (tgt := 68) dX6_byLaw_61 (by decide) (pc_geT hc) ?_
            refine pr_iload_n dX6_byLaw_68 rfl ?_
            refine pr_sipush (v := 9999) dX6_byLaw_69 (ks_9999) ?_
            refine po_i hF (fun hc hF => ?_) (fun hc hF => ?_)
            · refine pr_icF (tgt := 81) dX6_byLaw_72 (by decide) (pc_leF hc) ?_
              refine pr_sipush (v := 9999) dX6_byLaw_75 (ks_9999) ?_
              refine pr_goto (tgt := 82) dX6_byLaw_78 (by decide) ?_
              cases hF
              exact pr_iret dX6_byLaw_82 rfl rfl (hr _ rfl)
            · refine pr_icT (tgt := 81) dX6_byLaw_72 (by decide) (pc_leT hc) ?_
              refine pr_iload_n dX6_byLaw_81 rfl ?_
              cases hF
              exact pr_iret dX6_byLaw_82 rfl rfl (hr _ rfl)
        · refine pr_icF (tgt := 43) dX6_byLaw_37 (by decide) (pc_eqF hc) ?_
          refine pr_goto (tgt := 83) dX6_byLaw_40 (by decide) ?_
          refine pr_iinc (v := 1) (L' := [.ref x0, .int x1, .int (x2 + 1), pm_D]) dX6_byLaw_83 rfl (kc_1) rfl ?_
          refine pr_goto (tgt := 2) dX6_byLaw_86 (by decide) ?_
          exact ih hF hr hk
      · refine pr_icT (tgt := 83) dX6_byLaw_17 (by decide) (pc_neT hc) ?_
        refine pr_iinc (v := 1) (L' := [.ref x0, .int x1, .int (x2 + 1), pm_D]) dX6_byLaw_83 rfl (kc_1) rfl ?_
        refine pr_goto (tgt := 2) dX6_byLaw_86 (by decide) ?_
        exact ih hF hr hk
    · refine pr_icT (tgt := 89) dX6_byLaw_7 (by decide) (pc_geT hc) ?_
      cases hF
      exact hk _ rfl _ rfl
def F_X6_byLaw (n : Nat) (h : pm_H) (a0 : Nat) (x1 : Int32) : Option (Int32 × pm_H) :=
  (L_X6_byLaw_2 n a0 x1 0 h).bind fun q14 => po_s q14 (fun r => some r) fun e15 =>
  some (0, e15)
theorem ok_F_X6_byLaw {d n : Nat} {h : pm_H} {a0 : Nat} {x1 : Int32} {q : Int32 × pm_H} (hF : F_X6_byLaw n h a0 x1 = some q) : pm_E (d + 2) 6 cX6_byLaw (some .int) 0 [.ref a0, .int x1, pm_D, pm_D] [] h (some (.int q.1), q.2) := by
  unfold F_X6_byLaw at hF
  refine pr_iconst (v := 0) dX6_byLaw_0 (kc_0) ?_
  refine pr_istore_n (L' := [.ref a0, .int x1, .int 0, pm_D]) dX6_byLaw_1 rfl ?_
  obtain ⟨q14, hq14, hF⟩ := po_b hF
  refine ok_L_X6_byLaw_2 n hq14 (fun r hq => ?_) (fun e15 hq z2 hz2 => ?_)
  · subst hq
    replace hF := po_sl hF
    cases hF
    exact rfl
  subst hq
  replace hF := po_sr hF
  refine pr_iconst (v := 0) dX6_byLaw_89 (kc_0) ?_
  cases hF
  exact pr_iret dX6_byLaw_90 rfl rfl rfl

def L_X6_likedMost_15 : Nat → Nat → Int32 → Int32 → Int32 → Int32 → pm_H → Option (Int32 × Int32 × pm_H)
  | 0, _, _, _, _, _, _ => none
  | n + 1, x0, x1, x2, x3, x4, h =>
    if x4 < 16 then
      (pm_fI [(5, 41)] h x0).bind fun v1 =>
      (pm_fI [(5, 8)] h x0).bind fun v2 =>
      (F_X6_has (v1 &&& v2) x3).bind fun q3 =>
      if q3 = 0 then
        L_X6_likedMost_15 n x0 x1 x2 x3 (x4 + 1) h
      else
        (pm_fI [(5, 41)] h x0).bind fun v4 =>
        (pm_fI [(5, 42)] h x0).bind fun v5 =>
        (if pm_cl_ h x0 = some 5 then F_X6_friendsOf h x0 x3 else none).bind fun q6 =>
        (F_X6_has ((v4 &&& v5) &&& q6) x4).bind fun q7 =>
        if q7 = 0 then
          L_X6_likedMost_15 n x0 x1 x2 x3 (x4 + 1) h
        else
          (if pm_cl_ h x0 = some 5 then F_X6_feelsTwo n h x0 x3 x4 else none).bind fun q8 =>
          (if pm_cl_ q8 x0 = some 5 then F_X6_byLaw n q8 x0 101 else none).bind fun q9 =>
          if x2 < q9.1 then
            L_X6_likedMost_15 n x0 ((16 * x3) + x4) q9.1 x3 (x4 + 1) q9.2
          else
            L_X6_likedMost_15 n x0 x1 x2 x3 (x4 + 1) q9.2
    else
      some (x1, x2, h)
theorem ok_L_X6_likedMost_15 {d : Nat} : ∀ (n : Nat) {x0 : Nat} {x1 : Int32} {x2 : Int32} {x3 : Int32} {x4 : Int32} {w5 : Value} {h : pm_H} {q : Int32 × Int32 × pm_H} {res : Option Value × pm_H}, L_X6_likedMost_15 n x0 x1 x2 x3 x4 h = some q → pm_nolong w5 = true → (∀ z4 : Value, pm_nolong z4 = true → ∀ z5 : Value, pm_nolong z5 = true → pm_E (d + 3) 6 cX6_likedMost (some .int) 105 [.ref x0, .int q.1, .int q.2.1, .int x3, z4, z5] [] q.2.2 res) → pm_E (d + 3) 6 cX6_likedMost (some .int) 15 [.ref x0, .int x1, .int x2, .int x3, .int x4, w5] [] h res := by
  intro n
  induction n with
  | zero =>
    intro x0 x1 x2 x3 x4 w5 h q res hF hw5 hk
    rw [L_X6_likedMost_15] at hF
    cases hF
  | succ n ih =>
    intro x0 x1 x2 x3 x4 w5 h q res hF hw5 hk
    rw [L_X6_likedMost_15] at hF
    refine pr_iload dX6_likedMost_15 rfl ?_
    refine pr_bipush (v := 16) dX6_likedMost_17 (kb_16) ?_
    refine po_i hF (fun hc hF => ?_) (fun hc hF => ?_)
    · refine pr_icF (tgt := 105) dX6_likedMost_19 (by decide) (pc_geF hc) ?_
      refine pr_aload_n dX6_likedMost_22 rfl ?_
      obtain ⟨v1, hv1, hF⟩ := po_b hF
      refine pr_getI dX6_likedMost_23 tf_6_273 (hv1) ?_
      refine pr_aload_n dX6_likedMost_26 rfl ?_
      obtain ⟨v2, hv2, hF⟩ := po_b hF
      refine pr_getI dX6_likedMost_27 tf_6_227 (hv2) ?_
      refine pr_iand dX6_likedMost_30 ?_
      refine pr_iload_n dX6_likedMost_31 rfl ?_
      obtain ⟨q3, hq3, hF⟩ := po_b hF
      refine pr_S dX6_likedMost_32 cs_6_100 (as := [.int (v1 &&& v2), .int x3]) (rest := []) rfl rfl rfl (lb rfl) (lb rfl) (lb rfl) (ok_F_X6_has hq3) ?_
      refine po_i hF (fun hc hF => ?_) (fun hc hF => ?_)
      · refine pr_ifT (tgt := 99) dX6_likedMost_35 (by decide) (pc_eqT hc) ?_
        refine pr_iinc (v := 1) (L' := [.ref x0, .int x1, .int x2, .int x3, .int (x4 + 1), w5]) dX6_likedMost_99 rfl (kc_1) rfl ?_
        refine pr_goto (tgt := 15) dX6_likedMost_102 (by decide) ?_
        exact ih hF hw5 hk
      · refine pr_ifF (tgt := 99) dX6_likedMost_35 (by decide) (pc_eqF hc) ?_
        refine pr_aload_n dX6_likedMost_38 rfl ?_
        obtain ⟨v4, hv4, hF⟩ := po_b hF
        refine pr_getI dX6_likedMost_39 tf_6_273 (hv4) ?_
        refine pr_aload_n dX6_likedMost_42 rfl ?_
        obtain ⟨v5, hv5, hF⟩ := po_b hF
        refine pr_getI dX6_likedMost_43 tf_6_288 (hv5) ?_
        refine pr_iand dX6_likedMost_46 ?_
        refine pr_aload_n dX6_likedMost_47 rfl ?_
        refine pr_iload_n dX6_likedMost_48 rfl ?_
        obtain ⟨q6, hq6, hF⟩ := po_b hF
        refine po_i hq6 (fun hcl hq => ?_) (fun _ hq => nomatch hq)
        refine pr_V (as := [.int x3]) (rest := [.int (v4 &&& v5)]) dX6_likedMost_49 cv_6_291 hcl rfl rfl rfl rfl (lb rfl) (lb rfl) (lb rfl) (ok_F_X6_friendsOf hq) ?_
        refine pr_iand dX6_likedMost_52 ?_
        refine pr_iload dX6_likedMost_53 rfl ?_
        obtain ⟨q7, hq7, hF⟩ := po_b hF
        refine pr_S dX6_likedMost_55 cs_6_100 (as := [.int ((v4 &&& v5) &&& q6), .int x4]) (rest := []) rfl rfl rfl (lb rfl) (lb rfl) (lb rfl) (ok_F_X6_has hq7) ?_
        refine po_i hF (fun hc hF => ?_) (fun hc hF => ?_)
        · refine pr_ifF (tgt := 64) dX6_likedMost_58 (by decide) (pc_neF hc) ?_
          refine pr_goto (tgt := 99) dX6_likedMost_61 (by decide) ?_
          refine pr_iinc (v := 1) (L' := [.ref x0, .int x1, .int x2, .int x3, .int (x4 + 1), w5]) dX6_likedMost_99 rfl (kc_1) rfl ?_
          refine pr_goto (tgt := 15) dX6_likedMost_102 (by decide) ?_
          exact ih hF hw5 hk
        · refine pr_ifT (tgt := 64) dX6_likedMost_58 (by decide) (pc_neT hc) ?_
          refine pr_aload_n dX6_likedMost_64 rfl ?_
          refine pr_iload_n dX6_likedMost_65 rfl ?_
          refine pr_iload dX6_likedMost_66 rfl ?_
          obtain ⟨q8, hq8, hF⟩ := po_b hF
          refine po_i hq8 (fun hcl hq => ?_) (fun _ hq => nomatch hq)
          refine pr_V (as := [.int x3, .int x4]) (rest := []) dX6_likedMost_68 cv_6_294 hcl rfl rfl rfl rfl (lb rfl) (lb rfl) (lb rfl) (ok_F_X6_feelsTwo hq) ?_
          refine pr_aload_n dX6_likedMost_71 rfl ?_
          refine pr_bipush (v := 101) dX6_likedMost_72 (kb_101) ?_
          obtain ⟨q9, hq9, hF⟩ := po_b hF
          refine po_i hq9 (fun hcl hq => ?_) (fun _ hq => nomatch hq)
          refine pr_V (as := [.int 101]) (rest := []) dX6_likedMost_74 cv_6_297 hcl rfl rfl rfl rfl (lb rfl) (lb rfl) (lb rfl) (ok_F_X6_byLaw hq) ?_
          refine pr_istore (L' := [.ref x0, .int x1, .int x2, .int x3, .int x4, .int q9.1]) dX6_likedMost_77 rfl ?_
          refine pr_iload dX6_likedMost_79 rfl ?_
          refine pr_iload_n dX6_likedMost_81 rfl ?_
          refine po_i hF (fun hc hF => ?_) (fun hc hF => ?_)
          · refine pr_icT (tgt := 88) dX6_likedMost_82 (by decide) (pc_gtT hc) ?_
            refine pr_iload dX6_likedMost_88 rfl ?_
            refine pr_istore_n (L' := [.ref x0, .int x1, .int q9.1, .int x3, .int x4, .int q9.1]) dX6_likedMost_90 rfl ?_
            refine pr_bipush (v := 16) dX6_likedMost_91 (kb_16) ?_
            refine pr_iload_n dX6_likedMost_93 rfl ?_
            refine pr_imul dX6_likedMost_94 ?_
            refine pr_iload dX6_likedMost_95 rfl ?_
            refine pr_iadd dX6_likedMost_97 ?_
            refine pr_istore_n (L' := [.ref x0, .int ((16 * x3) + x4), .int q9.1, .int x3, .int x4, .int q9.1]) dX6_likedMost_98 rfl ?_
            refine pr_iinc (v := 1) (L' := [.ref x0, .int ((16 * x3) + x4), .int q9.1, .int x3, .int (x4 + 1), .int q9.1]) dX6_likedMost_99 rfl (kc_1) rfl ?_
            refine pr_goto (tgt := 15) dX6_likedMost_102 (by decide) ?_
            exact ih hF rfl hk
          · refine pr_icF (tgt := 88) dX6_likedMost_82 (by decide) (pc_gtF hc) ?_
            refine pr_goto (tgt := 99) dX6_likedMost_85 (by decide) ?_
            refine pr_iinc (v := 1) (L' := [.ref x0, .int x1, .int x2, .int x3, .int (x4 + 1), .int q9.1]) dX6_likedMost_99 rfl (kc_1) rfl ?_
            refine pr_goto (tgt := 15) dX6_likedMost_102 (by decide) ?_
            exact ih hF rfl hk
    · refine pr_icT (tgt := 105) dX6_likedMost_19 (by decide) (pc_geT hc) ?_
      cases hF
      exact hk _ rfl _ hw5
def L_X6_likedMost_6 : Nat → Nat → Int32 → Int32 → Int32 → pm_H → Option (Int32 × pm_H)
  | 0, _, _, _, _, _ => none
  | n + 1, x0, x1, x2, x3, h =>
    if x3 < 16 then
      (L_X6_likedMost_15 n x0 x1 x2 x3 0 h).bind fun q10 =>
      L_X6_likedMost_6 n x0 q10.1 q10.2.1 (x3 + 1) q10.2.2
    else
      some (x1, h)
theorem ok_L_X6_likedMost_6 {d : Nat} : ∀ (n : Nat) {x0 : Nat} {x1 : Int32} {x2 : Int32} {x3 : Int32} {w4 w5 : Value} {h : pm_H} {q : Int32 × pm_H} {res : Option Value × pm_H}, L_X6_likedMost_6 n x0 x1 x2 x3 h = some q → pm_nolong w4 = true → pm_nolong w5 = true → (∀ z2 : Value, pm_nolong z2 = true → ∀ z3 : Value, pm_nolong z3 = true → ∀ z4 : Value, pm_nolong z4 = true → ∀ z5 : Value, pm_nolong z5 = true → pm_E (d + 3) 6 cX6_likedMost (some .int) 111 [.ref x0, .int q.1, z2, z3, z4, z5] [] q.2 res) → pm_E (d + 3) 6 cX6_likedMost (some .int) 6 [.ref x0, .int x1, .int x2, .int x3, w4, w5] [] h res := by
  intro n
  induction n with
  | zero =>
    intro x0 x1 x2 x3 w4 w5 h q res hF hw4 hw5 hk
    rw [L_X6_likedMost_6] at hF
    cases hF
  | succ n ih =>
    intro x0 x1 x2 x3 w4 w5 h q res hF hw4 hw5 hk
    rw [L_X6_likedMost_6] at hF
    refine pr_iload_n dX6_likedMost_6 rfl ?_
    refine pr_bipush (v := 16) dX6_likedMost_7 (kb_16) ?_
    refine po_i hF (fun hc hF => ?_) (fun hc hF => ?_)
    · refine pr_icF (tgt := 111) dX6_likedMost_9 (by decide) (pc_geF hc) ?_
      refine pr_iconst (v := 0) dX6_likedMost_12 (kc_0) ?_
      refine pr_istore (L' := [.ref x0, .int x1, .int x2, .int x3, .int 0, w5]) dX6_likedMost_13 rfl ?_
      obtain ⟨q10, hq10, hF⟩ := po_b hF
      refine ok_L_X6_likedMost_15 n hq10 hw5 (fun z4 hz4 z5 hz5 => ?_)
      refine pr_iinc (v := 1) (L' := [.ref x0, .int q10.1, .int q10.2.1, .int (x3 + 1), z4, z5]) dX6_likedMost_105 rfl (kc_1) rfl ?_
      refine pr_goto (tgt := 6) dX6_likedMost_108 (by decide) ?_
      exact ih hF hz4 hz5 hk
    · refine pr_icT (tgt := 111) dX6_likedMost_9 (by decide) (pc_geT hc) ?_
      cases hF
      exact hk _ rfl _ rfl _ hw4 _ hw5
def F_X6_likedMost (n : Nat) (h : pm_H) (a0 : Nat) : Option (Int32 × pm_H) :=
  (L_X6_likedMost_6 n a0 (-1) 0 0 h).bind fun q11 =>
  some (q11.1, q11.2)
theorem ok_F_X6_likedMost {d n : Nat} {h : pm_H} {a0 : Nat} {q : Int32 × pm_H} (hF : F_X6_likedMost n h a0 = some q) : pm_E (d + 3) 6 cX6_likedMost (some .int) 0 [.ref a0, pm_D, pm_D, pm_D, pm_D, pm_D] [] h (some (.int q.1), q.2) := by
  unfold F_X6_likedMost at hF
  refine pr_iconst (v := (-1)) dX6_likedMost_0 (kc_m1) ?_
  refine pr_istore_n (L' := [.ref a0, .int (-1), pm_D, pm_D, pm_D, pm_D]) dX6_likedMost_1 rfl ?_
  refine pr_iconst (v := 0) dX6_likedMost_2 (kc_0) ?_
  refine pr_istore_n (L' := [.ref a0, .int (-1), .int 0, pm_D, pm_D, pm_D]) dX6_likedMost_3 rfl ?_
  refine pr_iconst (v := 0) dX6_likedMost_4 (kc_0) ?_
  refine pr_istore_n (L' := [.ref a0, .int (-1), .int 0, .int 0, pm_D, pm_D]) dX6_likedMost_5 rfl ?_
  obtain ⟨q11, hq11, hF⟩ := po_b hF
  refine ok_L_X6_likedMost_6 n hq11 rfl rfl (fun z2 hz2 z3 hz3 z4 hz4 z5 hz5 => ?_)
  refine pr_iload_n dX6_likedMost_111 rfl ?_
  cases hF
  exact pr_iret dX6_likedMost_112 rfl rfl rfl

def F_X6_min (x0 : Int32) (x1 : Int32) : Option (Int32) :=
  if x0 < x1 then
    some x0
  else
    some x1
theorem ok_F_X6_min {d : Nat} {h : pm_H} {x0 : Int32} {x1 : Int32} {q : Int32} (hF : F_X6_min x0 x1 = some q) : pm_E (d + 0) 6 cX6_min (some .int) 0 [.int x0, .int x1] [] h (some (.int q), h) := by
  unfold F_X6_min at hF
  refine pr_iload_n dX6_min_0 rfl ?_
  refine pr_iload_n dX6_min_1 rfl ?_
  refine po_i hF (fun hc hF => ?_) (fun hc hF => ?_)
  · refine pr_icF (tgt := 9) dX6_min_2 (by decide) (pc_geF hc) ?_
    refine pr_iload_n dX6_min_5 rfl ?_
    refine pr_goto (tgt := 10) dX6_min_6 (by decide) ?_
    cases hF
    exact pr_iret dX6_min_10 rfl rfl rfl
  · refine pr_icT (tgt := 9) dX6_min_2 (by decide) (pc_geT hc) ?_
    refine pr_iload_n dX6_min_9 rfl ?_
    cases hF
    exact pr_iret dX6_min_10 rfl rfl rfl

def L_X6_goesToBed_19 : Nat → Nat → Int32 → Int32 → Int32 → pm_H → Option (pm_H)
  | 0, _, _, _, _, _ => none
  | n + 1, x0, x1, x2, x3, h =>
    if x3 < 16 then
      (F_X6_has x1 x3).bind fun q4 =>
      if q4 = 0 then
        L_X6_goesToBed_19 n x0 x1 x2 (x3 + 1) h
      else
        (if pm_cl_ h x0 = some 5 then F_X6_feels n h x0 x3 else none).bind fun q5 =>
        (if pm_cl_ q5 x0 = some 5 then F_X6_byLaw n q5 x0 98 else none).bind fun q6 =>
        if x2 < q6.1 then
          (pm_put [(5, 44, 0)] q6.2 x0 (.int x3)).bind fun h7 =>
          L_X6_goesToBed_19 n x0 x1 q6.1 (x3 + 1) h7
        else
          L_X6_goesToBed_19 n x0 x1 x2 (x3 + 1) q6.2
    else
      some h
theorem ok_L_X6_goesToBed_19 {d : Nat} : ∀ (n : Nat) {x0 : Nat} {x1 : Int32} {x2 : Int32} {x3 : Int32} {w4 : Value} {h : pm_H} {q : pm_H} {res : Option Value × pm_H}, L_X6_goesToBed_19 n x0 x1 x2 x3 h = some q → pm_nolong w4 = true → (∀ z2 : Value, pm_nolong z2 = true → ∀ z3 : Value, pm_nolong z3 = true → ∀ z4 : Value, pm_nolong z4 = true → pm_E (d + 3) 6 cX6_goesToBed (none) 72 [.ref x0, .int x1, z2, z3, z4] [] q res) → pm_E (d + 3) 6 cX6_goesToBed (none) 19 [.ref x0, .int x1, .int x2, .int x3, w4] [] h res := by
  intro n
  induction n with
  | zero =>
    intro x0 x1 x2 x3 w4 h q res hF hw4 hk
    rw [L_X6_goesToBed_19] at hF
    cases hF
  | succ n ih =>
    intro x0 x1 x2 x3 w4 h q res hF hw4 hk
    rw [L_X6_goesToBed_19] at hF
    refine pr_iload_n dX6_goesToBed_19 rfl ?_
    refine pr_bipush (v := 16) dX6_goesToBed_20 (kb_16) ?_
    refine po_i hF (fun hc hF => ?_) (fun hc hF => ?_)
    · refine pr_icF (tgt := 72) dX6_goesToBed_22 (by decide) (pc_geF hc) ?_
      refine pr_iload_n dX6_goesToBed_25 rfl ?_
      refine pr_iload_n dX6_goesToBed_26 rfl ?_
      obtain ⟨q4, hq4, hF⟩ := po_b hF
      refine pr_S dX6_goesToBed_27 cs_6_100 (as := [.int x1, .int x3]) (rest := []) rfl rfl rfl (lb rfl) (lb rfl) (lb rfl) (ok_F_X6_has hq4) ?_
      refine po_i hF (fun hc hF => ?_) (fun hc hF => ?_)
      · refine pr_ifF (tgt := 36) dX6_goesToBed_30 (by decide) (pc_neF hc) ?_
        refine pr_goto (tgt := 66) dX6_goesToBed_33 (by decide) ?_
        refine pr_iinc (v := 1) (L' := [.ref x0, .int x1, .int x2, .int (x3 + 1), w4]) dX6_goesToBed_66 rfl (kc_1) rfl ?_
        refine pr_goto (tgt := 19) dX6_goesToBed_69 (by decide) ?_
        exact ih hF hw4 hk
      · refine pr_ifT (tgt := 36) dX6_goesToBed_30 (by decide) (pc_neT hc) ?_
        refine pr_aload_n dX6_goesToBed_36 rfl ?_
        refine pr_iload_n dX6_goesToBed_37 rfl ?_
        obtain ⟨q5, hq5, hF⟩ := po_b hF
        refine po_i hq5 (fun hcl hq => ?_) (fun _ hq => nomatch hq)
        refine pr_V (as := [.int x3]) (rest := []) dX6_goesToBed_38 cv_6_279 hcl rfl rfl rfl rfl (lb rfl) (lb rfl) (lb rfl) (ok_F_X6_feels hq) ?_
        refine pr_aload_n dX6_goesToBed_41 rfl ?_
        refine pr_bipush (v := 98) dX6_goesToBed_42 (kb_98) ?_
        obtain ⟨q6, hq6, hF⟩ := po_b hF
        refine po_i hq6 (fun hcl hq => ?_) (fun _ hq => nomatch hq)
        refine pr_V (as := [.int 98]) (rest := []) dX6_goesToBed_44 cv_6_297 hcl rfl rfl rfl rfl (lb rfl) (lb rfl) (lb rfl) (ok_F_X6_byLaw hq) ?_
        refine pr_istore (L' := [.ref x0, .int x1, .int x2, .int x3, .int q6.1]) dX6_goesToBed_47 rfl ?_
        refine pr_iload dX6_goesToBed_49 rfl ?_
        refine pr_iload_n dX6_goesToBed_51 rfl ?_
        refine po_i hF (fun hc hF => ?_) (fun hc hF => ?_)
        · refine pr_icT (tgt := 58) dX6_goesToBed_52 (by decide) (pc_gtT hc) ?_
          refine pr_iload dX6_goesToBed_58 rfl ?_
          refine pr_istore_n (L' := [.ref x0, .int x1, .int q6.1, .int x3, .int q6.1]) dX6_goesToBed_60 rfl ?_
          refine pr_aload_n dX6_goesToBed_61 rfl ?_
          refine pr_iload_n dX6_goesToBed_62 rfl ?_
          obtain ⟨h7, hh7, hF⟩ := po_b hF
          refine pr_put dX6_goesToBed_63 tp_6_300 (hh7) ?_
          refine pr_iinc (v := 1) (L' := [.ref x0, .int x1, .int q6.1, .int (x3 + 1), .int q6.1]) dX6_goesToBed_66 rfl (kc_1) rfl ?_
          refine pr_goto (tgt := 19) dX6_goesToBed_69 (by decide) ?_
          exact ih hF rfl hk
        · refine pr_icF (tgt := 58) dX6_goesToBed_52 (by decide) (pc_gtF hc) ?_
          refine pr_goto (tgt := 66) dX6_goesToBed_55 (by decide) ?_
          refine pr_iinc (v := 1) (L' := [.ref x0, .int x1, .int x2, .int (x3 + 1), .int q6.1]) dX6_goesToBed_66 rfl (kc_1) rfl ?_
          refine pr_goto (tgt := 19) dX6_goesToBed_69 (by decide) ?_
          exact ih hF rfl hk
    · refine pr_icT (tgt := 72) dX6_goesToBed_22 (by decide) (pc_geT hc) ?_
      cases hF
      exact hk _ rfl _ rfl _ hw4
def L_X6_goesToBed_74 : Nat → Nat → Int32 → Int32 → pm_H → Option (pm_H)
  | 0, _, _, _, _ => none
  | n + 1, x0, x1, x3, h =>
    if x3 < 16 then
      (F_X6_has x1 x3).bind fun q9 =>
      if q9 = 0 then
        L_X6_goesToBed_74 n x0 x1 (x3 + 1) h
      else
        (pm_fI [(5, 44)] h x0).bind fun v10 =>
        if x3 = v10 then
          L_X6_goesToBed_74 n x0 x1 (x3 + 1) h
        else
          (pm_fR [(5, 0)] h x0).bind fun v11 =>
          (pm_fR [(5, 0)] h x0).bind fun v12 =>
          (pm_ai 0 h v12 (0 + x3)).bind fun v13 =>
          (F_X6_min 9999 (v13 + 1)).bind fun q14 =>
          (pm_si 0 h v11 (0 + x3) q14).bind fun h15 =>
          L_X6_goesToBed_74 n x0 x1 (x3 + 1) h15
    else
      some h
theorem ok_L_X6_goesToBed_74 {d : Nat} : ∀ (n : Nat) {x0 : Nat} {x1 : Int32} {x3 : Int32} {w2 w4 : Value} {h : pm_H} {q : pm_H} {res : Option Value × pm_H}, L_X6_goesToBed_74 n x0 x1 x3 h = some q → pm_nolong w2 = true → pm_nolong w4 = true → (∀ z3 : Value, pm_nolong z3 = true → pm_E (d + 3) 6 cX6_goesToBed (none) 126 [.ref x0, .int x1, w2, z3, w4] [] q res) → pm_E (d + 3) 6 cX6_goesToBed (none) 74 [.ref x0, .int x1, w2, .int x3, w4] [] h res := by
  intro n
  induction n with
  | zero =>
    intro x0 x1 x3 w2 w4 h q res hF hw2 hw4 hk
    rw [L_X6_goesToBed_74] at hF
    cases hF
  | succ n ih =>
    intro x0 x1 x3 w2 w4 h q res hF hw2 hw4 hk
    rw [L_X6_goesToBed_74] at hF
    refine pr_iload_n dX6_goesToBed_74 rfl ?_
    refine pr_bipush (v := 16) dX6_goesToBed_75 (kb_16) ?_
    refine po_i hF (fun hc hF => ?_) (fun hc hF => ?_)
    · refine pr_icF (tgt := 126) dX6_goesToBed_77 (by decide) (pc_geF hc) ?_
      refine pr_iload_n dX6_goesToBed_80 rfl ?_
      refine pr_iload_n dX6_goesToBed_81 rfl ?_
      obtain ⟨q9, hq9, hF⟩ := po_b hF
      refine pr_S dX6_goesToBed_82 cs_6_100 (as := [.int x1, .int x3]) (rest := []) rfl rfl rfl (lb rfl) (lb rfl) (lb rfl) (ok_F_X6_has hq9) ?_
      refine po_i hF (fun hc hF => ?_) (fun hc hF => ?_)
      · refine pr_ifT (tgt := 120) dX6_goesToBed_85 (by decide) (pc_eqT hc) ?_
        refine pr_iinc (v := 1) (L' := [.ref x0, .int x1, w2, .int (x3 + 1), w4]) dX6_goesToBed_120 rfl (kc_1) (pm_st_w (i := 2) rfl rfl hw2 rfl) ?_
        refine pr_goto (tgt := 74) dX6_goesToBed_123 (by decide) ?_
        exact ih hF hw2 hw4 hk
      · refine pr_ifF (tgt := 120) dX6_goesToBed_85 (by decide) (pc_eqF hc) ?_
        refine pr_iload_n dX6_goesToBed_88 rfl ?_
        refine pr_aload_n dX6_goesToBed_89 rfl ?_
        obtain ⟨v10, hv10, hF⟩ := po_b hF
        refine pr_getI dX6_goesToBed_90 tf_6_300 (hv10) ?_
        refine po_i hF (fun hc hF => ?_) (fun hc hF => ?_)
        · refine pr_icT (tgt := 120) dX6_goesToBed_93 (by decide) (pc_eqT hc) ?_
          refine pr_iinc (v := 1) (L' := [.ref x0, .int x1, w2, .int (x3 + 1), w4]) dX6_goesToBed_120 rfl (kc_1) (pm_st_w (i := 2) rfl rfl hw2 rfl) ?_
          refine pr_goto (tgt := 74) dX6_goesToBed_123 (by decide) ?_
          exact ih hF hw2 hw4 hk
        · refine pr_icF (tgt := 120) dX6_goesToBed_93 (by decide) (pc_eqF hc) ?_
          refine pr_aload_n dX6_goesToBed_96 rfl ?_
          obtain ⟨v11, hv11, hF⟩ := po_b hF
          refine pr_getR dX6_goesToBed_97 tf_6_7 (hv11) ?_
          refine pr_iconst (v := 0) dX6_goesToBed_100 (kc_0) ?_
          refine pr_iload_n dX6_goesToBed_101 rfl ?_
          refine pr_iadd dX6_goesToBed_102 ?_
          refine pr_sipush (v := 9999) dX6_goesToBed_103 (ks_9999) ?_
          refine pr_aload_n dX6_goesToBed_106 rfl ?_
          obtain ⟨v12, hv12, hF⟩ := po_b hF
          refine pr_getR dX6_goesToBed_107 tf_6_7 (hv12) ?_
          refine pr_iconst (v := 0) dX6_goesToBed_110 (kc_0) ?_
          refine pr_iload_n dX6_goesToBed_111 rfl ?_
          refine pr_iadd dX6_goesToBed_112 ?_
          obtain ⟨v13, hv13, hF⟩ := po_b hF
          refine pr_iald dX6_goesToBed_113 (hv13) ?_
          refine pr_iconst (v := 1) dX6_goesToBed_114 (kc_1) ?_
          refine pr_iadd dX6_goesToBed_115 ?_
          obtain ⟨q14, hq14, hF⟩ := po_b hF
          refine pr_S dX6_goesToBed_116 cs_6_303 (as := [.int 9999, .int (v13 + 1)]) (rest := [.int (0 + x3), .ref v11]) rfl rfl rfl (lb rfl) (lb rfl) (lb rfl) (ok_F_X6_min hq14) ?_
          obtain ⟨h15, hh15, hF⟩ := po_b hF
          refine pr_iast dX6_goesToBed_119 (hh15) ?_
          refine pr_iinc (v := 1) (L' := [.ref x0, .int x1, w2, .int (x3 + 1), w4]) dX6_goesToBed_120 rfl (kc_1) (pm_st_w (i := 2) rfl rfl hw2 rfl) ?_
          refine pr_goto (tgt := 74) dX6_goesToBed_123 (by decide) ?_
          exact ih hF hw2 hw4 hk
    · refine pr_icT (tgt := 126) dX6_goesToBed_77 (by decide) (pc_geT hc) ?_
      cases hF
      exact hk _ rfl
def F_X6_goesToBed (n : Nat) (h : pm_H) (a0 : Nat) : Option (pm_H) :=
  (pm_fI [(5, 41)] h a0).bind fun v1 =>
  (pm_fI [(5, 8)] h a0).bind fun v2 =>
  (pm_put [(5, 44, 0)] h a0 (.int (-1))).bind fun h3 =>
  (L_X6_goesToBed_19 n a0 (v1 &&& v2) (-1) 0 h3).bind fun q8 =>
  (L_X6_goesToBed_74 n a0 (v1 &&& v2) 0 q8).bind fun q16 =>
  some q16
theorem ok_F_X6_goesToBed {d n : Nat} {h : pm_H} {a0 : Nat} {q : pm_H} (hF : F_X6_goesToBed n h a0 = some q) : pm_E (d + 3) 6 cX6_goesToBed (none) 0 [.ref a0, pm_D, pm_D, pm_D, pm_D] [] h (none, q) := by
  unfold F_X6_goesToBed at hF
  refine pr_aload_n dX6_goesToBed_0 rfl ?_
  obtain ⟨v1, hv1, hF⟩ := po_b hF
  refine pr_getI dX6_goesToBed_1 tf_6_273 (hv1) ?_
  refine pr_aload_n dX6_goesToBed_4 rfl ?_
  obtain ⟨v2, hv2, hF⟩ := po_b hF
  refine pr_getI dX6_goesToBed_5 tf_6_227 (hv2) ?_
  refine pr_iand dX6_goesToBed_8 ?_
  refine pr_istore_n (L' := [.ref a0, .int (v1 &&& v2), pm_D, pm_D, pm_D]) dX6_goesToBed_9 rfl ?_
  refine pr_aload_n dX6_goesToBed_10 rfl ?_
  refine pr_iconst (v := (-1)) dX6_goesToBed_11 (kc_m1) ?_
  obtain ⟨h3, hh3, hF⟩ := po_b hF
  refine pr_put dX6_goesToBed_12 tp_6_300 (hh3) ?_
  refine pr_iconst (v := (-1)) dX6_goesToBed_15 (kc_m1) ?_
  refine pr_istore_n (L' := [.ref a0, .int (v1 &&& v2), .int (-1), pm_D, pm_D]) dX6_goesToBed_16 rfl ?_
  refine pr_iconst (v := 0) dX6_goesToBed_17 (kc_0) ?_
  refine pr_istore_n (L' := [.ref a0, .int (v1 &&& v2), .int (-1), .int 0, pm_D]) dX6_goesToBed_18 rfl ?_
  obtain ⟨q8, hq8, hF⟩ := po_b hF
  refine ok_L_X6_goesToBed_19 n hq8 rfl (fun z2 hz2 z3 hz3 z4 hz4 => ?_)
  refine pr_iconst (v := 0) dX6_goesToBed_72 (kc_0) ?_
  refine pr_istore_n (L' := [.ref a0, .int (v1 &&& v2), z2, .int 0, z4]) dX6_goesToBed_73 (pm_st_w (i := 2) rfl rfl hz2 rfl) ?_
  obtain ⟨q16, hq16, hF⟩ := po_b hF
  refine ok_L_X6_goesToBed_74 n hq16 hz2 hz4 (fun z3 hz3 => ?_)
  cases hF
  exact pr_vret dX6_goesToBed_126 rfl rfl

def L_X6_eveningGoes_15 : Nat → Nat → Int32 → pm_H → Option (pm_H)
  | 0, _, _, _ => none
  | n + 1, x0, x1, h =>
    if x1 < 16 then
      (if pm_cl_ h x0 = some 5 then F_X6_isTold h x0 x1 else none).bind fun q4 =>
      if q4 = 0 then
        L_X6_eveningGoes_15 n x0 (x1 + 1) h
      else
        (pm_fR [(5, 0)] h x0).bind fun v5 =>
        (pm_fR [(5, 0)] h x0).bind fun v6 =>
        (pm_ai 0 h v6 273).bind fun v7 =>
        (pm_si 0 h v5 273 (pm_rem ((25173 * v7) + 13849) 65536)).bind fun h8 =>
        (pm_fR [(5, 40)] h8 x0).bind fun v9 =>
        (pm_fR [(5, 0)] h8 x0).bind fun v10 =>
        (pm_ai 0 h8 v10 273).bind fun v11 =>
        (pm_si 0 h8 v9 x1 (pm_rem v11 10)).bind fun h12 =>
        (if pm_cl_ h12 x0 = some 5 then F_X6_feels n h12 x0 x1 else none).bind fun q13 =>
        (if pm_cl_ q13 x0 = some 5 then F_X6_holdsAny n q13 x0 120 else none).bind fun q14 =>
        if q14.1 = 0 then
          (pm_fI [(5, 42)] q14.2 x0).bind fun v15 =>
          (pm_put [(5, 42, 0)] q14.2 x0 (.int (v15 ||| (pm_shl 1 x1)))).bind fun h16 =>
          L_X6_eveningGoes_15 n x0 (x1 + 1) h16
        else
          L_X6_eveningGoes_15 n x0 (x1 + 1) q14.2
    else
      some h
theorem ok_L_X6_eveningGoes_15 {d : Nat} : ∀ (n : Nat) {x0 : Nat} {x1 : Int32} {h : pm_H} {q : pm_H} {res : Option Value × pm_H}, L_X6_eveningGoes_15 n x0 x1 h = some q → (∀ z1 : Value, pm_nolong z1 = true → pm_E (d + 4) 6 cX6_eveningGoes (none) 108 [.ref x0, z1, pm_D, pm_D] [] q res) → pm_E (d + 4) 6 cX6_eveningGoes (none) 15 [.ref x0, .int x1, pm_D, pm_D] [] h res := by
  intro n
  induction n with
  | zero =>
    intro x0 x1 h q res hF hk
    rw [L_X6_eveningGoes_15] at hF
    cases hF
  | succ n ih =>
    intro x0 x1 h q res hF hk
    rw [L_X6_eveningGoes_15] at hF
    refine pr_iload_n dX6_eveningGoes_15 rfl ?_
    refine pr_bipush (v := 16) dX6_eveningGoes_16 (kb_16) ?_
    refine po_i hF (fun hc hF => ?_) (fun hc hF => ?_)
    · refine pr_icF (tgt := 108) dX6_eveningGoes_18 (by decide) (pc_geF hc) ?_
      refine pr_aload_n dX6_eveningGoes_21 rfl ?_
      refine pr_iload_n dX6_eveningGoes_22 rfl ?_
      obtain ⟨q4, hq4, hF⟩ := po_b hF
      refine po_i hq4 (fun hcl hq => ?_) (fun _ hq => nomatch hq)
      refine pr_V (as := [.int x1]) (rest := []) dX6_eveningGoes_23 cv_6_233 hcl rfl rfl rfl rfl (lb rfl) (lb rfl) (lb rfl) (ok_F_X6_isTold hq) ?_
      refine po_i hF (fun hc hF => ?_) (fun hc hF => ?_)
      · refine pr_ifF (tgt := 32) dX6_eveningGoes_26 (by decide) (pc_neF hc) ?_
        refine pr_goto (tgt := 102) dX6_eveningGoes_29 (by decide) ?_
        refine pr_iinc (v := 1) (L' := [.ref x0, .int (x1 + 1), pm_D, pm_D]) dX6_eveningGoes_102 rfl (kc_1) rfl ?_
        refine pr_goto (tgt := 15) dX6_eveningGoes_105 (by decide) ?_
        exact ih hF hk
      · refine pr_ifT (tgt := 32) dX6_eveningGoes_26 (by decide) (pc_neT hc) ?_
        refine pr_aload_n dX6_eveningGoes_32 rfl ?_
        obtain ⟨v5, hv5, hF⟩ := po_b hF
        refine pr_getR dX6_eveningGoes_33 tf_6_7 (hv5) ?_
        refine pr_sipush (v := 273) dX6_eveningGoes_36 (ks_273) ?_
        refine pr_sipush (v := 25173) dX6_eveningGoes_39 (ks_25173) ?_
        refine pr_aload_n dX6_eveningGoes_42 rfl ?_
        obtain ⟨v6, hv6, hF⟩ := po_b hF
        refine pr_getR dX6_eveningGoes_43 tf_6_7 (hv6) ?_
        refine pr_sipush (v := 273) dX6_eveningGoes_46 (ks_273) ?_
        obtain ⟨v7, hv7, hF⟩ := po_b hF
        refine pr_iald dX6_eveningGoes_49 (hv7) ?_
        refine pr_imul dX6_eveningGoes_50 ?_
        refine pr_sipush (v := 13849) dX6_eveningGoes_51 (ks_13849) ?_
        refine pr_iadd dX6_eveningGoes_54 ?_
        refine pr_ldc (v := 65536) dX6_eveningGoes_55 rfl ?_
        refine pr_irem dX6_eveningGoes_57 (by decide) ?_
        obtain ⟨h8, hh8, hF⟩ := po_b hF
        refine pr_iast dX6_eveningGoes_58 (hh8) ?_
        refine pr_aload_n dX6_eveningGoes_59 rfl ?_
        obtain ⟨v9, hv9, hF⟩ := po_b hF
        refine pr_getR dX6_eveningGoes_60 tf_6_77 (hv9) ?_
        refine pr_iload_n dX6_eveningGoes_63 rfl ?_
        refine pr_aload_n dX6_eveningGoes_64 rfl ?_
        obtain ⟨v10, hv10, hF⟩ := po_b hF
        refine pr_getR dX6_eveningGoes_65 tf_6_7 (hv10) ?_
        refine pr_sipush (v := 273) dX6_eveningGoes_68 (ks_273) ?_
        obtain ⟨v11, hv11, hF⟩ := po_b hF
        refine pr_iald dX6_eveningGoes_71 (hv11) ?_
        refine pr_bipush (v := 10) dX6_eveningGoes_72 (kb_10) ?_
        refine pr_irem dX6_eveningGoes_74 (by decide) ?_
        obtain ⟨h12, hh12, hF⟩ := po_b hF
        refine pr_iast dX6_eveningGoes_75 (hh12) ?_
        refine pr_aload_n dX6_eveningGoes_76 rfl ?_
        refine pr_iload_n dX6_eveningGoes_77 rfl ?_
        obtain ⟨q13, hq13, hF⟩ := po_b hF
        refine po_i hq13 (fun hcl hq => ?_) (fun _ hq => nomatch hq)
        refine pr_V (as := [.int x1]) (rest := []) dX6_eveningGoes_78 cv_6_279 hcl rfl rfl rfl rfl (lb rfl) (lb rfl) (lb rfl) (ok_F_X6_feels hq) ?_
        refine pr_aload_n dX6_eveningGoes_81 rfl ?_
        refine pr_bipush (v := 120) dX6_eveningGoes_82 (kb_120) ?_
        obtain ⟨q14, hq14, hF⟩ := po_b hF
        refine po_i hq14 (fun hcl hq => ?_) (fun _ hq => nomatch hq)
        refine pr_V (as := [.int 120]) (rest := []) dX6_eveningGoes_84 cv_6_306 hcl rfl rfl rfl rfl (lb rfl) (lb rfl) (lb rfl) (ok_F_X6_holdsAny hq) ?_
        refine po_i hF (fun hc hF => ?_) (fun hc hF => ?_)
        · refine pr_ifF (tgt := 102) dX6_eveningGoes_87 (by decide) (pc_neF hc) ?_
          refine pr_aload_n dX6_eveningGoes_90 rfl ?_
          refine pr_aload_n dX6_eveningGoes_91 rfl ?_
          obtain ⟨v15, hv15, hF⟩ := po_b hF
          refine pr_getI dX6_eveningGoes_92 tf_6_288 (hv15) ?_
          refine pr_iconst (v := 1) dX6_eveningGoes_95 (kc_1) ?_
          refine pr_iload_n dX6_eveningGoes_96 rfl ?_
          refine pr_ishl dX6_eveningGoes_97 ?_
          refine pr_ior dX6_eveningGoes_98 ?_
          obtain ⟨h16, hh16, hF⟩ := po_b hF
          refine pr_put dX6_eveningGoes_99 tp_6_288 (hh16) ?_
          refine pr_iinc (v := 1) (L' := [.ref x0, .int (x1 + 1), pm_D, pm_D]) dX6_eveningGoes_102 rfl (kc_1) rfl ?_
          refine pr_goto (tgt := 15) dX6_eveningGoes_105 (by decide) ?_
          exact ih hF hk
        · refine pr_ifT (tgt := 102) dX6_eveningGoes_87 (by decide) (pc_neT hc) ?_
          refine pr_iinc (v := 1) (L' := [.ref x0, .int (x1 + 1), pm_D, pm_D]) dX6_eveningGoes_102 rfl (kc_1) rfl ?_
          refine pr_goto (tgt := 15) dX6_eveningGoes_105 (by decide) ?_
          exact ih hF hk
    · refine pr_icT (tgt := 108) dX6_eveningGoes_18 (by decide) (pc_geT hc) ?_
      cases hF
      exact hk _ rfl
def L_X6_eveningGoes_113 : Nat → Nat → Int32 → pm_H → Option (pm_H)
  | 0, _, _, _ => none
  | n + 1, x0, x1, h =>
    if x1 = (-1) then
      some h
    else
      (pm_fI [(5, 41)] h x0).bind fun v19 =>
      (pm_put [(5, 41, 0)] h x0 (.int (v19 &&& ((pm_shl 1 (x1 / 16)) ^^^ (-1))))).bind fun h20 =>
      (pm_fR [(5, 0)] h20 x0).bind fun v21 =>
      (pm_fR [(5, 0)] h20 x0).bind fun v22 =>
      (pm_ai 0 h20 v22 ((16 + (16 * (pm_rem x1 16))) + (x1 / 16))).bind fun v23 =>
      (F_X6_min 9999 (v23 + 1)).bind fun q24 =>
      (pm_si 0 h20 v21 ((16 + (16 * (pm_rem x1 16))) + (x1 / 16)) q24).bind fun h25 =>
      (pm_fI [(5, 43)] h25 x0).bind fun v26 =>
      (pm_put [(5, 43, 0)] h25 x0 (.int (v26 + 1))).bind fun h27 =>
      (if pm_cl_ h27 x0 = some 5 then F_X6_likedMost n h27 x0 else none).bind fun q28 =>
      L_X6_eveningGoes_113 n x0 q28.1 q28.2
theorem ok_L_X6_eveningGoes_113 {d : Nat} : ∀ (n : Nat) {x0 : Nat} {x1 : Int32} {w2 w3 : Value} {h : pm_H} {q : pm_H} {res : Option Value × pm_H}, L_X6_eveningGoes_113 n x0 x1 h = some q → pm_nolong w2 = true → pm_nolong w3 = true → (∀ z1 : Value, pm_nolong z1 = true → ∀ z2 : Value, pm_nolong z2 = true → ∀ z3 : Value, pm_nolong z3 = true → pm_E (d + 4) 6 cX6_eveningGoes (none) 188 [.ref x0, z1, z2, z3] [] q res) → pm_E (d + 4) 6 cX6_eveningGoes (none) 113 [.ref x0, .int x1, w2, w3] [] h res := by
  intro n
  induction n with
  | zero =>
    intro x0 x1 w2 w3 h q res hF hw2 hw3 hk
    rw [L_X6_eveningGoes_113] at hF
    cases hF
  | succ n ih =>
    intro x0 x1 w2 w3 h q res hF hw2 hw3 hk
    rw [L_X6_eveningGoes_113] at hF
    refine pr_iload_n dX6_eveningGoes_113 rfl ?_
    refine pr_iconst (v := (-1)) dX6_eveningGoes_114 (kc_m1) ?_
    refine po_i hF (fun hc hF => ?_) (fun hc hF => ?_)
    · refine pr_icT (tgt := 188) dX6_eveningGoes_115 (by decide) (pc_eqT hc) ?_
      cases hF
      exact hk _ rfl _ hw2 _ hw3
    · refine pr_icF (tgt := 188) dX6_eveningGoes_115 (by decide) (pc_eqF hc) ?_
      refine pr_iload_n dX6_eveningGoes_118 rfl ?_
      refine pr_bipush (v := 16) dX6_eveningGoes_119 (kb_16) ?_
      refine pr_idiv dX6_eveningGoes_121 (by decide) ?_
      refine pr_istore_n (L' := [.ref x0, .int x1, .int (x1 / 16), w3]) dX6_eveningGoes_122 rfl ?_
      refine pr_bipush (v := 16) dX6_eveningGoes_123 (kb_16) ?_
      refine pr_bipush (v := 16) dX6_eveningGoes_125 (kb_16) ?_
      refine pr_iload_n dX6_eveningGoes_127 rfl ?_
      refine pr_bipush (v := 16) dX6_eveningGoes_128 (kb_16) ?_
      refine pr_irem dX6_eveningGoes_130 (by decide) ?_
      refine pr_imul dX6_eveningGoes_131 ?_
      refine pr_iadd dX6_eveningGoes_132 ?_
      refine pr_iload_n dX6_eveningGoes_133 rfl ?_
      refine pr_iadd dX6_eveningGoes_134 ?_
      refine pr_istore_n (L' := [.ref x0, .int x1, .int (x1 / 16), .int ((16 + (16 * (pm_rem x1 16))) + (x1 / 16))]) dX6_eveningGoes_135 rfl ?_
      refine pr_aload_n dX6_eveningGoes_136 rfl ?_
      refine pr_aload_n dX6_eveningGoes_137 rfl ?_
      obtain ⟨v19, hv19, hF⟩ := po_b hF
      refine pr_getI dX6_eveningGoes_138 tf_6_273 (hv19) ?_
      refine pr_iconst (v := 1) dX6_eveningGoes_141 (kc_1) ?_
      refine pr_iload_n dX6_eveningGoes_142 rfl ?_
      refine pr_ishl dX6_eveningGoes_143 ?_
      refine pr_iconst (v := (-1)) dX6_eveningGoes_144 (kc_m1) ?_
      refine pr_ixor dX6_eveningGoes_145 ?_
      refine pr_iand dX6_eveningGoes_146 ?_
      obtain ⟨h20, hh20, hF⟩ := po_b hF
      refine pr_put dX6_eveningGoes_147 tp_6_273 (hh20) ?_
      refine pr_aload_n dX6_eveningGoes_150 rfl ?_
      obtain ⟨v21, hv21, hF⟩ := po_b hF
      refine pr_getR dX6_eveningGoes_151 tf_6_7 (hv21) ?_
      refine pr_iload_n dX6_eveningGoes_154 rfl ?_
      refine pr_sipush (v := 9999) dX6_eveningGoes_155 (ks_9999) ?_
      refine pr_aload_n dX6_eveningGoes_158 rfl ?_
      obtain ⟨v22, hv22, hF⟩ := po_b hF
      refine pr_getR dX6_eveningGoes_159 tf_6_7 (hv22) ?_
      refine pr_iload_n dX6_eveningGoes_162 rfl ?_
      obtain ⟨v23, hv23, hF⟩ := po_b hF
      refine pr_iald dX6_eveningGoes_163 (hv23) ?_
      refine pr_iconst (v := 1) dX6_eveningGoes_164 (kc_1) ?_
      refine pr_iadd dX6_eveningGoes_165 ?_
      obtain ⟨q24, hq24, hF⟩ := po_b hF
      refine pr_S dX6_eveningGoes_166 cs_6_303 (as := [.int 9999, .int (v23 + 1)]) (rest := [.int ((16 + (16 * (pm_rem x1 16))) + (x1 / 16)), .ref v21]) rfl rfl rfl (lb rfl) (lb rfl) (lb rfl) (ok_F_X6_min hq24) ?_
      obtain ⟨h25, hh25, hF⟩ := po_b hF
      refine pr_iast dX6_eveningGoes_169 (hh25) ?_
      refine pr_aload_n dX6_eveningGoes_170 rfl ?_
      refine pr_aload_n dX6_eveningGoes_171 rfl ?_
      obtain ⟨v26, hv26, hF⟩ := po_b hF
      refine pr_getI dX6_eveningGoes_172 tf_6_312 (hv26) ?_
      refine pr_iconst (v := 1) dX6_eveningGoes_175 (kc_1) ?_
      refine pr_iadd dX6_eveningGoes_176 ?_
      obtain ⟨h27, hh27, hF⟩ := po_b hF
      refine pr_put dX6_eveningGoes_177 tp_6_312 (hh27) ?_
      refine pr_aload_n dX6_eveningGoes_180 rfl ?_
      obtain ⟨q28, hq28, hF⟩ := po_b hF
      refine po_i hq28 (fun hcl hq => ?_) (fun _ hq => nomatch hq)
      refine pr_V (as := []) (rest := []) dX6_eveningGoes_181 cv_6_309 hcl rfl rfl rfl rfl (lb rfl) (lb rfl) (lb rfl) (ok_F_X6_likedMost hq) ?_
      refine pr_istore_n (L' := [.ref x0, .int q28.1, .int (x1 / 16), .int ((16 + (16 * (pm_rem x1 16))) + (x1 / 16))]) dX6_eveningGoes_184 rfl ?_
      refine pr_goto (tgt := 113) dX6_eveningGoes_185 (by decide) ?_
      exact ih hF rfl rfl hk
def F_X6_eveningGoes (n : Nat) (h : pm_H) (a0 : Nat) : Option (pm_H) :=
  (pm_fI [(5, 7)] h a0).bind fun v1 =>
  (pm_put [(5, 41, 0)] h a0 (.int v1)).bind fun h2 =>
  (pm_put [(5, 42, 0)] h2 a0 (.int 0)).bind fun h3 =>
  (L_X6_eveningGoes_15 n a0 0 h3).bind fun q17 =>
  (if pm_cl_ q17 a0 = some 5 then F_X6_likedMost n q17 a0 else none).bind fun q18 =>
  (L_X6_eveningGoes_113 n a0 q18.1 q18.2).bind fun q29 =>
  (if pm_cl_ q29 a0 = some 5 then F_X6_goesToBed n q29 a0 else none).bind fun q30 =>
  (pm_fR [(5, 0)] q30 a0).bind fun v31 =>
  (pm_fR [(5, 0)] q30 a0).bind fun v32 =>
  (pm_ai 0 q30 v32 272).bind fun v33 =>
  (pm_si 0 q30 v31 272 (v33 + 1)).bind fun h34 =>
  some h34
theorem ok_F_X6_eveningGoes {d n : Nat} {h : pm_H} {a0 : Nat} {q : pm_H} (hF : F_X6_eveningGoes n h a0 = some q) : pm_E (d + 4) 6 cX6_eveningGoes (none) 0 [.ref a0, pm_D, pm_D, pm_D] [] h (none, q) := by
  unfold F_X6_eveningGoes at hF
  refine pr_aload_n dX6_eveningGoes_0 rfl ?_
  refine pr_aload_n dX6_eveningGoes_1 rfl ?_
  obtain ⟨v1, hv1, hF⟩ := po_b hF
  refine pr_getI dX6_eveningGoes_2 tf_6_108 (hv1) ?_
  obtain ⟨h2, hh2, hF⟩ := po_b hF
  refine pr_put dX6_eveningGoes_5 tp_6_273 (hh2) ?_
  refine pr_aload_n dX6_eveningGoes_8 rfl ?_
  refine pr_iconst (v := 0) dX6_eveningGoes_9 (kc_0) ?_
  obtain ⟨h3, hh3, hF⟩ := po_b hF
  refine pr_put dX6_eveningGoes_10 tp_6_288 (hh3) ?_
  refine pr_iconst (v := 0) dX6_eveningGoes_13 (kc_0) ?_
  refine pr_istore_n (L' := [.ref a0, .int 0, pm_D, pm_D]) dX6_eveningGoes_14 rfl ?_
  obtain ⟨q17, hq17, hF⟩ := po_b hF
  refine ok_L_X6_eveningGoes_15 n hq17 (fun z1 hz1 => ?_)
  refine pr_aload_n dX6_eveningGoes_108 rfl ?_
  obtain ⟨q18, hq18, hF⟩ := po_b hF
  refine po_i hq18 (fun hcl hq => ?_) (fun _ hq => nomatch hq)
  refine pr_V (as := []) (rest := []) dX6_eveningGoes_109 cv_6_309 hcl rfl rfl rfl rfl (lb rfl) (lb rfl) (lb rfl) (ok_F_X6_likedMost hq) ?_
  refine pr_istore_n (L' := [.ref a0, .int q18.1, pm_D, pm_D]) dX6_eveningGoes_112 rfl ?_
  obtain ⟨q29, hq29, hF⟩ := po_b hF
  refine ok_L_X6_eveningGoes_113 n hq29 rfl rfl (fun z1 hz1 z2 hz2 z3 hz3 => ?_)
  refine pr_aload_n dX6_eveningGoes_188 rfl ?_
  obtain ⟨q30, hq30, hF⟩ := po_b hF
  refine po_i hq30 (fun hcl hq => ?_) (fun _ hq => nomatch hq)
  refine pr_V (as := []) (rest := []) dX6_eveningGoes_189 cv_6_315 hcl rfl rfl rfl rfl (lb rfl) (lb rfl) (lb rfl) (ok_F_X6_goesToBed hq) ?_
  refine pr_aload_n dX6_eveningGoes_192 rfl ?_
  obtain ⟨v31, hv31, hF⟩ := po_b hF
  refine pr_getR dX6_eveningGoes_193 tf_6_7 (hv31) ?_
  refine pr_sipush (v := 272) dX6_eveningGoes_196 (ks_272) ?_
  refine pr_aload_n dX6_eveningGoes_199 rfl ?_
  obtain ⟨v32, hv32, hF⟩ := po_b hF
  refine pr_getR dX6_eveningGoes_200 tf_6_7 (hv32) ?_
  refine pr_sipush (v := 272) dX6_eveningGoes_203 (ks_272) ?_
  obtain ⟨v33, hv33, hF⟩ := po_b hF
  refine pr_iald dX6_eveningGoes_206 (hv33) ?_
  refine pr_iconst (v := 1) dX6_eveningGoes_207 (kc_1) ?_
  refine pr_iadd dX6_eveningGoes_208 ?_
  obtain ⟨h34, hh34, hF⟩ := po_b hF
  refine pr_iast dX6_eveningGoes_209 (hh34) ?_
  cases hF
  exact pr_vret dX6_eveningGoes_210 rfl rfl

def L_X6_eveningsGo_12 : Nat → Nat → Int32 → Int32 → pm_H → Option (pm_H)
  | 0, _, _, _, _ => none
  | n + 1, x0, x1, x2, h =>
    if x2 < x1 then
      (pm_fR [(5, 0)] h x0).bind fun v3 =>
      (pm_ai 0 h v3 272).bind fun v4 =>
      if v4 < 9999 then
        (if pm_cl_ h x0 = some 5 then F_X6_eveningGoes n h x0 else none).bind fun q5 =>
        L_X6_eveningsGo_12 n x0 x1 (x2 + 1) q5
      else
        some h
    else
      some h
theorem ok_L_X6_eveningsGo_12 {d : Nat} : ∀ (n : Nat) {x0 : Nat} {x1 : Int32} {x2 : Int32} {h : pm_H} {q : pm_H} {res : Option Value × pm_H}, L_X6_eveningsGo_12 n x0 x1 x2 h = some q → (∀ z2 : Value, pm_nolong z2 = true → pm_E (d + 5) 6 cX6_eveningsGo (none) 41 [.ref x0, .int x1, z2] [] q res) → pm_E (d + 5) 6 cX6_eveningsGo (none) 12 [.ref x0, .int x1, .int x2] [] h res := by
  intro n
  induction n with
  | zero =>
    intro x0 x1 x2 h q res hF hk
    rw [L_X6_eveningsGo_12] at hF
    cases hF
  | succ n ih =>
    intro x0 x1 x2 h q res hF hk
    rw [L_X6_eveningsGo_12] at hF
    refine pr_iload_n dX6_eveningsGo_12 rfl ?_
    refine pr_iload_n dX6_eveningsGo_13 rfl ?_
    refine po_i hF (fun hc hF => ?_) (fun hc hF => ?_)
    · refine pr_icF (tgt := 41) dX6_eveningsGo_14 (by decide) (pc_geF hc) ?_
      refine pr_aload_n dX6_eveningsGo_17 rfl ?_
      obtain ⟨v3, hv3, hF⟩ := po_b hF
      refine pr_getR dX6_eveningsGo_18 tf_6_7 (hv3) ?_
      refine pr_sipush (v := 272) dX6_eveningsGo_21 (ks_272) ?_
      obtain ⟨v4, hv4, hF⟩ := po_b hF
      refine pr_iald dX6_eveningsGo_24 (hv4) ?_
      refine pr_sipush (v := 9999) dX6_eveningsGo_25 (ks_9999) ?_
      refine po_i hF (fun hc hF => ?_) (fun hc hF => ?_)
      · refine pr_icF (tgt := 41) dX6_eveningsGo_28 (by decide) (pc_geF hc) ?_
        refine pr_aload_n dX6_eveningsGo_31 rfl ?_
        obtain ⟨q5, hq5, hF⟩ := po_b hF
        refine po_i hq5 (fun hcl hq => ?_) (fun _ hq => nomatch hq)
        refine pr_V (as := []) (rest := []) dX6_eveningsGo_32 cv_6_318 hcl rfl rfl rfl rfl (lb rfl) (lb rfl) (lb rfl) (ok_F_X6_eveningGoes hq) ?_
        refine pr_iinc (v := 1) (L' := [.ref x0, .int x1, .int (x2 + 1)]) dX6_eveningsGo_35 rfl (kc_1) rfl ?_
        refine pr_goto (tgt := 12) dX6_eveningsGo_38 (by decide) ?_
        exact ih hF hk
      · refine pr_icT (tgt := 41) dX6_eveningsGo_28 (by decide) (pc_geT hc) ?_
        cases hF
        exact hk _ rfl
    · refine pr_icT (tgt := 41) dX6_eveningsGo_14 (by decide) (pc_geT hc) ?_
      cases hF
      exact hk _ rfl
def F_X6_eveningsGo (n : Nat) (h : pm_H) (a0 : Nat) (x1 : Int32) : Option (pm_H) :=
  (pm_put [(5, 43, 0)] h a0 (.int 0)).bind fun h1 =>
  (pm_put [(5, 44, 0)] h1 a0 (.int (-1))).bind fun h2 =>
  (L_X6_eveningsGo_12 n a0 x1 0 h2).bind fun q6 =>
  some q6
theorem ok_F_X6_eveningsGo {d n : Nat} {h : pm_H} {a0 : Nat} {x1 : Int32} {q : pm_H} (hF : F_X6_eveningsGo n h a0 x1 = some q) : pm_E (d + 5) 6 cX6_eveningsGo (none) 0 [.ref a0, .int x1, pm_D] [] h (none, q) := by
  unfold F_X6_eveningsGo at hF
  refine pr_aload_n dX6_eveningsGo_0 rfl ?_
  refine pr_iconst (v := 0) dX6_eveningsGo_1 (kc_0) ?_
  obtain ⟨h1, hh1, hF⟩ := po_b hF
  refine pr_put dX6_eveningsGo_2 tp_6_312 (hh1) ?_
  refine pr_aload_n dX6_eveningsGo_5 rfl ?_
  refine pr_iconst (v := (-1)) dX6_eveningsGo_6 (kc_m1) ?_
  obtain ⟨h2, hh2, hF⟩ := po_b hF
  refine pr_put dX6_eveningsGo_7 tp_6_300 (hh2) ?_
  refine pr_iconst (v := 0) dX6_eveningsGo_10 (kc_0) ?_
  refine pr_istore_n (L' := [.ref a0, .int x1, .int 0]) dX6_eveningsGo_11 rfl ?_
  obtain ⟨q6, hq6, hF⟩ := po_b hF
  refine ok_L_X6_eveningsGo_12 n hq6 (fun z2 hz2 => ?_)
  cases hF
  exact pr_vret dX6_eveningsGo_41 rfl rfl

def F_X6_evenings (n : Nat) (h : pm_H) (a0 : Nat) (x1 : Int32) : Option (Int32 × pm_H) :=
  (F_X6_in x1 1 100).bind fun q1 =>
  if q1 = 0 then
    some ((-1), h)
  else
    (if pm_cl_ h a0 = some 5 then F_X6_eveningsGo n h a0 x1 else none).bind fun q2 =>
    (pm_fI [(5, 43)] q2 a0).bind fun v3 =>
    some (v3, q2)
theorem ok_F_X6_evenings {d n : Nat} {h : pm_H} {a0 : Nat} {x1 : Int32} {q : Int32 × pm_H} (hF : F_X6_evenings n h a0 x1 = some q) : pm_E (d + 6) 6 cX6_evenings (some .int) 0 [.ref a0, .int x1] [] h (some (.int q.1), q.2) := by
  unfold F_X6_evenings at hF
  refine pr_iload_n dX6_evenings_0 rfl ?_
  refine pr_iconst (v := 1) dX6_evenings_1 (kc_1) ?_
  refine pr_bipush (v := 100) dX6_evenings_2 (kb_100) ?_
  obtain ⟨q1, hq1, hF⟩ := po_b hF
  refine pr_S dX6_evenings_4 cs_6_104 (as := [.int x1, .int 1, .int 100]) (rest := []) rfl rfl rfl (lb rfl) (lb rfl) (lb rfl) (ok_F_X6_in hq1) ?_
  refine po_i hF (fun hc hF => ?_) (fun hc hF => ?_)
  · refine pr_ifF (tgt := 12) dX6_evenings_7 (by decide) (pc_neF hc) ?_
    refine pr_iconst (v := (-1)) dX6_evenings_10 (kc_m1) ?_
    cases hF
    exact pr_iret dX6_evenings_11 rfl rfl rfl
  · refine pr_ifT (tgt := 12) dX6_evenings_7 (by decide) (pc_neT hc) ?_
    refine pr_aload_n dX6_evenings_12 rfl ?_
    refine pr_iload_n dX6_evenings_13 rfl ?_
    obtain ⟨q2, hq2, hF⟩ := po_b hF
    refine po_i hq2 (fun hcl hq => ?_) (fun _ hq => nomatch hq)
    refine pr_V (as := [.int x1]) (rest := []) dX6_evenings_14 cv_6_321 hcl rfl rfl rfl rfl (lb rfl) (lb rfl) (lb rfl) (ok_F_X6_eveningsGo hq) ?_
    refine pr_aload_n dX6_evenings_17 rfl ?_
    obtain ⟨v3, hv3, hF⟩ := po_b hF
    refine pr_getI dX6_evenings_18 tf_6_312 (hv3) ?_
    cases hF
    exact pr_iret dX6_evenings_21 rfl rfl rfl

def L_X6_copies_2 : Nat → Nat → Nat → Int32 → pm_H → Option (pm_H)
  | 0, _, _, _, _ => none
  | n + 1, x0, x1, x2, h =>
    if x2 < 274 then
      (pm_ai 0 h x0 x2).bind fun v1 =>
      (pm_si 0 h x1 x2 v1).bind fun h2 =>
      L_X6_copies_2 n x0 x1 (x2 + 1) h2
    else
      some h
theorem ok_L_X6_copies_2 {d : Nat} : ∀ (n : Nat) {x0 : Nat} {x1 : Nat} {x2 : Int32} {h : pm_H} {q : pm_H} {res : Option Value × pm_H}, L_X6_copies_2 n x0 x1 x2 h = some q → (∀ z2 : Value, pm_nolong z2 = true → pm_E (d + 0) 6 cX6_copies (none) 21 [.ref x0, .ref x1, z2] [] q res) → pm_E (d + 0) 6 cX6_copies (none) 2 [.ref x0, .ref x1, .int x2] [] h res := by
  intro n
  induction n with
  | zero =>
    intro x0 x1 x2 h q res hF hk
    rw [L_X6_copies_2] at hF
    cases hF
  | succ n ih =>
    intro x0 x1 x2 h q res hF hk
    rw [L_X6_copies_2] at hF
    refine pr_iload_n dX6_copies_2 rfl ?_
    refine pr_sipush (v := 274) dX6_copies_3 (ks_274) ?_
    refine po_i hF (fun hc hF => ?_) (fun hc hF => ?_)
    · refine pr_icF (tgt := 21) dX6_copies_6 (by decide) (pc_geF hc) ?_
      refine pr_aload_n dX6_copies_9 rfl ?_
      refine pr_iload_n dX6_copies_10 rfl ?_
      refine pr_aload_n dX6_copies_11 rfl ?_
      refine pr_iload_n dX6_copies_12 rfl ?_
      obtain ⟨v1, hv1, hF⟩ := po_b hF
      refine pr_iald dX6_copies_13 (hv1) ?_
      obtain ⟨h2, hh2, hF⟩ := po_b hF
      refine pr_iast dX6_copies_14 (hh2) ?_
      refine pr_iinc (v := 1) (L' := [.ref x0, .ref x1, .int (x2 + 1)]) dX6_copies_15 rfl (kc_1) rfl ?_
      refine pr_goto (tgt := 2) dX6_copies_18 (by decide) ?_
      exact ih hF hk
    · refine pr_icT (tgt := 21) dX6_copies_6 (by decide) (pc_geT hc) ?_
      cases hF
      exact hk _ rfl
def F_X6_copies (n : Nat) (h : pm_H) (a0 : Nat) (a1 : Nat) : Option (pm_H) :=
  (L_X6_copies_2 n a0 a1 0 h).bind fun q3 =>
  some q3
theorem ok_F_X6_copies {d n : Nat} {h : pm_H} {a0 : Nat} {a1 : Nat} {q : pm_H} (hF : F_X6_copies n h a0 a1 = some q) : pm_E (d + 0) 6 cX6_copies (none) 0 [.ref a0, .ref a1, pm_D] [] h (none, q) := by
  unfold F_X6_copies at hF
  refine pr_iconst (v := 0) dX6_copies_0 (kc_0) ?_
  refine pr_istore_n (L' := [.ref a0, .ref a1, .int 0]) dX6_copies_1 rfl ?_
  obtain ⟨q3, hq3, hF⟩ := po_b hF
  refine ok_L_X6_copies_2 n hq3 (fun z2 hz2 => ?_)
  cases hF
  exact pr_vret dX6_copies_21 rfl rfl

def L_X6_nightsOfAll_4 : Nat → Nat → Int32 → Int32 → pm_H → Option (Int32)
  | 0, _, _, _, _ => none
  | n + 1, x0, x1, x2, h =>
    if x2 < 16 then
      (pm_fR [(5, 0)] h x0).bind fun v1 =>
      (pm_ai 0 h v1 (0 + x2)).bind fun v2 =>
      L_X6_nightsOfAll_4 n x0 (x1 + v2) (x2 + 1) h
    else
      some x1
theorem ok_L_X6_nightsOfAll_4 {d : Nat} : ∀ (n : Nat) {x0 : Nat} {x1 : Int32} {x2 : Int32} {h : pm_H} {q : Int32} {res : Option Value × pm_H}, L_X6_nightsOfAll_4 n x0 x1 x2 h = some q → (∀ z2 : Value, pm_nolong z2 = true → pm_E (d + 0) 6 cX6_nightsOfAll (some .int) 27 [.ref x0, .int q, z2] [] h res) → pm_E (d + 0) 6 cX6_nightsOfAll (some .int) 4 [.ref x0, .int x1, .int x2] [] h res := by
  intro n
  induction n with
  | zero =>
    intro x0 x1 x2 h q res hF hk
    rw [L_X6_nightsOfAll_4] at hF
    cases hF
  | succ n ih =>
    intro x0 x1 x2 h q res hF hk
    rw [L_X6_nightsOfAll_4] at hF
    refine pr_iload_n dX6_nightsOfAll_4 rfl ?_
    refine pr_bipush (v := 16) dX6_nightsOfAll_5 (kb_16) ?_
    refine po_i hF (fun hc hF => ?_) (fun hc hF => ?_)
    · refine pr_icF (tgt := 27) dX6_nightsOfAll_7 (by decide) (pc_geF hc) ?_
      refine pr_iload_n dX6_nightsOfAll_10 rfl ?_
      refine pr_aload_n dX6_nightsOfAll_11 rfl ?_
      obtain ⟨v1, hv1, hF⟩ := po_b hF
      refine pr_getR dX6_nightsOfAll_12 tf_6_7 (hv1) ?_
      refine pr_iconst (v := 0) dX6_nightsOfAll_15 (kc_0) ?_
      refine pr_iload_n dX6_nightsOfAll_16 rfl ?_
      refine pr_iadd dX6_nightsOfAll_17 ?_
      obtain ⟨v2, hv2, hF⟩ := po_b hF
      refine pr_iald dX6_nightsOfAll_18 (hv2) ?_
      refine pr_iadd dX6_nightsOfAll_19 ?_
      refine pr_istore_n (L' := [.ref x0, .int (x1 + v2), .int x2]) dX6_nightsOfAll_20 rfl ?_
      refine pr_iinc (v := 1) (L' := [.ref x0, .int (x1 + v2), .int (x2 + 1)]) dX6_nightsOfAll_21 rfl (kc_1) rfl ?_
      refine pr_goto (tgt := 4) dX6_nightsOfAll_24 (by decide) ?_
      exact ih hF hk
    · refine pr_icT (tgt := 27) dX6_nightsOfAll_7 (by decide) (pc_geT hc) ?_
      cases hF
      exact hk _ rfl
def F_X6_nightsOfAll (n : Nat) (h : pm_H) (a0 : Nat) : Option (Int32) :=
  (L_X6_nightsOfAll_4 n a0 0 0 h).bind fun q3 =>
  some q3
theorem ok_F_X6_nightsOfAll {d n : Nat} {h : pm_H} {a0 : Nat} {q : Int32} (hF : F_X6_nightsOfAll n h a0 = some q) : pm_E (d + 0) 6 cX6_nightsOfAll (some .int) 0 [.ref a0, pm_D, pm_D] [] h (some (.int q), h) := by
  unfold F_X6_nightsOfAll at hF
  refine pr_iconst (v := 0) dX6_nightsOfAll_0 (kc_0) ?_
  refine pr_istore_n (L' := [.ref a0, .int 0, pm_D]) dX6_nightsOfAll_1 rfl ?_
  refine pr_iconst (v := 0) dX6_nightsOfAll_2 (kc_0) ?_
  refine pr_istore_n (L' := [.ref a0, .int 0, .int 0]) dX6_nightsOfAll_3 rfl ?_
  obtain ⟨q3, hq3, hF⟩ := po_b hF
  refine ok_L_X6_nightsOfAll_4 n hq3 (fun z2 hz2 => ?_)
  refine pr_iload_n dX6_nightsOfAll_27 rfl ?_
  cases hF
  exact pr_iret dX6_nightsOfAll_28 rfl rfl rfl

def L_X6_favoursToAll_4 : Nat → Nat → Int32 → Int32 → Int32 → pm_H → Option (Int32)
  | 0, _, _, _, _, _ => none
  | n + 1, x0, x1, x2, x3, h =>
    if x3 < 16 then
      (if pm_cl_ h x0 = some 5 then F_X6_favoursOf h x0 x1 x3 else none).bind fun q1 =>
      L_X6_favoursToAll_4 n x0 x1 (x2 + q1) (x3 + 1) h
    else
      some x2
theorem ok_L_X6_favoursToAll_4 {d : Nat} : ∀ (n : Nat) {x0 : Nat} {x1 : Int32} {x2 : Int32} {x3 : Int32} {h : pm_H} {q : Int32} {res : Option Value × pm_H}, L_X6_favoursToAll_4 n x0 x1 x2 x3 h = some q → (∀ z3 : Value, pm_nolong z3 = true → pm_E (d + 1) 6 cX6_favoursToAll (some .int) 25 [.ref x0, .int x1, .int q, z3] [] h res) → pm_E (d + 1) 6 cX6_favoursToAll (some .int) 4 [.ref x0, .int x1, .int x2, .int x3] [] h res := by
  intro n
  induction n with
  | zero =>
    intro x0 x1 x2 x3 h q res hF hk
    rw [L_X6_favoursToAll_4] at hF
    cases hF
  | succ n ih =>
    intro x0 x1 x2 x3 h q res hF hk
    rw [L_X6_favoursToAll_4] at hF
    refine pr_iload_n dX6_favoursToAll_4 rfl ?_
    refine pr_bipush (v := 16) dX6_favoursToAll_5 (kb_16) ?_
    refine po_i hF (fun hc hF => ?_) (fun hc hF => ?_)
    · refine pr_icF (tgt := 25) dX6_favoursToAll_7 (by decide) (pc_geF hc) ?_
      refine pr_iload_n dX6_favoursToAll_10 rfl ?_
      refine pr_aload_n dX6_favoursToAll_11 rfl ?_
      refine pr_iload_n dX6_favoursToAll_12 rfl ?_
      refine pr_iload_n dX6_favoursToAll_13 rfl ?_
      obtain ⟨q1, hq1, hF⟩ := po_b hF
      refine po_i hq1 (fun hcl hq => ?_) (fun _ hq => nomatch hq)
      refine pr_V (as := [.int x1, .int x3]) (rest := [.int x2]) dX6_favoursToAll_14 cv_6_285 hcl rfl rfl rfl rfl (lb rfl) (lb rfl) (lb rfl) (ok_F_X6_favoursOf hq) ?_
      refine pr_iadd dX6_favoursToAll_17 ?_
      refine pr_istore_n (L' := [.ref x0, .int x1, .int (x2 + q1), .int x3]) dX6_favoursToAll_18 rfl ?_
      refine pr_iinc (v := 1) (L' := [.ref x0, .int x1, .int (x2 + q1), .int (x3 + 1)]) dX6_favoursToAll_19 rfl (kc_1) rfl ?_
      refine pr_goto (tgt := 4) dX6_favoursToAll_22 (by decide) ?_
      exact ih hF hk
    · refine pr_icT (tgt := 25) dX6_favoursToAll_7 (by decide) (pc_geT hc) ?_
      cases hF
      exact hk _ rfl
def F_X6_favoursToAll (n : Nat) (h : pm_H) (a0 : Nat) (x1 : Int32) : Option (Int32) :=
  (L_X6_favoursToAll_4 n a0 x1 0 0 h).bind fun q2 =>
  some q2
theorem ok_F_X6_favoursToAll {d n : Nat} {h : pm_H} {a0 : Nat} {x1 : Int32} {q : Int32} (hF : F_X6_favoursToAll n h a0 x1 = some q) : pm_E (d + 1) 6 cX6_favoursToAll (some .int) 0 [.ref a0, .int x1, pm_D, pm_D] [] h (some (.int q), h) := by
  unfold F_X6_favoursToAll at hF
  refine pr_iconst (v := 0) dX6_favoursToAll_0 (kc_0) ?_
  refine pr_istore_n (L' := [.ref a0, .int x1, .int 0, pm_D]) dX6_favoursToAll_1 rfl ?_
  refine pr_iconst (v := 0) dX6_favoursToAll_2 (kc_0) ?_
  refine pr_istore_n (L' := [.ref a0, .int x1, .int 0, .int 0]) dX6_favoursToAll_3 rfl ?_
  obtain ⟨q2, hq2, hF⟩ := po_b hF
  refine ok_L_X6_favoursToAll_4 n hq2 (fun z3 hz3 => ?_)
  refine pr_iload_n dX6_favoursToAll_25 rfl ?_
  cases hF
  exact pr_iret dX6_favoursToAll_26 rfl rfl rfl

def F_X6_tried (n : Nat) (h : pm_H) (a0 : Nat) (x1 : Int32) (x2 : Int32) : Option (Int32 × pm_H) :=
  (F_X6_in x1 1 100).bind fun q1 =>
  if q1 = 0 then
    some ((-1), h)
  else
    (F_X6_in x2 0 2).bind fun q2 =>
    if q2 = 0 then
      (if pm_cl_ h a0 = some 5 then F_X6_isTold h a0 (x2 - 10) else none).bind fun q18 =>
      if q18 = 0 then
        (if pm_cl_ h a0 = some 5 then F_X6_isTold h a0 (x2 - 30) else none).bind fun q34 =>
        if q34 = 0 then
          some ((-1), h)
        else
          (pm_fR [(5, 0)] h a0).bind fun v35 =>
          (pm_fR [(5, 1)] h a0).bind fun v36 =>
          (F_X6_copies n h v35 v36).bind fun q37 =>
          (if pm_cl_ q37 a0 = some 5 then F_X6_eveningsGo n q37 a0 x1 else none).bind fun q38 =>
          ((
            if x2.toInt < 0 ∨ 2 < x2.toInt then
              if x2 < 30 then
                (pm_fR [(5, 0)] q38 a0).bind fun v40 =>
                (pm_ai 0 q38 v40 ((0 + x2) - 10)).bind fun v41 =>
                some v41
              else
                (if pm_cl_ q38 a0 = some 5 then F_X6_favoursToAll n q38 a0 (x2 - 30) else none).bind fun q39 =>
                some q39
            else if x2 = 0 then
              (pm_fI [(5, 43)] q38 a0).bind fun v42 =>
              some v42
            else if x2 = 1 then
              (pm_fI [(5, 44)] q38 a0).bind fun v43 =>
              if v43 = (-1) then
                some (-2)
              else
                (pm_fI [(5, 44)] q38 a0).bind fun v44 =>
                some v44
            else if x2 = 2 then
              (if pm_cl_ q38 a0 = some 5 then F_X6_nightsOfAll n q38 a0 else none).bind fun q45 =>
              some q45
            else none
          ) : Option (Int32)).bind fun q46 =>
          (pm_fR [(5, 1)] q38 a0).bind fun v47 =>
          (pm_fR [(5, 0)] q38 a0).bind fun v48 =>
          (F_X6_copies n q38 v47 v48).bind fun q49 =>
          some (q46, q49)
      else
        (pm_fR [(5, 0)] h a0).bind fun v19 =>
        (pm_fR [(5, 1)] h a0).bind fun v20 =>
        (F_X6_copies n h v19 v20).bind fun q21 =>
        (if pm_cl_ q21 a0 = some 5 then F_X6_eveningsGo n q21 a0 x1 else none).bind fun q22 =>
        ((
          if x2.toInt < 0 ∨ 2 < x2.toInt then
            if x2 < 30 then
              (pm_fR [(5, 0)] q22 a0).bind fun v24 =>
              (pm_ai 0 q22 v24 ((0 + x2) - 10)).bind fun v25 =>
              some v25
            else
              (if pm_cl_ q22 a0 = some 5 then F_X6_favoursToAll n q22 a0 (x2 - 30) else none).bind fun q23 =>
              some q23
          else if x2 = 0 then
            (pm_fI [(5, 43)] q22 a0).bind fun v26 =>
            some v26
          else if x2 = 1 then
            (pm_fI [(5, 44)] q22 a0).bind fun v27 =>
            if v27 = (-1) then
              some (-2)
            else
              (pm_fI [(5, 44)] q22 a0).bind fun v28 =>
              some v28
          else if x2 = 2 then
            (if pm_cl_ q22 a0 = some 5 then F_X6_nightsOfAll n q22 a0 else none).bind fun q29 =>
            some q29
          else none
        ) : Option (Int32)).bind fun q30 =>
        (pm_fR [(5, 1)] q22 a0).bind fun v31 =>
        (pm_fR [(5, 0)] q22 a0).bind fun v32 =>
        (F_X6_copies n q22 v31 v32).bind fun q33 =>
        some (q30, q33)
    else
      (pm_fR [(5, 0)] h a0).bind fun v3 =>
      (pm_fR [(5, 1)] h a0).bind fun v4 =>
      (F_X6_copies n h v3 v4).bind fun q5 =>
      (if pm_cl_ q5 a0 = some 5 then F_X6_eveningsGo n q5 a0 x1 else none).bind fun q6 =>
      ((
        if x2.toInt < 0 ∨ 2 < x2.toInt then
          if x2 < 30 then
            (pm_fR [(5, 0)] q6 a0).bind fun v8 =>
            (pm_ai 0 q6 v8 ((0 + x2) - 10)).bind fun v9 =>
            some v9
          else
            (if pm_cl_ q6 a0 = some 5 then F_X6_favoursToAll n q6 a0 (x2 - 30) else none).bind fun q7 =>
            some q7
        else if x2 = 0 then
          (pm_fI [(5, 43)] q6 a0).bind fun v10 =>
          some v10
        else if x2 = 1 then
          (pm_fI [(5, 44)] q6 a0).bind fun v11 =>
          if v11 = (-1) then
            some (-2)
          else
            (pm_fI [(5, 44)] q6 a0).bind fun v12 =>
            some v12
        else if x2 = 2 then
          (if pm_cl_ q6 a0 = some 5 then F_X6_nightsOfAll n q6 a0 else none).bind fun q13 =>
          some q13
        else none
      ) : Option (Int32)).bind fun q14 =>
      (pm_fR [(5, 1)] q6 a0).bind fun v15 =>
      (pm_fR [(5, 0)] q6 a0).bind fun v16 =>
      (F_X6_copies n q6 v15 v16).bind fun q17 =>
      some (q14, q17)
theorem ok_F_X6_tried {d n : Nat} {h : pm_H} {a0 : Nat} {x1 : Int32} {x2 : Int32} {q : Int32 × pm_H} (hF : F_X6_tried n h a0 x1 x2 = some q) : pm_E (d + 6) 6 cX6_tried (some .int) 0 [.ref a0, .int x1, .int x2, pm_D] [] h (some (.int q.1), q.2) := by
  unfold F_X6_tried at hF
  refine pr_iload_n dX6_tried_0 rfl ?_
  refine pr_iconst (v := 1) dX6_tried_1 (kc_1) ?_
  refine pr_bipush (v := 100) dX6_tried_2 (kb_100) ?_
  obtain ⟨q1, hq1, hF⟩ := po_b hF
  refine pr_S dX6_tried_4 cs_6_104 (as := [.int x1, .int 1, .int 100]) (rest := []) rfl rfl rfl (lb rfl) (lb rfl) (lb rfl) (ok_F_X6_in hq1) ?_
  refine po_i hF (fun hc hF => ?_) (fun hc hF => ?_)
  · refine pr_ifT (tgt := 41) dX6_tried_7 (by decide) (pc_eqT hc) ?_
    refine pr_iconst (v := (-1)) dX6_tried_41 (kc_m1) ?_
    cases hF
    exact pr_iret dX6_tried_42 rfl rfl rfl
  · refine pr_ifF (tgt := 41) dX6_tried_7 (by decide) (pc_eqF hc) ?_
    refine pr_iload_n dX6_tried_10 rfl ?_
    refine pr_iconst (v := 0) dX6_tried_11 (kc_0) ?_
    refine pr_iconst (v := 2) dX6_tried_12 (kc_2) ?_
    obtain ⟨q2, hq2, hF⟩ := po_b hF
    refine pr_S dX6_tried_13 cs_6_104 (as := [.int x2, .int 0, .int 2]) (rest := []) rfl rfl rfl (lb rfl) (lb rfl) (lb rfl) (ok_F_X6_in hq2) ?_
    refine po_i hF (fun hc hF => ?_) (fun hc hF => ?_)
    · refine pr_ifF (tgt := 43) dX6_tried_16 (by decide) (pc_neF hc) ?_
      refine pr_aload_n dX6_tried_19 rfl ?_
      refine pr_iload_n dX6_tried_20 rfl ?_
      refine pr_bipush (v := 10) dX6_tried_21 (kb_10) ?_
      refine pr_isub dX6_tried_23 ?_
      obtain ⟨q18, hq18, hF⟩ := po_b hF
      refine po_i hq18 (fun hcl hq => ?_) (fun _ hq => nomatch hq)
      refine pr_V (as := [.int (x2 - 10)]) (rest := []) dX6_tried_24 cv_6_233 hcl rfl rfl rfl rfl (lb rfl) (lb rfl) (lb rfl) (ok_F_X6_isTold hq) ?_
      refine po_i hF (fun hc hF => ?_) (fun hc hF => ?_)
      · refine pr_ifF (tgt := 43) dX6_tried_27 (by decide) (pc_neF hc) ?_
        refine pr_aload_n dX6_tried_30 rfl ?_
        refine pr_iload_n dX6_tried_31 rfl ?_
        refine pr_bipush (v := 30) dX6_tried_32 (kb_30) ?_
        refine pr_isub dX6_tried_34 ?_
        obtain ⟨q34, hq34, hF⟩ := po_b hF
        refine po_i hq34 (fun hcl hq => ?_) (fun _ hq => nomatch hq)
        refine pr_V (as := [.int (x2 - 30)]) (rest := []) dX6_tried_35 cv_6_233 hcl rfl rfl rfl rfl (lb rfl) (lb rfl) (lb rfl) (ok_F_X6_isTold hq) ?_
        refine po_i hF (fun hc hF => ?_) (fun hc hF => ?_)
        · refine pr_ifF (tgt := 43) dX6_tried_38 (by decide) (pc_neF hc) ?_
          refine pr_iconst (v := (-1)) dX6_tried_41 (kc_m1) ?_
          cases hF
          exact pr_iret dX6_tried_42 rfl rfl rfl
        · refine pr_ifT (tgt := 43) dX6_tried_38 (by decide) (pc_neT hc) ?_
          refine pr_aload_n dX6_tried_43 rfl ?_
          obtain ⟨v35, hv35, hF⟩ := po_b hF
          refine pr_getR dX6_tried_44 tf_6_7 (hv35) ?_
          refine pr_aload_n dX6_tried_47 rfl ?_
          obtain ⟨v36, hv36, hF⟩ := po_b hF
          refine pr_getR dX6_tried_48 tf_6_13 (hv36) ?_
          obtain ⟨q37, hq37, hF⟩ := po_b hF
          refine pr_S dX6_tried_51 cs_6_324 (as := [.ref v35, .ref v36]) (rest := []) rfl rfl rfl (lb rfl) (lb rfl) (lb rfl) (ok_F_X6_copies hq37) ?_
          refine pr_aload_n dX6_tried_54 rfl ?_
          refine pr_iload_n dX6_tried_55 rfl ?_
          obtain ⟨q38, hq38, hF⟩ := po_b hF
          refine po_i hq38 (fun hcl hq => ?_) (fun _ hq => nomatch hq)
          refine pr_V (as := [.int x1]) (rest := []) dX6_tried_56 cv_6_321 hcl rfl rfl rfl rfl (lb rfl) (lb rfl) (lb rfl) (ok_F_X6_eveningsGo hq) ?_
          refine pr_iload_n dX6_tried_59 rfl ?_
          obtain ⟨q46, hq46, hF⟩ := po_b hF
          have J154 : pm_E (d + 6) 6 cX6_tried (some .int) 154 [.ref a0, .int x1, .int x2, .int q46] [] q38 (some (.int q.1), q.2) := by
            refine pr_aload_n dX6_tried_154 rfl ?_
            obtain ⟨v47, hv47, hF⟩ := po_b hF
            refine pr_getR dX6_tried_155 tf_6_13 (hv47) ?_
            refine pr_aload_n dX6_tried_158 rfl ?_
            obtain ⟨v48, hv48, hF⟩ := po_b hF
            refine pr_getR dX6_tried_159 tf_6_7 (hv48) ?_
            obtain ⟨q49, hq49, hF⟩ := po_b hF
            refine pr_S dX6_tried_162 cs_6_324 (as := [.ref v47, .ref v48]) (rest := []) rfl rfl rfl (lb rfl) (lb rfl) (lb rfl) (ok_F_X6_copies hq49) ?_
            refine pr_iload_n dX6_tried_165 rfl ?_
            cases hF
            exact pr_iret dX6_tried_166 rfl rfl rfl
          clear hF
          have hF := hq46
          refine po_i hF (fun hc hF => ?_) (fun hc hF => ?_)
          · refine pr_tabO (tgt := 125) dX6_tried_60 hc (by decide) ?_
            refine pr_iload_n dX6_tried_125 rfl ?_
            refine pr_bipush (v := 30) dX6_tried_126 (kb_30) ?_
            refine po_i hF (fun hc hF => ?_) (fun hc hF => ?_)
            · refine pr_icF (tgt := 145) dX6_tried_128 (by decide) (pc_geF hc) ?_
              refine pr_aload_n dX6_tried_131 rfl ?_
              obtain ⟨v40, hv40, hF⟩ := po_b hF
              refine pr_getR dX6_tried_132 tf_6_7 (hv40) ?_
              refine pr_iconst (v := 0) dX6_tried_135 (kc_0) ?_
              refine pr_iload_n dX6_tried_136 rfl ?_
              refine pr_iadd dX6_tried_137 ?_
              refine pr_bipush (v := 10) dX6_tried_138 (kb_10) ?_
              refine pr_isub dX6_tried_140 ?_
              obtain ⟨v41, hv41, hF⟩ := po_b hF
              refine pr_iald dX6_tried_141 (hv41) ?_
              refine pr_goto (tgt := 153) dX6_tried_142 (by decide) ?_
              refine pr_istore_n (L' := [.ref a0, .int x1, .int x2, .int v41]) dX6_tried_153 rfl ?_
              cases hF
              exact J154
            · refine pr_icT (tgt := 145) dX6_tried_128 (by decide) (pc_geT hc) ?_
              refine pr_aload_n dX6_tried_145 rfl ?_
              refine pr_iload_n dX6_tried_146 rfl ?_
              refine pr_bipush (v := 30) dX6_tried_147 (kb_30) ?_
              refine pr_isub dX6_tried_149 ?_
              obtain ⟨q39, hq39, hF⟩ := po_b hF
              refine po_i hq39 (fun hcl hq => ?_) (fun _ hq => nomatch hq)
              refine pr_V (as := [.int (x2 - 30)]) (rest := []) dX6_tried_150 cv_6_331 hcl rfl rfl rfl rfl (lb rfl) (lb rfl) (lb rfl) (ok_F_X6_favoursToAll hq) ?_
              refine pr_istore_n (L' := [.ref a0, .int x1, .int x2, .int q39]) dX6_tried_153 rfl ?_
              cases hF
              exact J154
          refine po_i hF (fun he hF => ?_) (fun he0 hF => ?_)
          · refine pr_tabI (off := 28) (tgt := 88) dX6_tried_60 hc (by rw [he]; rfl) (by decide) ?_
            refine pr_aload_n dX6_tried_88 rfl ?_
            obtain ⟨v42, hv42, hF⟩ := po_b hF
            refine pr_getI dX6_tried_89 tf_6_312 (hv42) ?_
            refine pr_istore_n (L' := [.ref a0, .int x1, .int x2, .int v42]) dX6_tried_92 rfl ?_
            refine pr_goto (tgt := 154) dX6_tried_93 (by decide) ?_
            cases hF
            exact J154
          refine po_i hF (fun he hF => ?_) (fun he1 hF => ?_)
          · refine pr_tabI (off := 36) (tgt := 96) dX6_tried_60 hc (by rw [he]; rfl) (by decide) ?_
            refine pr_aload_n dX6_tried_96 rfl ?_
            obtain ⟨v43, hv43, hF⟩ := po_b hF
            refine pr_getI dX6_tried_97 tf_6_300 (hv43) ?_
            refine pr_iconst (v := (-1)) dX6_tried_100 (kc_m1) ?_
            refine po_i hF (fun hc hF => ?_) (fun hc hF => ?_)
            · refine pr_icF (tgt := 109) dX6_tried_101 (by decide) (pc_neF hc) ?_
              refine pr_bipush (v := (-2)) dX6_tried_104 (kb_m2) ?_
              refine pr_goto (tgt := 113) dX6_tried_106 (by decide) ?_
              refine pr_istore_n (L' := [.ref a0, .int x1, .int x2, .int (-2)]) dX6_tried_113 rfl ?_
              refine pr_goto (tgt := 154) dX6_tried_114 (by decide) ?_
              cases hF
              exact J154
            · refine pr_icT (tgt := 109) dX6_tried_101 (by decide) (pc_neT hc) ?_
              refine pr_aload_n dX6_tried_109 rfl ?_
              obtain ⟨v44, hv44, hF⟩ := po_b hF
              refine pr_getI dX6_tried_110 tf_6_300 (hv44) ?_
              refine pr_istore_n (L' := [.ref a0, .int x1, .int x2, .int v44]) dX6_tried_113 rfl ?_
              refine pr_goto (tgt := 154) dX6_tried_114 (by decide) ?_
              cases hF
              exact J154
          refine po_i hF (fun he hF => ?_) (fun he2 hF => ?_)
          · refine pr_tabI (off := 57) (tgt := 117) dX6_tried_60 hc (by rw [he]; rfl) (by decide) ?_
            refine pr_aload_n dX6_tried_117 rfl ?_
            obtain ⟨q45, hq45, hF⟩ := po_b hF
            refine po_i hq45 (fun hcl hq => ?_) (fun _ hq => nomatch hq)
            refine pr_V (as := []) (rest := []) dX6_tried_118 cv_6_328 hcl rfl rfl rfl rfl (lb rfl) (lb rfl) (lb rfl) (ok_F_X6_nightsOfAll hq) ?_
            refine pr_istore_n (L' := [.ref a0, .int x1, .int x2, .int q45]) dX6_tried_121 rfl ?_
            refine pr_goto (tgt := 154) dX6_tried_122 (by decide) ?_
            cases hF
            exact J154
          cases hF
      · refine pr_ifT (tgt := 43) dX6_tried_27 (by decide) (pc_neT hc) ?_
        refine pr_aload_n dX6_tried_43 rfl ?_
        obtain ⟨v19, hv19, hF⟩ := po_b hF
        refine pr_getR dX6_tried_44 tf_6_7 (hv19) ?_
        refine pr_aload_n dX6_tried_47 rfl ?_
        obtain ⟨v20, hv20, hF⟩ := po_b hF
        refine pr_getR dX6_tried_48 tf_6_13 (hv20) ?_
        obtain ⟨q21, hq21, hF⟩ := po_b hF
        refine pr_S dX6_tried_51 cs_6_324 (as := [.ref v19, .ref v20]) (rest := []) rfl rfl rfl (lb rfl) (lb rfl) (lb rfl) (ok_F_X6_copies hq21) ?_
        refine pr_aload_n dX6_tried_54 rfl ?_
        refine pr_iload_n dX6_tried_55 rfl ?_
        obtain ⟨q22, hq22, hF⟩ := po_b hF
        refine po_i hq22 (fun hcl hq => ?_) (fun _ hq => nomatch hq)
        refine pr_V (as := [.int x1]) (rest := []) dX6_tried_56 cv_6_321 hcl rfl rfl rfl rfl (lb rfl) (lb rfl) (lb rfl) (ok_F_X6_eveningsGo hq) ?_
        refine pr_iload_n dX6_tried_59 rfl ?_
        obtain ⟨q30, hq30, hF⟩ := po_b hF
        have J154 : pm_E (d + 6) 6 cX6_tried (some .int) 154 [.ref a0, .int x1, .int x2, .int q30] [] q22 (some (.int q.1), q.2) := by
          refine pr_aload_n dX6_tried_154 rfl ?_
          obtain ⟨v31, hv31, hF⟩ := po_b hF
          refine pr_getR dX6_tried_155 tf_6_13 (hv31) ?_
          refine pr_aload_n dX6_tried_158 rfl ?_
          obtain ⟨v32, hv32, hF⟩ := po_b hF
          refine pr_getR dX6_tried_159 tf_6_7 (hv32) ?_
          obtain ⟨q33, hq33, hF⟩ := po_b hF
          refine pr_S dX6_tried_162 cs_6_324 (as := [.ref v31, .ref v32]) (rest := []) rfl rfl rfl (lb rfl) (lb rfl) (lb rfl) (ok_F_X6_copies hq33) ?_
          refine pr_iload_n dX6_tried_165 rfl ?_
          cases hF
          exact pr_iret dX6_tried_166 rfl rfl rfl
        clear hF
        have hF := hq30
        refine po_i hF (fun hc hF => ?_) (fun hc hF => ?_)
        · refine pr_tabO (tgt := 125) dX6_tried_60 hc (by decide) ?_
          refine pr_iload_n dX6_tried_125 rfl ?_
          refine pr_bipush (v := 30) dX6_tried_126 (kb_30) ?_
          refine po_i hF (fun hc hF => ?_) (fun hc hF => ?_)
          · refine pr_icF (tgt := 145) dX6_tried_128 (by decide) (pc_geF hc) ?_
            refine pr_aload_n dX6_tried_131 rfl ?_
            obtain ⟨v24, hv24, hF⟩ := po_b hF
            refine pr_getR dX6_tried_132 tf_6_7 (hv24) ?_
            refine pr_iconst (v := 0) dX6_tried_135 (kc_0) ?_
            refine pr_iload_n dX6_tried_136 rfl ?_
            refine pr_iadd dX6_tried_137 ?_
            refine pr_bipush (v := 10) dX6_tried_138 (kb_10) ?_
            refine pr_isub dX6_tried_140 ?_
            obtain ⟨v25, hv25, hF⟩ := po_b hF
            refine pr_iald dX6_tried_141 (hv25) ?_
            refine pr_goto (tgt := 153) dX6_tried_142 (by decide) ?_
            refine pr_istore_n (L' := [.ref a0, .int x1, .int x2, .int v25]) dX6_tried_153 rfl ?_
            cases hF
            exact J154
          · refine pr_icT (tgt := 145) dX6_tried_128 (by decide) (pc_geT hc) ?_
            refine pr_aload_n dX6_tried_145 rfl ?_
            refine pr_iload_n dX6_tried_146 rfl ?_
            refine pr_bipush (v := 30) dX6_tried_147 (kb_30) ?_
            refine pr_isub dX6_tried_149 ?_
            obtain ⟨q23, hq23, hF⟩ := po_b hF
            refine po_i hq23 (fun hcl hq => ?_) (fun _ hq => nomatch hq)
            refine pr_V (as := [.int (x2 - 30)]) (rest := []) dX6_tried_150 cv_6_331 hcl rfl rfl rfl rfl (lb rfl) (lb rfl) (lb rfl) (ok_F_X6_favoursToAll hq) ?_
            refine pr_istore_n (L' := [.ref a0, .int x1, .int x2, .int q23]) dX6_tried_153 rfl ?_
            cases hF
            exact J154
        refine po_i hF (fun he hF => ?_) (fun he0 hF => ?_)
        · refine pr_tabI (off := 28) (tgt := 88) dX6_tried_60 hc (by rw [he]; rfl) (by decide) ?_
          refine pr_aload_n dX6_tried_88 rfl ?_
          obtain ⟨v26, hv26, hF⟩ := po_b hF
          refine pr_getI dX6_tried_89 tf_6_312 (hv26) ?_
          refine pr_istore_n (L' := [.ref a0, .int x1, .int x2, .int v26]) dX6_tried_92 rfl ?_
          refine pr_goto (tgt := 154) dX6_tried_93 (by decide) ?_
          cases hF
          exact J154
        refine po_i hF (fun he hF => ?_) (fun he1 hF => ?_)
        · refine pr_tabI (off := 36) (tgt := 96) dX6_tried_60 hc (by rw [he]; rfl) (by decide) ?_
          refine pr_aload_n dX6_tried_96 rfl ?_
          obtain ⟨v27, hv27, hF⟩ := po_b hF
          refine pr_getI dX6_tried_97 tf_6_300 (hv27) ?_
          refine pr_iconst (v := (-1)) dX6_tried_100 (kc_m1) ?_
          refine po_i hF (fun hc hF => ?_) (fun hc hF => ?_)
          · refine pr_icF (tgt := 109) dX6_tried_101 (by decide) (pc_neF hc) ?_
            refine pr_bipush (v := (-2)) dX6_tried_104 (kb_m2) ?_
            refine pr_goto (tgt := 113) dX6_tried_106 (by decide) ?_
            refine pr_istore_n (L' := [.ref a0, .int x1, .int x2, .int (-2)]) dX6_tried_113 rfl ?_
            refine pr_goto (tgt := 154) dX6_tried_114 (by decide) ?_
            cases hF
            exact J154
          · refine pr_icT (tgt := 109) dX6_tried_101 (by decide) (pc_neT hc) ?_
            refine pr_aload_n dX6_tried_109 rfl ?_
            obtain ⟨v28, hv28, hF⟩ := po_b hF
            refine pr_getI dX6_tried_110 tf_6_300 (hv28) ?_
            refine pr_istore_n (L' := [.ref a0, .int x1, .int x2, .int v28]) dX6_tried_113 rfl ?_
            refine pr_goto (tgt := 154) dX6_tried_114 (by decide) ?_
            cases hF
            exact J154
        refine po_i hF (fun he hF => ?_) (fun he2 hF => ?_)
        · refine pr_tabI (off := 57) (tgt := 117) dX6_tried_60 hc (by rw [he]; rfl) (by decide) ?_
          refine pr_aload_n dX6_tried_117 rfl ?_
          obtain ⟨q29, hq29, hF⟩ := po_b hF
          refine po_i hq29 (fun hcl hq => ?_) (fun _ hq => nomatch hq)
          refine pr_V (as := []) (rest := []) dX6_tried_118 cv_6_328 hcl rfl rfl rfl rfl (lb rfl) (lb rfl) (lb rfl) (ok_F_X6_nightsOfAll hq) ?_
          refine pr_istore_n (L' := [.ref a0, .int x1, .int x2, .int q29]) dX6_tried_121 rfl ?_
          refine pr_goto (tgt := 154) dX6_tried_122 (by decide) ?_
          cases hF
          exact J154
        cases hF
    · refine pr_ifT (tgt := 43) dX6_tried_16 (by decide) (pc_neT hc) ?_
      refine pr_aload_n dX6_tried_43 rfl ?_
      obtain ⟨v3, hv3, hF⟩ := po_b hF
      refine pr_getR dX6_tried_44 tf_6_7 (hv3) ?_
      refine pr_aload_n dX6_tried_47 rfl ?_
      obtain ⟨v4, hv4, hF⟩ := po_b hF
      refine pr_getR dX6_tried_48 tf_6_13 (hv4) ?_
      obtain ⟨q5, hq5, hF⟩ := po_b hF
      refine pr_S dX6_tried_51 cs_6_324 (as := [.ref v3, .ref v4]) (rest := []) rfl rfl rfl (lb rfl) (lb rfl) (lb rfl) (ok_F_X6_copies hq5) ?_
      refine pr_aload_n dX6_tried_54 rfl ?_
      refine pr_iload_n dX6_tried_55 rfl ?_
      obtain ⟨q6, hq6, hF⟩ := po_b hF
      refine po_i hq6 (fun hcl hq => ?_) (fun _ hq => nomatch hq)
      refine pr_V (as := [.int x1]) (rest := []) dX6_tried_56 cv_6_321 hcl rfl rfl rfl rfl (lb rfl) (lb rfl) (lb rfl) (ok_F_X6_eveningsGo hq) ?_
      refine pr_iload_n dX6_tried_59 rfl ?_
      obtain ⟨q14, hq14, hF⟩ := po_b hF
      have J154 : pm_E (d + 6) 6 cX6_tried (some .int) 154 [.ref a0, .int x1, .int x2, .int q14] [] q6 (some (.int q.1), q.2) := by
        refine pr_aload_n dX6_tried_154 rfl ?_
        obtain ⟨v15, hv15, hF⟩ := po_b hF
        refine pr_getR dX6_tried_155 tf_6_13 (hv15) ?_
        refine pr_aload_n dX6_tried_158 rfl ?_
        obtain ⟨v16, hv16, hF⟩ := po_b hF
        refine pr_getR dX6_tried_159 tf_6_7 (hv16) ?_
        obtain ⟨q17, hq17, hF⟩ := po_b hF
        refine pr_S dX6_tried_162 cs_6_324 (as := [.ref v15, .ref v16]) (rest := []) rfl rfl rfl (lb rfl) (lb rfl) (lb rfl) (ok_F_X6_copies hq17) ?_
        refine pr_iload_n dX6_tried_165 rfl ?_
        cases hF
        exact pr_iret dX6_tried_166 rfl rfl rfl
      clear hF
      have hF := hq14
      refine po_i hF (fun hc hF => ?_) (fun hc hF => ?_)
      · refine pr_tabO (tgt := 125) dX6_tried_60 hc (by decide) ?_
        refine pr_iload_n dX6_tried_125 rfl ?_
        refine pr_bipush (v := 30) dX6_tried_126 (kb_30) ?_
        refine po_i hF (fun hc hF => ?_) (fun hc hF => ?_)
        · refine pr_icF (tgt := 145) dX6_tried_128 (by decide) (pc_geF hc) ?_
          refine pr_aload_n dX6_tried_131 rfl ?_
          obtain ⟨v8, hv8, hF⟩ := po_b hF
          refine pr_getR dX6_tried_132 tf_6_7 (hv8) ?_
          refine pr_iconst (v := 0) dX6_tried_135 (kc_0) ?_
          refine pr_iload_n dX6_tried_136 rfl ?_
          refine pr_iadd dX6_tried_137 ?_
          refine pr_bipush (v := 10) dX6_tried_138 (kb_10) ?_
          refine pr_isub dX6_tried_140 ?_
          obtain ⟨v9, hv9, hF⟩ := po_b hF
          refine pr_iald dX6_tried_141 (hv9) ?_
          refine pr_goto (tgt := 153) dX6_tried_142 (by decide) ?_
          refine pr_istore_n (L' := [.ref a0, .int x1, .int x2, .int v9]) dX6_tried_153 rfl ?_
          cases hF
          exact J154
        · refine pr_icT (tgt := 145) dX6_tried_128 (by decide) (pc_geT hc) ?_
          refine pr_aload_n dX6_tried_145 rfl ?_
          refine pr_iload_n dX6_tried_146 rfl ?_
          refine pr_bipush (v := 30) dX6_tried_147 (kb_30) ?_
          refine pr_isub dX6_tried_149 ?_
          obtain ⟨q7, hq7, hF⟩ := po_b hF
          refine po_i hq7 (fun hcl hq => ?_) (fun _ hq => nomatch hq)
          refine pr_V (as := [.int (x2 - 30)]) (rest := []) dX6_tried_150 cv_6_331 hcl rfl rfl rfl rfl (lb rfl) (lb rfl) (lb rfl) (ok_F_X6_favoursToAll hq) ?_
          refine pr_istore_n (L' := [.ref a0, .int x1, .int x2, .int q7]) dX6_tried_153 rfl ?_
          cases hF
          exact J154
      refine po_i hF (fun he hF => ?_) (fun he0 hF => ?_)
      · refine pr_tabI (off := 28) (tgt := 88) dX6_tried_60 hc (by rw [he]; rfl) (by decide) ?_
        refine pr_aload_n dX6_tried_88 rfl ?_
        obtain ⟨v10, hv10, hF⟩ := po_b hF
        refine pr_getI dX6_tried_89 tf_6_312 (hv10) ?_
        refine pr_istore_n (L' := [.ref a0, .int x1, .int x2, .int v10]) dX6_tried_92 rfl ?_
        refine pr_goto (tgt := 154) dX6_tried_93 (by decide) ?_
        cases hF
        exact J154
      refine po_i hF (fun he hF => ?_) (fun he1 hF => ?_)
      · refine pr_tabI (off := 36) (tgt := 96) dX6_tried_60 hc (by rw [he]; rfl) (by decide) ?_
        refine pr_aload_n dX6_tried_96 rfl ?_
        obtain ⟨v11, hv11, hF⟩ := po_b hF
        refine pr_getI dX6_tried_97 tf_6_300 (hv11) ?_
        refine pr_iconst (v := (-1)) dX6_tried_100 (kc_m1) ?_
        refine po_i hF (fun hc hF => ?_) (fun hc hF => ?_)
        · refine pr_icF (tgt := 109) dX6_tried_101 (by decide) (pc_neF hc) ?_
          refine pr_bipush (v := (-2)) dX6_tried_104 (kb_m2) ?_
          refine pr_goto (tgt := 113) dX6_tried_106 (by decide) ?_
          refine pr_istore_n (L' := [.ref a0, .int x1, .int x2, .int (-2)]) dX6_tried_113 rfl ?_
          refine pr_goto (tgt := 154) dX6_tried_114 (by decide) ?_
          cases hF
          exact J154
        · refine pr_icT (tgt := 109) dX6_tried_101 (by decide) (pc_neT hc) ?_
          refine pr_aload_n dX6_tried_109 rfl ?_
          obtain ⟨v12, hv12, hF⟩ := po_b hF
          refine pr_getI dX6_tried_110 tf_6_300 (hv12) ?_
          refine pr_istore_n (L' := [.ref a0, .int x1, .int x2, .int v12]) dX6_tried_113 rfl ?_
          refine pr_goto (tgt := 154) dX6_tried_114 (by decide) ?_
          cases hF
          exact J154
      refine po_i hF (fun he hF => ?_) (fun he2 hF => ?_)
      · refine pr_tabI (off := 57) (tgt := 117) dX6_tried_60 hc (by rw [he]; rfl) (by decide) ?_
        refine pr_aload_n dX6_tried_117 rfl ?_
        obtain ⟨q13, hq13, hF⟩ := po_b hF
        refine po_i hq13 (fun hcl hq => ?_) (fun _ hq => nomatch hq)
        refine pr_V (as := []) (rest := []) dX6_tried_118 cv_6_328 hcl rfl rfl rfl rfl (lb rfl) (lb rfl) (lb rfl) (ok_F_X6_nightsOfAll hq) ?_
        refine pr_istore_n (L' := [.ref a0, .int x1, .int x2, .int q13]) dX6_tried_121 rfl ?_
        refine pr_goto (tgt := 154) dX6_tried_122 (by decide) ?_
        cases hF
        exact J154
      cases hF

def L_X6_favoursOfAllTo_4 : Nat → Nat → Int32 → Int32 → Int32 → pm_H → Option (Int32)
  | 0, _, _, _, _, _ => none
  | n + 1, x0, x1, x2, x3, h =>
    if x3 < 16 then
      (if pm_cl_ h x0 = some 5 then F_X6_favoursOf h x0 x3 x1 else none).bind fun q1 =>
      L_X6_favoursOfAllTo_4 n x0 x1 (x2 + q1) (x3 + 1) h
    else
      some x2
theorem ok_L_X6_favoursOfAllTo_4 {d : Nat} : ∀ (n : Nat) {x0 : Nat} {x1 : Int32} {x2 : Int32} {x3 : Int32} {h : pm_H} {q : Int32} {res : Option Value × pm_H}, L_X6_favoursOfAllTo_4 n x0 x1 x2 x3 h = some q → (∀ z3 : Value, pm_nolong z3 = true → pm_E (d + 1) 6 cX6_favoursOfAllTo (some .int) 25 [.ref x0, .int x1, .int q, z3] [] h res) → pm_E (d + 1) 6 cX6_favoursOfAllTo (some .int) 4 [.ref x0, .int x1, .int x2, .int x3] [] h res := by
  intro n
  induction n with
  | zero =>
    intro x0 x1 x2 x3 h q res hF hk
    rw [L_X6_favoursOfAllTo_4] at hF
    cases hF
  | succ n ih =>
    intro x0 x1 x2 x3 h q res hF hk
    rw [L_X6_favoursOfAllTo_4] at hF
    refine pr_iload_n dX6_favoursOfAllTo_4 rfl ?_
    refine pr_bipush (v := 16) dX6_favoursOfAllTo_5 (kb_16) ?_
    refine po_i hF (fun hc hF => ?_) (fun hc hF => ?_)
    · refine pr_icF (tgt := 25) dX6_favoursOfAllTo_7 (by decide) (pc_geF hc) ?_
      refine pr_iload_n dX6_favoursOfAllTo_10 rfl ?_
      refine pr_aload_n dX6_favoursOfAllTo_11 rfl ?_
      refine pr_iload_n dX6_favoursOfAllTo_12 rfl ?_
      refine pr_iload_n dX6_favoursOfAllTo_13 rfl ?_
      obtain ⟨q1, hq1, hF⟩ := po_b hF
      refine po_i hq1 (fun hcl hq => ?_) (fun _ hq => nomatch hq)
      refine pr_V (as := [.int x3, .int x1]) (rest := [.int x2]) dX6_favoursOfAllTo_14 cv_6_285 hcl rfl rfl rfl rfl (lb rfl) (lb rfl) (lb rfl) (ok_F_X6_favoursOf hq) ?_
      refine pr_iadd dX6_favoursOfAllTo_17 ?_
      refine pr_istore_n (L' := [.ref x0, .int x1, .int (x2 + q1), .int x3]) dX6_favoursOfAllTo_18 rfl ?_
      refine pr_iinc (v := 1) (L' := [.ref x0, .int x1, .int (x2 + q1), .int (x3 + 1)]) dX6_favoursOfAllTo_19 rfl (kc_1) rfl ?_
      refine pr_goto (tgt := 4) dX6_favoursOfAllTo_22 (by decide) ?_
      exact ih hF hk
    · refine pr_icT (tgt := 25) dX6_favoursOfAllTo_7 (by decide) (pc_geT hc) ?_
      cases hF
      exact hk _ rfl
def F_X6_favoursOfAllTo (n : Nat) (h : pm_H) (a0 : Nat) (x1 : Int32) : Option (Int32) :=
  (L_X6_favoursOfAllTo_4 n a0 x1 0 0 h).bind fun q2 =>
  some q2
theorem ok_F_X6_favoursOfAllTo {d n : Nat} {h : pm_H} {a0 : Nat} {x1 : Int32} {q : Int32} (hF : F_X6_favoursOfAllTo n h a0 x1 = some q) : pm_E (d + 1) 6 cX6_favoursOfAllTo (some .int) 0 [.ref a0, .int x1, pm_D, pm_D] [] h (some (.int q), h) := by
  unfold F_X6_favoursOfAllTo at hF
  refine pr_iconst (v := 0) dX6_favoursOfAllTo_0 (kc_0) ?_
  refine pr_istore_n (L' := [.ref a0, .int x1, .int 0, pm_D]) dX6_favoursOfAllTo_1 rfl ?_
  refine pr_iconst (v := 0) dX6_favoursOfAllTo_2 (kc_0) ?_
  refine pr_istore_n (L' := [.ref a0, .int x1, .int 0, .int 0]) dX6_favoursOfAllTo_3 rfl ?_
  obtain ⟨q2, hq2, hF⟩ := po_b hF
  refine ok_L_X6_favoursOfAllTo_4 n hq2 (fun z3 hz3 => ?_)
  refine pr_iload_n dX6_favoursOfAllTo_25 rfl ?_
  cases hF
  exact pr_iret dX6_favoursOfAllTo_26 rfl rfl rfl

def F_X6_personIs (n : Nat) (h : pm_H) (a0 : Nat) (x1 : Int32) (x2 : Int32) : Option (Int32) :=
  (if pm_cl_ h a0 = some 5 then F_X6_isTold h a0 x1 else none).bind fun q1 =>
  if q1 = 0 then
    some (-1)
  else
  if x2.toInt < 0 ∨ 5 < x2.toInt then
    some (-1)
  else if x2 = 0 then
    (pm_fR [(5, 3)] h a0).bind fun v2 =>
    (pm_ai 0 h v2 x1).bind fun v3 =>
    some v3
  else if x2 = 1 then
    (pm_fI [(5, 8)] h a0).bind fun v4 =>
    some ((pm_shr v4 x1) &&& 1)
  else if x2 = 2 then
    (pm_fR [(5, 0)] h a0).bind fun v5 =>
    (pm_ai 0 h v5 (0 + x1)).bind fun v6 =>
    some v6
  else if x2 = 3 then
    (pm_fR [(5, 4)] h a0).bind fun v7 =>
    (pm_ai 0 h v7 x1).bind fun v8 =>
    some v8
  else if x2 = 4 then
    (if pm_cl_ h a0 = some 5 then F_X6_favoursToAll n h a0 x1 else none).bind fun q9 =>
    some q9
  else if x2 = 5 then
    (if pm_cl_ h a0 = some 5 then F_X6_favoursOfAllTo n h a0 x1 else none).bind fun q10 =>
    some q10
  else none
theorem ok_F_X6_personIs {d n : Nat} {h : pm_H} {a0 : Nat} {x1 : Int32} {x2 : Int32} {q : Int32} (hF : F_X6_personIs n h a0 x1 x2 = some q) : pm_E (d + 2) 6 cX6_personIs (some .int) 0 [.ref a0, .int x1, .int x2] [] h (some (.int q), h) := by
  unfold F_X6_personIs at hF
  refine pr_aload_n dX6_personIs_0 rfl ?_
  refine pr_iload_n dX6_personIs_1 rfl ?_
  obtain ⟨q1, hq1, hF⟩ := po_b hF
  refine po_i hq1 (fun hcl hq => ?_) (fun _ hq => nomatch hq)
  refine pr_V (as := [.int x1]) (rest := []) dX6_personIs_2 cv_6_233 hcl rfl rfl rfl rfl (lb rfl) (lb rfl) (lb rfl) (ok_F_X6_isTold hq) ?_
  refine po_i hF (fun hc hF => ?_) (fun hc hF => ?_)
  · refine pr_ifF (tgt := 10) dX6_personIs_5 (by decide) (pc_neF hc) ?_
    refine pr_iconst (v := (-1)) dX6_personIs_8 (kc_m1) ?_
    cases hF
    exact pr_iret dX6_personIs_9 rfl rfl rfl
  · refine pr_ifT (tgt := 10) dX6_personIs_5 (by decide) (pc_neT hc) ?_
    refine pr_iload_n dX6_personIs_10 rfl ?_
    refine po_i hF (fun hc hF => ?_) (fun hc hF => ?_)
    · refine pr_tabO (tgt := 92) dX6_personIs_11 hc (by decide) ?_
      refine pr_iconst (v := (-1)) dX6_personIs_92 (kc_m1) ?_
      cases hF
      exact pr_iret dX6_personIs_93 rfl rfl rfl
    refine po_i hF (fun he hF => ?_) (fun he0 hF => ?_)
    · refine pr_tabI (off := 37) (tgt := 48) dX6_personIs_11 hc (by rw [he]; rfl) (by decide) ?_
      refine pr_aload_n dX6_personIs_48 rfl ?_
      obtain ⟨v2, hv2, hF⟩ := po_b hF
      refine pr_getR dX6_personIs_49 tf_6_19 (hv2) ?_
      refine pr_iload_n dX6_personIs_52 rfl ?_
      obtain ⟨v3, hv3, hF⟩ := po_b hF
      refine pr_iald dX6_personIs_53 (hv3) ?_
      cases hF
      exact pr_iret dX6_personIs_54 rfl rfl rfl
    refine po_i hF (fun he hF => ?_) (fun he1 hF => ?_)
    · refine pr_tabI (off := 44) (tgt := 55) dX6_personIs_11 hc (by rw [he]; rfl) (by decide) ?_
      refine pr_aload_n dX6_personIs_55 rfl ?_
      obtain ⟨v4, hv4, hF⟩ := po_b hF
      refine pr_getI dX6_personIs_56 tf_6_227 (hv4) ?_
      refine pr_iload_n dX6_personIs_59 rfl ?_
      refine pr_ishr dX6_personIs_60 ?_
      refine pr_iconst (v := 1) dX6_personIs_61 (kc_1) ?_
      refine pr_iand dX6_personIs_62 ?_
      cases hF
      exact pr_iret dX6_personIs_63 rfl rfl rfl
    refine po_i hF (fun he hF => ?_) (fun he2 hF => ?_)
    · refine pr_tabI (off := 53) (tgt := 64) dX6_personIs_11 hc (by rw [he]; rfl) (by decide) ?_
      refine pr_aload_n dX6_personIs_64 rfl ?_
      obtain ⟨v5, hv5, hF⟩ := po_b hF
      refine pr_getR dX6_personIs_65 tf_6_7 (hv5) ?_
      refine pr_iconst (v := 0) dX6_personIs_68 (kc_0) ?_
      refine pr_iload_n dX6_personIs_69 rfl ?_
      refine pr_iadd dX6_personIs_70 ?_
      obtain ⟨v6, hv6, hF⟩ := po_b hF
      refine pr_iald dX6_personIs_71 (hv6) ?_
      cases hF
      exact pr_iret dX6_personIs_72 rfl rfl rfl
    refine po_i hF (fun he hF => ?_) (fun he3 hF => ?_)
    · refine pr_tabI (off := 62) (tgt := 73) dX6_personIs_11 hc (by rw [he]; rfl) (by decide) ?_
      refine pr_aload_n dX6_personIs_73 rfl ?_
      obtain ⟨v7, hv7, hF⟩ := po_b hF
      refine pr_getR dX6_personIs_74 tf_6_22 (hv7) ?_
      refine pr_iload_n dX6_personIs_77 rfl ?_
      obtain ⟨v8, hv8, hF⟩ := po_b hF
      refine pr_iald dX6_personIs_78 (hv8) ?_
      cases hF
      exact pr_iret dX6_personIs_79 rfl rfl rfl
    refine po_i hF (fun he hF => ?_) (fun he4 hF => ?_)
    · refine pr_tabI (off := 69) (tgt := 80) dX6_personIs_11 hc (by rw [he]; rfl) (by decide) ?_
      refine pr_aload_n dX6_personIs_80 rfl ?_
      refine pr_iload_n dX6_personIs_81 rfl ?_
      obtain ⟨q9, hq9, hF⟩ := po_b hF
      refine po_i hq9 (fun hcl hq => ?_) (fun _ hq => nomatch hq)
      refine pr_V (as := [.int x1]) (rest := []) dX6_personIs_82 cv_6_331 hcl rfl rfl rfl rfl (lb rfl) (lb rfl) (lb rfl) (ok_F_X6_favoursToAll hq) ?_
      cases hF
      exact pr_iret dX6_personIs_85 rfl rfl rfl
    refine po_i hF (fun he hF => ?_) (fun he5 hF => ?_)
    · refine pr_tabI (off := 75) (tgt := 86) dX6_personIs_11 hc (by rw [he]; rfl) (by decide) ?_
      refine pr_aload_n dX6_personIs_86 rfl ?_
      refine pr_iload_n dX6_personIs_87 rfl ?_
      obtain ⟨q10, hq10, hF⟩ := po_b hF
      refine po_i hq10 (fun hcl hq => ?_) (fun _ hq => nomatch hq)
      refine pr_V (as := [.int x1]) (rest := []) dX6_personIs_88 cv_6_334 hcl rfl rfl rfl rfl (lb rfl) (lb rfl) (lb rfl) (ok_F_X6_favoursOfAllTo hq) ?_
      cases hF
      exact pr_iret dX6_personIs_91 rfl rfl rfl
    cases hF

def F_X6_favours (h : pm_H) (a0 : Nat) (x1 : Int32) (x2 : Int32) : Option (Int32) :=
  (if pm_cl_ h a0 = some 5 then F_X6_isTold h a0 x1 else none).bind fun q1 =>
  if q1 = 0 then
    some (-1)
  else
    (if pm_cl_ h a0 = some 5 then F_X6_isTold h a0 x2 else none).bind fun q2 =>
    if q2 = 0 then
      some (-1)
    else
      (if pm_cl_ h a0 = some 5 then F_X6_favoursOf h a0 x1 x2 else none).bind fun q3 =>
      some q3
theorem ok_F_X6_favours {d : Nat} {h : pm_H} {a0 : Nat} {x1 : Int32} {x2 : Int32} {q : Int32} (hF : F_X6_favours h a0 x1 x2 = some q) : pm_E (d + 2) 6 cX6_favours (some .int) 0 [.ref a0, .int x1, .int x2] [] h (some (.int q), h) := by
  unfold F_X6_favours at hF
  refine pr_aload_n dX6_favours_0 rfl ?_
  refine pr_iload_n dX6_favours_1 rfl ?_
  obtain ⟨q1, hq1, hF⟩ := po_b hF
  refine po_i hq1 (fun hcl hq => ?_) (fun _ hq => nomatch hq)
  refine pr_V (as := [.int x1]) (rest := []) dX6_favours_2 cv_6_233 hcl rfl rfl rfl rfl (lb rfl) (lb rfl) (lb rfl) (ok_F_X6_isTold hq) ?_
  refine po_i hF (fun hc hF => ?_) (fun hc hF => ?_)
  · refine pr_ifT (tgt := 25) dX6_favours_5 (by decide) (pc_eqT hc) ?_
    refine pr_iconst (v := (-1)) dX6_favours_25 (kc_m1) ?_
    cases hF
    exact pr_iret dX6_favours_26 rfl rfl rfl
  · refine pr_ifF (tgt := 25) dX6_favours_5 (by decide) (pc_eqF hc) ?_
    refine pr_aload_n dX6_favours_8 rfl ?_
    refine pr_iload_n dX6_favours_9 rfl ?_
    obtain ⟨q2, hq2, hF⟩ := po_b hF
    refine po_i hq2 (fun hcl hq => ?_) (fun _ hq => nomatch hq)
    refine pr_V (as := [.int x2]) (rest := []) dX6_favours_10 cv_6_233 hcl rfl rfl rfl rfl (lb rfl) (lb rfl) (lb rfl) (ok_F_X6_isTold hq) ?_
    refine po_i hF (fun hc hF => ?_) (fun hc hF => ?_)
    · refine pr_ifT (tgt := 25) dX6_favours_13 (by decide) (pc_eqT hc) ?_
      refine pr_iconst (v := (-1)) dX6_favours_25 (kc_m1) ?_
      cases hF
      exact pr_iret dX6_favours_26 rfl rfl rfl
    · refine pr_ifF (tgt := 25) dX6_favours_13 (by decide) (pc_eqF hc) ?_
      refine pr_aload_n dX6_favours_16 rfl ?_
      refine pr_iload_n dX6_favours_17 rfl ?_
      refine pr_iload_n dX6_favours_18 rfl ?_
      obtain ⟨q3, hq3, hF⟩ := po_b hF
      refine po_i hq3 (fun hcl hq => ?_) (fun _ hq => nomatch hq)
      refine pr_V (as := [.int x1, .int x2]) (rest := []) dX6_favours_19 cv_6_285 hcl rfl rfl rfl rfl (lb rfl) (lb rfl) (lb rfl) (ok_F_X6_favoursOf hq) ?_
      refine pr_goto (tgt := 26) dX6_favours_22 (by decide) ?_
      cases hF
      exact pr_iret dX6_favours_26 rfl rfl rfl
