set_option maxRecDepth 100000
def L_X6_types_2 : Nat → Nat → Int32 → Int32 → pm_H → Option (pm_H)
  | 0, _, _, _, _ => none
  | n + 1, x0, x1, x2, h =>
    if x2 < 0 then
      some h
    else
      (pm_fR [(5, 11)] h x0).bind fun v1 =>
      (pm_fI [(5, 12)] h x0).bind fun v2 =>
      (pm_si 1 h v1 v2 (vp_nar .byte (pm_i2b (pm_shr x1 (8 * x2))))).bind fun h3 =>
      (pm_fI [(5, 12)] h3 x0).bind fun v4 =>
      (pm_put [(5, 12, 0)] h3 x0 (.int (v4 + 1))).bind fun h5 =>
      L_X6_types_2 n x0 x1 (x2 + (-1)) h5
theorem ok_L_X6_types_2 {d : Nat} : ∀ (n : Nat) {x0 : Nat} {x1 : Int32} {x2 : Int32} {h : pm_H} {q : pm_H} {res : Option Value × pm_H}, L_X6_types_2 n x0 x1 x2 h = some q → (∀ z2 : Value, pm_nolong z2 = true → pm_E (d + 0) 6 cX6_types (none) 38 [.ref x0, .int x1, z2] [] q res) → pm_E (d + 0) 6 cX6_types (none) 2 [.ref x0, .int x1, .int x2] [] h res := by
  intro n
  induction n with
  | zero =>
    intro x0 x1 x2 h q res hF hk
    rw [L_X6_types_2] at hF
    cases hF
  | succ n ih =>
    intro x0 x1 x2 h q res hF hk
    rw [L_X6_types_2] at hF
    refine pr_iload_n dX6_types_2 rfl ?_
    refine po_i hF (fun hc hF => ?_) (fun hc hF => ?_)
    · refine pr_ifT (tgt := 38) dX6_types_3 (by decide) (pc_ltT hc) ?_
      cases hF
      exact hk _ rfl
    · refine pr_ifF (tgt := 38) dX6_types_3 (by decide) (pc_ltF hc) ?_
      refine pr_aload_n dX6_types_6 rfl ?_
      obtain ⟨v1, hv1, hF⟩ := po_b hF
      refine pr_getR dX6_types_7 tf_6_31 (hv1) ?_
      refine pr_aload_n dX6_types_10 rfl ?_
      obtain ⟨v2, hv2, hF⟩ := po_b hF
      refine pr_getI dX6_types_11 tf_6_116 (hv2) ?_
      refine pr_iload_n dX6_types_14 rfl ?_
      refine pr_bipush (v := 8) dX6_types_15 (kb_8) ?_
      refine pr_iload_n dX6_types_17 rfl ?_
      refine pr_imul dX6_types_18 ?_
      refine pr_ishr dX6_types_19 ?_
      refine pr_i2b dX6_types_20 ?_
      obtain ⟨h3, hh3, hF⟩ := po_b hF
      refine pr_bast dX6_types_21 (hh3) ?_
      refine pr_aload_n dX6_types_22 rfl ?_
      refine pr_aload_n dX6_types_23 rfl ?_
      obtain ⟨v4, hv4, hF⟩ := po_b hF
      refine pr_getI dX6_types_24 tf_6_116 (hv4) ?_
      refine pr_iconst (v := 1) dX6_types_27 (kc_1) ?_
      refine pr_iadd dX6_types_28 ?_
      obtain ⟨h5, hh5, hF⟩ := po_b hF
      refine pr_put dX6_types_29 tp_6_116 (hh5) ?_
      refine pr_iinc (v := (-1)) (L' := [.ref x0, .int x1, .int (x2 + (-1))]) dX6_types_32 rfl (kc_m1) rfl ?_
      refine pr_goto (tgt := 2) dX6_types_35 (by decide) ?_
      exact ih hF hk
def F_X6_types (n : Nat) (h : pm_H) (a0 : Nat) (x1 : Int32) : Option (pm_H) :=
  (L_X6_types_2 n a0 x1 3 h).bind fun q6 =>
  some q6
theorem ok_F_X6_types {d n : Nat} {h : pm_H} {a0 : Nat} {x1 : Int32} {q : pm_H} (hF : F_X6_types n h a0 x1 = some q) : pm_E (d + 0) 6 cX6_types (none) 0 [.ref a0, .int x1, pm_D] [] h (none, q) := by
  unfold F_X6_types at hF
  refine pr_iconst (v := 3) dX6_types_0 (kc_3) ?_
  refine pr_istore_n (L' := [.ref a0, .int x1, .int 3]) dX6_types_1 rfl ?_
  obtain ⟨q6, hq6, hF⟩ := po_b hF
  refine ok_L_X6_types_2 n hq6 (fun z2 hz2 => ?_)
  cases hF
  exact pr_vret dX6_types_38 rfl rfl

def F_X6_feed (n : Nat) (h : pm_H) (a0 : Nat) (x1 : Int32) (x2 : Int32) (x3 : Int32) (x4 : Int32) (x5 : Int32) : Option (Int32 × pm_H) :=
  (pm_fI [(5, 12)] h a0).bind fun v1 =>
  if 260 < (v1 + 20) then
    some ((-1), h)
  else
    (if pm_cl_ h a0 = some 5 then F_X6_types n h a0 x1 else none).bind fun q2 =>
    (if pm_cl_ q2 a0 = some 5 then F_X6_types n q2 a0 x2 else none).bind fun q3 =>
    (if pm_cl_ q3 a0 = some 5 then F_X6_types n q3 a0 x3 else none).bind fun q4 =>
    (if pm_cl_ q4 a0 = some 5 then F_X6_types n q4 a0 x4 else none).bind fun q5 =>
    (if pm_cl_ q5 a0 = some 5 then F_X6_types n q5 a0 x5 else none).bind fun q6 =>
    (pm_fI [(5, 12)] q6 a0).bind fun v7 =>
    some (v7, q6)
theorem ok_F_X6_feed {d n : Nat} {h : pm_H} {a0 : Nat} {x1 : Int32} {x2 : Int32} {x3 : Int32} {x4 : Int32} {x5 : Int32} {q : Int32 × pm_H} (hF : F_X6_feed n h a0 x1 x2 x3 x4 x5 = some q) : pm_E (d + 1) 6 cX6_feed (some .int) 0 [.ref a0, .int x1, .int x2, .int x3, .int x4, .int x5] [] h (some (.int q.1), q.2) := by
  unfold F_X6_feed at hF
  refine pr_aload_n dX6_feed_0 rfl ?_
  obtain ⟨v1, hv1, hF⟩ := po_b hF
  refine pr_getI dX6_feed_1 tf_6_116 (hv1) ?_
  refine pr_bipush (v := 20) dX6_feed_4 (kb_20) ?_
  refine pr_iadd dX6_feed_6 ?_
  refine pr_sipush (v := 260) dX6_feed_7 (ks_260) ?_
  refine po_i hF (fun hc hF => ?_) (fun hc hF => ?_)
  · refine pr_icF (tgt := 15) dX6_feed_10 (by decide) (pc_leF hc) ?_
    refine pr_iconst (v := (-1)) dX6_feed_13 (kc_m1) ?_
    cases hF
    exact pr_iret dX6_feed_14 rfl rfl rfl
  · refine pr_icT (tgt := 15) dX6_feed_10 (by decide) (pc_leT hc) ?_
    refine pr_aload_n dX6_feed_15 rfl ?_
    refine pr_iload_n dX6_feed_16 rfl ?_
    obtain ⟨q2, hq2, hF⟩ := po_b hF
    refine po_i hq2 (fun hcl hq => ?_) (fun _ hq => nomatch hq)
    refine pr_V (as := [.int x1]) (rest := []) dX6_feed_17 cv_6_119 hcl rfl rfl rfl rfl (lb rfl) (lb rfl) (lb rfl) (ok_F_X6_types hq) ?_
    refine pr_aload_n dX6_feed_20 rfl ?_
    refine pr_iload_n dX6_feed_21 rfl ?_
    obtain ⟨q3, hq3, hF⟩ := po_b hF
    refine po_i hq3 (fun hcl hq => ?_) (fun _ hq => nomatch hq)
    refine pr_V (as := [.int x2]) (rest := []) dX6_feed_22 cv_6_119 hcl rfl rfl rfl rfl (lb rfl) (lb rfl) (lb rfl) (ok_F_X6_types hq) ?_
    refine pr_aload_n dX6_feed_25 rfl ?_
    refine pr_iload_n dX6_feed_26 rfl ?_
    obtain ⟨q4, hq4, hF⟩ := po_b hF
    refine po_i hq4 (fun hcl hq => ?_) (fun _ hq => nomatch hq)
    refine pr_V (as := [.int x3]) (rest := []) dX6_feed_27 cv_6_119 hcl rfl rfl rfl rfl (lb rfl) (lb rfl) (lb rfl) (ok_F_X6_types hq) ?_
    refine pr_aload_n dX6_feed_30 rfl ?_
    refine pr_iload dX6_feed_31 rfl ?_
    obtain ⟨q5, hq5, hF⟩ := po_b hF
    refine po_i hq5 (fun hcl hq => ?_) (fun _ hq => nomatch hq)
    refine pr_V (as := [.int x4]) (rest := []) dX6_feed_33 cv_6_119 hcl rfl rfl rfl rfl (lb rfl) (lb rfl) (lb rfl) (ok_F_X6_types hq) ?_
    refine pr_aload_n dX6_feed_36 rfl ?_
    refine pr_iload dX6_feed_37 rfl ?_
    obtain ⟨q6, hq6, hF⟩ := po_b hF
    refine po_i hq6 (fun hcl hq => ?_) (fun _ hq => nomatch hq)
    refine pr_V (as := [.int x5]) (rest := []) dX6_feed_39 cv_6_119 hcl rfl rfl rfl rfl (lb rfl) (lb rfl) (lb rfl) (ok_F_X6_types hq) ?_
    refine pr_aload_n dX6_feed_42 rfl ?_
    obtain ⟨v7, hv7, hF⟩ := po_b hF
    refine pr_getI dX6_feed_43 tf_6_116 (hv7) ?_
    cases hF
    exact pr_iret dX6_feed_46 rfl rfl rfl

def F_X6_in (x0 : Int32) (x1 : Int32) (x2 : Int32) : Option (Int32) :=
  if x0 < x1 then
    some 0
  else
  if x2 < x0 then
    some 0
  else
    some 1
theorem ok_F_X6_in {d : Nat} {h : pm_H} {x0 : Int32} {x1 : Int32} {x2 : Int32} {q : Int32} (hF : F_X6_in x0 x1 x2 = some q) : pm_E (d + 0) 6 cX6_in (some .boolean) 0 [.int x0, .int x1, .int x2] [] h (some (.int q), h) := by
  unfold F_X6_in at hF
  refine pr_iload_n dX6_in_0 rfl ?_
  refine pr_iload_n dX6_in_1 rfl ?_
  refine po_i hF (fun hc hF => ?_) (fun hc hF => ?_)
  · refine pr_icT (tgt := 14) dX6_in_2 (by decide) (pc_ltT hc) ?_
    refine pr_iconst (v := 0) dX6_in_14 (kc_0) ?_
    cases hF
    exact pr_iret dX6_in_15 rfl nb_0 rfl
  · refine pr_icF (tgt := 14) dX6_in_2 (by decide) (pc_ltF hc) ?_
    refine pr_iload_n dX6_in_5 rfl ?_
    refine pr_iload_n dX6_in_6 rfl ?_
    refine po_i hF (fun hc hF => ?_) (fun hc hF => ?_)
    · refine pr_icT (tgt := 14) dX6_in_7 (by decide) (pc_gtT hc) ?_
      refine pr_iconst (v := 0) dX6_in_14 (kc_0) ?_
      cases hF
      exact pr_iret dX6_in_15 rfl nb_0 rfl
    · refine pr_icF (tgt := 14) dX6_in_7 (by decide) (pc_gtF hc) ?_
      refine pr_iconst (v := 1) dX6_in_10 (kc_1) ?_
      refine pr_goto (tgt := 15) dX6_in_11 (by decide) ?_
      cases hF
      exact pr_iret dX6_in_15 rfl nb_1 rfl

def F_X6_beginsText (h : pm_H) (a0 : Nat) (x1 : Int32) : Option (pm_H) :=
  (pm_put [(5, 13, 0)] h a0 (.int 0)).bind fun h1 =>
  (pm_put [(5, 14, 0)] h1 a0 (.int x1)).bind fun h2 =>
  (pm_put [(5, 18, 0)] h2 a0 (.int 0)).bind fun h3 =>
  (pm_put [(5, 20, 0)] h3 a0 (.int 0)).bind fun h4 =>
  some h4
theorem ok_F_X6_beginsText {d : Nat} {h : pm_H} {a0 : Nat} {x1 : Int32} {q : pm_H} (hF : F_X6_beginsText h a0 x1 = some q) : pm_E (d + 0) 6 cX6_beginsText (none) 0 [.ref a0, .int x1] [] h (none, q) := by
  unfold F_X6_beginsText at hF
  refine pr_aload_n dX6_beginsText_0 rfl ?_
  refine pr_iconst (v := 0) dX6_beginsText_1 (kc_0) ?_
  obtain ⟨h1, hh1, hF⟩ := po_b hF
  refine pr_put dX6_beginsText_2 tp_6_123 (hh1) ?_
  refine pr_aload_n dX6_beginsText_5 rfl ?_
  refine pr_iload_n dX6_beginsText_6 rfl ?_
  obtain ⟨h2, hh2, hF⟩ := po_b hF
  refine pr_put dX6_beginsText_7 tp_6_126 (hh2) ?_
  refine pr_aload_n dX6_beginsText_10 rfl ?_
  refine pr_iconst (v := 0) dX6_beginsText_11 (kc_0) ?_
  obtain ⟨h3, hh3, hF⟩ := po_b hF
  refine pr_put dX6_beginsText_12 tp_6_146 (hh3) ?_
  refine pr_aload_n dX6_beginsText_15 rfl ?_
  refine pr_iconst (v := 0) dX6_beginsText_16 (kc_0) ?_
  obtain ⟨h4, hh4, hF⟩ := po_b hF
  refine pr_put dX6_beginsText_17 tp_6_201 (hh4) ?_
  cases hF
  exact pr_vret dX6_beginsText_20 rfl rfl

def F_X6_here (h : pm_H) (a0 : Nat) : Option (Int32) :=
  (pm_fI [(5, 13)] h a0).bind fun v1 =>
  (pm_fI [(5, 14)] h a0).bind fun v2 =>
  if v1 < v2 then
    (pm_fR [(5, 11)] h a0).bind fun v3 =>
    (pm_fI [(5, 13)] h a0).bind fun v4 =>
    (pm_ai 1 h v3 v4).bind fun v5 =>
    some (v5 &&& 255)
  else
    some (-1)
theorem ok_F_X6_here {d : Nat} {h : pm_H} {a0 : Nat} {q : Int32} (hF : F_X6_here h a0 = some q) : pm_E (d + 0) 6 cX6_here (some .int) 0 [.ref a0] [] h (some (.int q), h) := by
  unfold F_X6_here at hF
  refine pr_aload_n dX6_here_0 rfl ?_
  obtain ⟨v1, hv1, hF⟩ := po_b hF
  refine pr_getI dX6_here_1 tf_6_123 (hv1) ?_
  refine pr_aload_n dX6_here_4 rfl ?_
  obtain ⟨v2, hv2, hF⟩ := po_b hF
  refine pr_getI dX6_here_5 tf_6_126 (hv2) ?_
  refine po_i hF (fun hc hF => ?_) (fun hc hF => ?_)
  · refine pr_icF (tgt := 27) dX6_here_8 (by decide) (pc_geF hc) ?_
    refine pr_aload_n dX6_here_11 rfl ?_
    obtain ⟨v3, hv3, hF⟩ := po_b hF
    refine pr_getR dX6_here_12 tf_6_31 (hv3) ?_
    refine pr_aload_n dX6_here_15 rfl ?_
    obtain ⟨v4, hv4, hF⟩ := po_b hF
    refine pr_getI dX6_here_16 tf_6_123 (hv4) ?_
    obtain ⟨v5, hv5, hF⟩ := po_b hF
    refine pr_bald dX6_here_19 (hv5) ?_
    refine pr_sipush (v := 255) dX6_here_20 (ks_255) ?_
    refine pr_iand dX6_here_23 ?_
    refine pr_goto (tgt := 28) dX6_here_24 (by decide) ?_
    cases hF
    exact pr_iret dX6_here_28 rfl rfl rfl
  · refine pr_icT (tgt := 27) dX6_here_8 (by decide) (pc_geT hc) ?_
    refine pr_iconst (v := (-1)) dX6_here_27 (kc_m1) ?_
    cases hF
    exact pr_iret dX6_here_28 rfl rfl rfl

def F_X6_wrongAt (h : pm_H) (a0 : Nat) (x1 : Int32) (x2 : Int32) : Option (Int32 × pm_H) :=
  (pm_put [(5, 15, 0)] h a0 (.int (((-1000) * x1) - x2))).bind fun h1 =>
  some (0, h1)
theorem ok_F_X6_wrongAt {d : Nat} {h : pm_H} {a0 : Nat} {x1 : Int32} {x2 : Int32} {q : Int32 × pm_H} (hF : F_X6_wrongAt h a0 x1 x2 = some q) : pm_E (d + 0) 6 cX6_wrongAt (some .boolean) 0 [.ref a0, .int x1, .int x2] [] h (some (.int q.1), q.2) := by
  unfold F_X6_wrongAt at hF
  refine pr_aload_n dX6_wrongAt_0 rfl ?_
  refine pr_sipush (v := (-1000)) dX6_wrongAt_1 (ks_m1000) ?_
  refine pr_iload_n dX6_wrongAt_4 rfl ?_
  refine pr_imul dX6_wrongAt_5 ?_
  refine pr_iload_n dX6_wrongAt_6 rfl ?_
  refine pr_isub dX6_wrongAt_7 ?_
  obtain ⟨h1, hh1, hF⟩ := po_b hF
  refine pr_put dX6_wrongAt_8 tp_6_133 (hh1) ?_
  refine pr_iconst (v := 0) dX6_wrongAt_11 (kc_0) ?_
  cases hF
  exact pr_iret dX6_wrongAt_12 rfl nb_0 rfl

def F_X6_opens (h : pm_H) (a0 : Nat) (x1 : Int32) : Option (Int32 × pm_H) :=
  (pm_fI [(5, 17)] h a0).bind fun v1 =>
  if v1 = 6 then
    (pm_fI [(5, 13)] h a0).bind fun v11 =>
    (if pm_cl_ h a0 = some 5 then F_X6_wrongAt h a0 5 v11 else none).bind fun q12 =>
    if q12.1 = 0 ∨ q12.1 = 1 then
      some (q12.1, q12.2)
    else none
  else
    (pm_fI [(5, 17)] h a0).bind fun v2 =>
    (pm_put [(5, 17, 0)] h a0 (.int (v2 + 1))).bind fun h3 =>
    (pm_fR [(5, 23)] h3 a0).bind fun v4 =>
    (pm_fI [(5, 19)] h3 a0).bind fun v5 =>
    (pm_si 0 h3 v4 v5 (1048576 * x1)).bind fun h6 =>
    (pm_fI [(5, 19)] h6 a0).bind fun v7 =>
    (pm_put [(5, 19, 0)] h6 a0 (.int (v7 + 1))).bind fun h8 =>
    (pm_fI [(5, 13)] h8 a0).bind fun v9 =>
    (pm_put [(5, 13, 0)] h8 a0 (.int (v9 + 1))).bind fun h10 =>
    some (1, h10)
theorem ok_F_X6_opens {d : Nat} {h : pm_H} {a0 : Nat} {x1 : Int32} {q : Int32 × pm_H} (hF : F_X6_opens h a0 x1 = some q) : pm_E (d + 1) 6 cX6_opens (some .boolean) 0 [.ref a0, .int x1] [] h (some (.int q.1), q.2) := by
  unfold F_X6_opens at hF
  refine pr_aload_n dX6_opens_0 rfl ?_
  obtain ⟨v1, hv1, hF⟩ := po_b hF
  refine pr_getI dX6_opens_1 tf_6_150 (hv1) ?_
  refine pr_bipush (v := 6) dX6_opens_4 (kb_6) ?_
  refine po_i hF (fun hc hF => ?_) (fun hc hF => ?_)
  · refine pr_icF (tgt := 19) dX6_opens_6 (by decide) (pc_neF hc) ?_
    refine pr_aload_n dX6_opens_9 rfl ?_
    refine pr_iconst (v := 5) dX6_opens_10 (kc_5) ?_
    refine pr_aload_n dX6_opens_11 rfl ?_
    obtain ⟨v11, hv11, hF⟩ := po_b hF
    refine pr_getI dX6_opens_12 tf_6_123 (hv11) ?_
    obtain ⟨q12, hq12, hF⟩ := po_b hF
    refine po_i hq12 (fun hcl hq => ?_) (fun _ hq => nomatch hq)
    refine pr_V (as := [.int 5, .int v11]) (rest := []) dX6_opens_15 cv_6_136 hcl rfl rfl rfl rfl (lb rfl) (lb rfl) (lb rfl) (ok_F_X6_wrongAt hq) ?_
    refine po_i hF (fun hg hF => ?_) (fun _ hF => nomatch hF)
    cases hF
    exact pr_iret dX6_opens_18 rfl (nb_of hg) rfl
  · refine pr_icT (tgt := 19) dX6_opens_6 (by decide) (pc_neT hc) ?_
    refine pr_aload_n dX6_opens_19 rfl ?_
    refine pr_aload_n dX6_opens_20 rfl ?_
    obtain ⟨v2, hv2, hF⟩ := po_b hF
    refine pr_getI dX6_opens_21 tf_6_150 (hv2) ?_
    refine pr_iconst (v := 1) dX6_opens_24 (kc_1) ?_
    refine pr_iadd dX6_opens_25 ?_
    obtain ⟨h3, hh3, hF⟩ := po_b hF
    refine pr_put dX6_opens_26 tp_6_150 (hh3) ?_
    refine pr_aload_n dX6_opens_29 rfl ?_
    obtain ⟨v4, hv4, hF⟩ := po_b hF
    refine pr_getR dX6_opens_30 tf_6_38 (hv4) ?_
    refine pr_aload_n dX6_opens_33 rfl ?_
    obtain ⟨v5, hv5, hF⟩ := po_b hF
    refine pr_getI dX6_opens_34 tf_6_153 (hv5) ?_
    refine pr_ldc (v := 1048576) dX6_opens_37 rfl ?_
    refine pr_iload_n dX6_opens_39 rfl ?_
    refine pr_imul dX6_opens_40 ?_
    obtain ⟨h6, hh6, hF⟩ := po_b hF
    refine pr_iast dX6_opens_41 (hh6) ?_
    refine pr_aload_n dX6_opens_42 rfl ?_
    refine pr_aload_n dX6_opens_43 rfl ?_
    obtain ⟨v7, hv7, hF⟩ := po_b hF
    refine pr_getI dX6_opens_44 tf_6_153 (hv7) ?_
    refine pr_iconst (v := 1) dX6_opens_47 (kc_1) ?_
    refine pr_iadd dX6_opens_48 ?_
    obtain ⟨h8, hh8, hF⟩ := po_b hF
    refine pr_put dX6_opens_49 tp_6_153 (hh8) ?_
    refine pr_aload_n dX6_opens_52 rfl ?_
    refine pr_aload_n dX6_opens_53 rfl ?_
    obtain ⟨v9, hv9, hF⟩ := po_b hF
    refine pr_getI dX6_opens_54 tf_6_123 (hv9) ?_
    refine pr_iconst (v := 1) dX6_opens_57 (kc_1) ?_
    refine pr_iadd dX6_opens_58 ?_
    obtain ⟨h10, hh10, hF⟩ := po_b hF
    refine pr_put dX6_opens_59 tp_6_123 (hh10) ?_
    refine pr_iconst (v := 1) dX6_opens_62 (kc_1) ?_
    cases hF
    exact pr_iret dX6_opens_63 rfl nb_1 rfl

def F_X6_isDigit (h : pm_H) (a0 : Nat) : Option (Int32) :=
  (if pm_cl_ h a0 = some 5 then F_X6_here h a0 else none).bind fun q1 =>
  if q1 < 48 then
    some 0
  else
    (if pm_cl_ h a0 = some 5 then F_X6_here h a0 else none).bind fun q2 =>
    if 57 < q2 then
      some 0
    else
      some 1
theorem ok_F_X6_isDigit {d : Nat} {h : pm_H} {a0 : Nat} {q : Int32} (hF : F_X6_isDigit h a0 = some q) : pm_E (d + 1) 6 cX6_isDigit (some .boolean) 0 [.ref a0] [] h (some (.int q), h) := by
  unfold F_X6_isDigit at hF
  refine pr_aload_n dX6_isDigit_0 rfl ?_
  obtain ⟨q1, hq1, hF⟩ := po_b hF
  refine po_i hq1 (fun hcl hq => ?_) (fun _ hq => nomatch hq)
  refine pr_V (as := []) (rest := []) dX6_isDigit_1 cv_6_129 hcl rfl rfl rfl rfl (lb rfl) (lb rfl) (lb rfl) (ok_F_X6_here hq) ?_
  refine pr_bipush (v := 48) dX6_isDigit_4 (kb_48) ?_
  refine po_i hF (fun hc hF => ?_) (fun hc hF => ?_)
  · refine pr_icT (tgt := 22) dX6_isDigit_6 (by decide) (pc_ltT hc) ?_
    refine pr_iconst (v := 0) dX6_isDigit_22 (kc_0) ?_
    cases hF
    exact pr_iret dX6_isDigit_23 rfl nb_0 rfl
  · refine pr_icF (tgt := 22) dX6_isDigit_6 (by decide) (pc_ltF hc) ?_
    refine pr_aload_n dX6_isDigit_9 rfl ?_
    obtain ⟨q2, hq2, hF⟩ := po_b hF
    refine po_i hq2 (fun hcl hq => ?_) (fun _ hq => nomatch hq)
    refine pr_V (as := []) (rest := []) dX6_isDigit_10 cv_6_129 hcl rfl rfl rfl rfl (lb rfl) (lb rfl) (lb rfl) (ok_F_X6_here hq) ?_
    refine pr_bipush (v := 57) dX6_isDigit_13 (kb_57) ?_
    refine po_i hF (fun hc hF => ?_) (fun hc hF => ?_)
    · refine pr_icT (tgt := 22) dX6_isDigit_15 (by decide) (pc_gtT hc) ?_
      refine pr_iconst (v := 0) dX6_isDigit_22 (kc_0) ?_
      cases hF
      exact pr_iret dX6_isDigit_23 rfl nb_0 rfl
    · refine pr_icF (tgt := 22) dX6_isDigit_15 (by decide) (pc_gtF hc) ?_
      refine pr_iconst (v := 1) dX6_isDigit_18 (kc_1) ?_
      refine pr_goto (tgt := 23) dX6_isDigit_19 (by decide) ?_
      cases hF
      exact pr_iret dX6_isDigit_23 rfl nb_1 rfl

def L_X6_readsNumber_10 : Nat → Nat → Int32 → pm_H → Option ((Int32 × pm_H) ⊕ (pm_H))
  | 0, _, _, _ => none
  | n + 1, x0, x1, h =>
    (if pm_cl_ h x0 = some 5 then F_X6_isDigit h x0 else none).bind fun q3 =>
    if q3 = 0 then
      some (.inr h)
    else
      (pm_fI [(5, 13)] h x0).bind fun v4 =>
      if v4 = (x1 + 5) then
        (pm_fI [(5, 13)] h x0).bind fun v10 =>
        (if pm_cl_ h x0 = some 5 then F_X6_wrongAt h x0 2 v10 else none).bind fun q11 =>
        if q11.1 = 0 ∨ q11.1 = 1 then
          some (.inl (q11.1, q11.2))
        else none
      else
        (pm_fI [(5, 16)] h x0).bind fun v5 =>
        (if pm_cl_ h x0 = some 5 then F_X6_here h x0 else none).bind fun q6 =>
        (pm_put [(5, 16, 0)] h x0 (.int (((10 * v5) + q6) - 48))).bind fun h7 =>
        (pm_fI [(5, 13)] h7 x0).bind fun v8 =>
        (pm_put [(5, 13, 0)] h7 x0 (.int (v8 + 1))).bind fun h9 =>
        L_X6_readsNumber_10 n x0 x1 h9
theorem ok_L_X6_readsNumber_10 {d : Nat} : ∀ (n : Nat) {x0 : Nat} {x1 : Int32} {h : pm_H} {q : (Int32 × pm_H) ⊕ (pm_H)} {res : Option Value × pm_H}, L_X6_readsNumber_10 n x0 x1 h = some q → (∀ r, q = .inl r → res = (some (.int r.1), r.2)) → (∀ e, q = .inr e → pm_E (d + 2) 6 cX6_readsNumber (some .boolean) 69 [.ref x0, .int x1] [] e res) → pm_E (d + 2) 6 cX6_readsNumber (some .boolean) 10 [.ref x0, .int x1] [] h res := by
  intro n
  induction n with
  | zero =>
    intro x0 x1 h q res hF hr hk
    rw [L_X6_readsNumber_10] at hF
    cases hF
  | succ n ih =>
    intro x0 x1 h q res hF hr hk
    rw [L_X6_readsNumber_10] at hF
    refine pr_aload_n dX6_readsNumber_10 rfl ?_
    obtain ⟨q3, hq3, hF⟩ := po_b hF
    refine po_i hq3 (fun hcl hq => ?_) (fun _ hq => nomatch hq)
    refine pr_V (as := []) (rest := []) dX6_readsNumber_11 cv_6_142 hcl rfl rfl rfl rfl (lb rfl) (lb rfl) (lb rfl) (ok_F_X6_isDigit hq) ?_
    refine po_i hF (fun hc hF => ?_) (fun hc hF => ?_)
    · refine pr_ifT (tgt := 69) dX6_readsNumber_14 (by decide) (pc_eqT hc) ?_
      cases hF
      exact hk _ rfl
    · refine pr_ifF (tgt := 69) dX6_readsNumber_14 (by decide) (pc_eqF hc) ?_
      refine pr_aload_n dX6_readsNumber_17 rfl ?_
      obtain ⟨v4, hv4, hF⟩ := po_b hF
      refine pr_getI dX6_readsNumber_18 tf_6_123 (hv4) ?_
      refine pr_iload_n dX6_readsNumber_21 rfl ?_
      refine pr_iconst (v := 5) dX6_readsNumber_22 (kc_5) ?_
      refine pr_iadd dX6_readsNumber_23 ?_
      refine po_i hF (fun hc hF => ?_) (fun hc hF => ?_)
      · refine pr_icF (tgt := 37) dX6_readsNumber_24 (by decide) (pc_neF hc) ?_
        refine pr_aload_n dX6_readsNumber_27 rfl ?_
        refine pr_iconst (v := 2) dX6_readsNumber_28 (kc_2) ?_
        refine pr_aload_n dX6_readsNumber_29 rfl ?_
        obtain ⟨v10, hv10, hF⟩ := po_b hF
        refine pr_getI dX6_readsNumber_30 tf_6_123 (hv10) ?_
        obtain ⟨q11, hq11, hF⟩ := po_b hF
        refine po_i hq11 (fun hcl hq => ?_) (fun _ hq => nomatch hq)
        refine pr_V (as := [.int 2, .int v10]) (rest := []) dX6_readsNumber_33 cv_6_136 hcl rfl rfl rfl rfl (lb rfl) (lb rfl) (lb rfl) (ok_F_X6_wrongAt hq) ?_
        refine po_i hF (fun hg hF => ?_) (fun _ hF => nomatch hF)
        cases hF
        exact pr_iret dX6_readsNumber_36 rfl (nb_of hg) (hr _ rfl)
      · refine pr_icT (tgt := 37) dX6_readsNumber_24 (by decide) (pc_neT hc) ?_
        refine pr_aload_n dX6_readsNumber_37 rfl ?_
        refine pr_bipush (v := 10) dX6_readsNumber_38 (kb_10) ?_
        refine pr_aload_n dX6_readsNumber_40 rfl ?_
        obtain ⟨v5, hv5, hF⟩ := po_b hF
        refine pr_getI dX6_readsNumber_41 tf_6_139 (hv5) ?_
        refine pr_imul dX6_readsNumber_44 ?_
        refine pr_aload_n dX6_readsNumber_45 rfl ?_
        obtain ⟨q6, hq6, hF⟩ := po_b hF
        refine po_i hq6 (fun hcl hq => ?_) (fun _ hq => nomatch hq)
        refine pr_V (as := []) (rest := [.int (10 * v5), .ref x0]) dX6_readsNumber_46 cv_6_129 hcl rfl rfl rfl rfl (lb rfl) (lb rfl) (lb rfl) (ok_F_X6_here hq) ?_
        refine pr_iadd dX6_readsNumber_49 ?_
        refine pr_bipush (v := 48) dX6_readsNumber_50 (kb_48) ?_
        refine pr_isub dX6_readsNumber_52 ?_
        obtain ⟨h7, hh7, hF⟩ := po_b hF
        refine pr_put dX6_readsNumber_53 tp_6_139 (hh7) ?_
        refine pr_aload_n dX6_readsNumber_56 rfl ?_
        refine pr_aload_n dX6_readsNumber_57 rfl ?_
        obtain ⟨v8, hv8, hF⟩ := po_b hF
        refine pr_getI dX6_readsNumber_58 tf_6_123 (hv8) ?_
        refine pr_iconst (v := 1) dX6_readsNumber_61 (kc_1) ?_
        refine pr_iadd dX6_readsNumber_62 ?_
        obtain ⟨h9, hh9, hF⟩ := po_b hF
        refine pr_put dX6_readsNumber_63 tp_6_123 (hh9) ?_
        refine pr_goto (tgt := 10) dX6_readsNumber_66 (by decide) ?_
        exact ih hF hr hk
def F_X6_readsNumber (n : Nat) (h : pm_H) (a0 : Nat) : Option (Int32 × pm_H) :=
  (pm_fI [(5, 13)] h a0).bind fun v1 =>
  (pm_put [(5, 16, 0)] h a0 (.int 0)).bind fun h2 =>
  (L_X6_readsNumber_10 n a0 v1 h2).bind fun q12 => po_s q12 (fun r => some r) fun e13 =>
  some (1, e13)
theorem ok_F_X6_readsNumber {d n : Nat} {h : pm_H} {a0 : Nat} {q : Int32 × pm_H} (hF : F_X6_readsNumber n h a0 = some q) : pm_E (d + 2) 6 cX6_readsNumber (some .boolean) 0 [.ref a0, pm_D] [] h (some (.int q.1), q.2) := by
  unfold F_X6_readsNumber at hF
  refine pr_aload_n dX6_readsNumber_0 rfl ?_
  obtain ⟨v1, hv1, hF⟩ := po_b hF
  refine pr_getI dX6_readsNumber_1 tf_6_123 (hv1) ?_
  refine pr_istore_n (L' := [.ref a0, .int v1]) dX6_readsNumber_4 rfl ?_
  refine pr_aload_n dX6_readsNumber_5 rfl ?_
  refine pr_iconst (v := 0) dX6_readsNumber_6 (kc_0) ?_
  obtain ⟨h2, hh2, hF⟩ := po_b hF
  refine pr_put dX6_readsNumber_7 tp_6_139 (hh2) ?_
  obtain ⟨q12, hq12, hF⟩ := po_b hF
  refine ok_L_X6_readsNumber_10 n hq12 (fun r hq => ?_) (fun e13 hq => ?_)
  · subst hq
    replace hF := po_sl hF
    cases hF
    exact rfl
  subst hq
  replace hF := po_sr hF
  refine pr_iconst (v := 1) dX6_readsNumber_69 (kc_1) ?_
  cases hF
  exact pr_iret dX6_readsNumber_70 rfl nb_1 rfl

def F_X6_notes (h : pm_H) (a0 : Nat) (x1 : Int32) (x2 : Int32) : Option (pm_H) :=
  (pm_fR [(5, 22)] h a0).bind fun v1 =>
  (pm_fI [(5, 18)] h a0).bind fun v2 =>
  (pm_si 0 h v1 v2 ((1048576 * x1) + x2)).bind fun h3 =>
  (pm_fI [(5, 18)] h3 a0).bind fun v4 =>
  (pm_put [(5, 18, 0)] h3 a0 (.int (v4 + 1))).bind fun h5 =>
  some h5
theorem ok_F_X6_notes {d : Nat} {h : pm_H} {a0 : Nat} {x1 : Int32} {x2 : Int32} {q : pm_H} (hF : F_X6_notes h a0 x1 x2 = some q) : pm_E (d + 0) 6 cX6_notes (none) 0 [.ref a0, .int x1, .int x2] [] h (none, q) := by
  unfold F_X6_notes at hF
  refine pr_aload_n dX6_notes_0 rfl ?_
  obtain ⟨v1, hv1, hF⟩ := po_b hF
  refine pr_getR dX6_notes_1 tf_6_35 (hv1) ?_
  refine pr_aload_n dX6_notes_4 rfl ?_
  obtain ⟨v2, hv2, hF⟩ := po_b hF
  refine pr_getI dX6_notes_5 tf_6_146 (hv2) ?_
  refine pr_ldc (v := 1048576) dX6_notes_8 rfl ?_
  refine pr_iload_n dX6_notes_10 rfl ?_
  refine pr_imul dX6_notes_11 ?_
  refine pr_iload_n dX6_notes_12 rfl ?_
  refine pr_iadd dX6_notes_13 ?_
  obtain ⟨h3, hh3, hF⟩ := po_b hF
  refine pr_iast dX6_notes_14 (hh3) ?_
  refine pr_aload_n dX6_notes_15 rfl ?_
  refine pr_aload_n dX6_notes_16 rfl ?_
  obtain ⟨v4, hv4, hF⟩ := po_b hF
  refine pr_getI dX6_notes_17 tf_6_146 (hv4) ?_
  refine pr_iconst (v := 1) dX6_notes_20 (kc_1) ?_
  refine pr_iadd dX6_notes_21 ?_
  obtain ⟨h5, hh5, hF⟩ := po_b hF
  refine pr_put dX6_notes_22 tp_6_146 (hh5) ?_
  cases hF
  exact pr_vret dX6_notes_25 rfl rfl

def F_X6_factOf (x0 : Int32) : Option (Int32) :=
  if x0.toInt < 100 ∨ 119 < x0.toInt then
    some (-1)
  else if x0 = 100 then
    some 3
  else if x0 = 101 then
    some (-1)
  else if x0 = 102 then
    some 4
  else if x0 = 103 then
    some 5
  else if x0 = 104 then
    some 2
  else if x0 = 105 then
    some (-1)
  else if x0 = 106 then
    some (-1)
  else if x0 = 107 then
    some (-1)
  else if x0 = 108 then
    some (-1)
  else if x0 = 109 then
    some (-1)
  else if x0 = 110 then
    some 6
  else if x0 = 111 then
    some 7
  else if x0 = 112 then
    some 0
  else if x0 = 113 then
    some 1
  else if x0 = 114 then
    some (-1)
  else if x0 = 115 then
    some (-1)
  else if x0 = 116 then
    some 8
  else if x0 = 117 then
    some (-1)
  else if x0 = 118 then
    some (-1)
  else if x0 = 119 then
    some 9
  else none
theorem ok_F_X6_factOf {d : Nat} {h : pm_H} {x0 : Int32} {q : Int32} (hF : F_X6_factOf x0 = some q) : pm_E (d + 0) 6 cX6_factOf (some .int) 0 [.int x0] [] h (some (.int q), h) := by
  unfold F_X6_factOf at hF
  refine pr_iload_n dX6_factOf_0 rfl ?_
  refine po_i hF (fun hc hF => ?_) (fun hc hF => ?_)
  · refine pr_tabO (tgt := 120) dX6_factOf_1 hc (by decide) ?_
    refine pr_iconst (v := (-1)) dX6_factOf_120 (kc_m1) ?_
    cases hF
    exact pr_iret dX6_factOf_121 rfl rfl rfl
  refine po_i hF (fun he hF => ?_) (fun he100 hF => ?_)
  · refine pr_tabI (off := 101) (tgt := 102) dX6_factOf_1 hc (by rw [he]; rfl) (by decide) ?_
    refine pr_iconst (v := 3) dX6_factOf_102 (kc_3) ?_
    cases hF
    exact pr_iret dX6_factOf_103 rfl rfl rfl
  refine po_i hF (fun he hF => ?_) (fun he101 hF => ?_)
  · refine pr_tabI (off := 119) (tgt := 120) dX6_factOf_1 hc (by rw [he]; rfl) (by decide) ?_
    refine pr_iconst (v := (-1)) dX6_factOf_120 (kc_m1) ?_
    cases hF
    exact pr_iret dX6_factOf_121 rfl rfl rfl
  refine po_i hF (fun he hF => ?_) (fun he102 hF => ?_)
  · refine pr_tabI (off := 103) (tgt := 104) dX6_factOf_1 hc (by rw [he]; rfl) (by decide) ?_
    refine pr_iconst (v := 4) dX6_factOf_104 (kc_4) ?_
    cases hF
    exact pr_iret dX6_factOf_105 rfl rfl rfl
  refine po_i hF (fun he hF => ?_) (fun he103 hF => ?_)
  · refine pr_tabI (off := 105) (tgt := 106) dX6_factOf_1 hc (by rw [he]; rfl) (by decide) ?_
    refine pr_iconst (v := 5) dX6_factOf_106 (kc_5) ?_
    cases hF
    exact pr_iret dX6_factOf_107 rfl rfl rfl
  refine po_i hF (fun he hF => ?_) (fun he104 hF => ?_)
  · refine pr_tabI (off := 99) (tgt := 100) dX6_factOf_1 hc (by rw [he]; rfl) (by decide) ?_
    refine pr_iconst (v := 2) dX6_factOf_100 (kc_2) ?_
    cases hF
    exact pr_iret dX6_factOf_101 rfl rfl rfl
  refine po_i hF (fun he hF => ?_) (fun he105 hF => ?_)
  · refine pr_tabI (off := 119) (tgt := 120) dX6_factOf_1 hc (by rw [he]; rfl) (by decide) ?_
    refine pr_iconst (v := (-1)) dX6_factOf_120 (kc_m1) ?_
    cases hF
    exact pr_iret dX6_factOf_121 rfl rfl rfl
  refine po_i hF (fun he hF => ?_) (fun he106 hF => ?_)
  · refine pr_tabI (off := 119) (tgt := 120) dX6_factOf_1 hc (by rw [he]; rfl) (by decide) ?_
    refine pr_iconst (v := (-1)) dX6_factOf_120 (kc_m1) ?_
    cases hF
    exact pr_iret dX6_factOf_121 rfl rfl rfl
  refine po_i hF (fun he hF => ?_) (fun he107 hF => ?_)
  · refine pr_tabI (off := 119) (tgt := 120) dX6_factOf_1 hc (by rw [he]; rfl) (by decide) ?_
    refine pr_iconst (v := (-1)) dX6_factOf_120 (kc_m1) ?_
    cases hF
    exact pr_iret dX6_factOf_121 rfl rfl rfl
  refine po_i hF (fun he hF => ?_) (fun he108 hF => ?_)
  · refine pr_tabI (off := 119) (tgt := 120) dX6_factOf_1 hc (by rw [he]; rfl) (by decide) ?_
    refine pr_iconst (v := (-1)) dX6_factOf_120 (kc_m1) ?_
    cases hF
    exact pr_iret dX6_factOf_121 rfl rfl rfl
  refine po_i hF (fun he hF => ?_) (fun he109 hF => ?_)
  · refine pr_tabI (off := 119) (tgt := 120) dX6_factOf_1 hc (by rw [he]; rfl) (by decide) ?_
    refine pr_iconst (v := (-1)) dX6_factOf_120 (kc_m1) ?_
    cases hF
    exact pr_iret dX6_factOf_121 rfl rfl rfl
  refine po_i hF (fun he hF => ?_) (fun he110 hF => ?_)
  · refine pr_tabI (off := 107) (tgt := 108) dX6_factOf_1 hc (by rw [he]; rfl) (by decide) ?_
    refine pr_bipush (v := 6) dX6_factOf_108 (kb_6) ?_
    cases hF
    exact pr_iret dX6_factOf_110 rfl rfl rfl
  refine po_i hF (fun he hF => ?_) (fun he111 hF => ?_)
  · refine pr_tabI (off := 110) (tgt := 111) dX6_factOf_1 hc (by rw [he]; rfl) (by decide) ?_
    refine pr_bipush (v := 7) dX6_factOf_111 (kb_7) ?_
    cases hF
    exact pr_iret dX6_factOf_113 rfl rfl rfl
  refine po_i hF (fun he hF => ?_) (fun he112 hF => ?_)
  · refine pr_tabI (off := 95) (tgt := 96) dX6_factOf_1 hc (by rw [he]; rfl) (by decide) ?_
    refine pr_iconst (v := 0) dX6_factOf_96 (kc_0) ?_
    cases hF
    exact pr_iret dX6_factOf_97 rfl rfl rfl
  refine po_i hF (fun he hF => ?_) (fun he113 hF => ?_)
  · refine pr_tabI (off := 97) (tgt := 98) dX6_factOf_1 hc (by rw [he]; rfl) (by decide) ?_
    refine pr_iconst (v := 1) dX6_factOf_98 (kc_1) ?_
    cases hF
    exact pr_iret dX6_factOf_99 rfl rfl rfl
  refine po_i hF (fun he hF => ?_) (fun he114 hF => ?_)
  · refine pr_tabI (off := 119) (tgt := 120) dX6_factOf_1 hc (by rw [he]; rfl) (by decide) ?_
    refine pr_iconst (v := (-1)) dX6_factOf_120 (kc_m1) ?_
    cases hF
    exact pr_iret dX6_factOf_121 rfl rfl rfl
  refine po_i hF (fun he hF => ?_) (fun he115 hF => ?_)
  · refine pr_tabI (off := 119) (tgt := 120) dX6_factOf_1 hc (by rw [he]; rfl) (by decide) ?_
    refine pr_iconst (v := (-1)) dX6_factOf_120 (kc_m1) ?_
    cases hF
    exact pr_iret dX6_factOf_121 rfl rfl rfl
  refine po_i hF (fun he hF => ?_) (fun he116 hF => ?_)
  · refine pr_tabI (off := 113) (tgt := 114) dX6_factOf_1 hc (by rw [he]; rfl) (by decide) ?_
    refine pr_bipush (v := 8) dX6_factOf_114 (kb_8) ?_
    cases hF
    exact pr_iret dX6_factOf_116 rfl rfl rfl
  refine po_i hF (fun he hF => ?_) (fun he117 hF => ?_)
  · refine pr_tabI (off := 119) (tgt := 120) dX6_factOf_1 hc (by rw [he]; rfl) (by decide) ?_
    refine pr_iconst (v := (-1)) dX6_factOf_120 (kc_m1) ?_
    cases hF
    exact pr_iret dX6_factOf_121 rfl rfl rfl
  refine po_i hF (fun he hF => ?_) (fun he118 hF => ?_)
  · refine pr_tabI (off := 119) (tgt := 120) dX6_factOf_1 hc (by rw [he]; rfl) (by decide) ?_
    refine pr_iconst (v := (-1)) dX6_factOf_120 (kc_m1) ?_
    cases hF
    exact pr_iret dX6_factOf_121 rfl rfl rfl
  refine po_i hF (fun he hF => ?_) (fun he119 hF => ?_)
  · refine pr_tabI (off := 116) (tgt := 117) dX6_factOf_1 hc (by rw [he]; rfl) (by decide) ?_
    refine pr_bipush (v := 9) dX6_factOf_117 (kb_9) ?_
    cases hF
    exact pr_iret dX6_factOf_119 rfl rfl rfl
  cases hF

def L_X6_readsFactor_0 : Nat → Nat → pm_H → Option ((Int32 × pm_H) ⊕ (pm_H))
  | 0, _, _ => none
  | n + 1, x0, h =>
    (if pm_cl_ h x0 = some 5 then F_X6_here h x0 else none).bind fun q1 =>
    if q1 = 91 then
      (if pm_cl_ h x0 = some 5 then F_X6_opens h x0 14 else none).bind fun q2 =>
      if q2.1 = 0 then
        some (.inl (0, q2.2))
      else
        L_X6_readsFactor_0 n x0 q2.2
    else
      some (.inr h)
theorem ok_L_X6_readsFactor_0 {d : Nat} : ∀ (n : Nat) {x0 : Nat} {h : pm_H} {q : (Int32 × pm_H) ⊕ (pm_H)} {res : Option Value × pm_H}, L_X6_readsFactor_0 n x0 h = some q → (∀ r, q = .inl r → res = (some (.int r.1), r.2)) → (∀ e, q = .inr e → pm_E (d + 3) 6 cX6_readsFactor (some .boolean) 20 [.ref x0, pm_D] [] e res) → pm_E (d + 3) 6 cX6_readsFactor (some .boolean) 0 [.ref x0, pm_D] [] h res := by
  intro n
  induction n with
  | zero =>
    intro x0 h q res hF hr hk
    rw [L_X6_readsFactor_0] at hF
    cases hF
  | succ n ih =>
    intro x0 h q res hF hr hk
    rw [L_X6_readsFactor_0] at hF
    refine pr_aload_n dX6_readsFactor_0 rfl ?_
    obtain ⟨q1, hq1, hF⟩ := po_b hF
    refine po_i hq1 (fun hcl hq => ?_) (fun _ hq => nomatch hq)
    refine pr_V (as := []) (rest := []) dX6_readsFactor_1 cv_6_129 hcl rfl rfl rfl rfl (lb rfl) (lb rfl) (lb rfl) (ok_F_X6_here hq) ?_
    refine pr_bipush (v := 91) dX6_readsFactor_4 (kb_91) ?_
    refine po_i hF (fun hc hF => ?_) (fun hc hF => ?_)
    · refine pr_icF (tgt := 20) dX6_readsFactor_6 (by decide) (pc_neF hc) ?_
      refine pr_aload_n dX6_readsFactor_9 rfl ?_
      refine pr_bipush (v := 14) dX6_readsFactor_10 (kb_14) ?_
      obtain ⟨q2, hq2, hF⟩ := po_b hF
      refine po_i hq2 (fun hcl hq => ?_) (fun _ hq => nomatch hq)
      refine pr_V (as := [.int 14]) (rest := []) dX6_readsFactor_12 cv_6_163 hcl rfl rfl rfl rfl (lb rfl) (lb rfl) (lb rfl) (ok_F_X6_opens hq) ?_
      refine po_i hF (fun hc hF => ?_) (fun hc hF => ?_)
      · refine pr_ifF (tgt := 0) dX6_readsFactor_15 (by decide) (pc_neF hc) ?_
        refine pr_iconst (v := 0) dX6_readsFactor_18 (kc_0) ?_
        cases hF
        exact pr_iret dX6_readsFactor_19 rfl nb_0 (hr _ rfl)
      · refine pr_ifT (tgt := 0) dX6_readsFactor_15 (by decide) (pc_neT hc) ?_
        exact ih hF hr hk
    · refine pr_icT (tgt := 20) dX6_readsFactor_6 (by decide) (pc_neT hc) ?_
      cases hF
      exact hk _ rfl
def F_X6_readsFactor (n : Nat) (h : pm_H) (a0 : Nat) : Option (Int32 × pm_H) :=
  (L_X6_readsFactor_0 n a0 h).bind fun q3 => po_s q3 (fun r => some r) fun e4 =>
  (if pm_cl_ e4 a0 = some 5 then F_X6_isDigit e4 a0 else none).bind fun q5 =>
  if q5 = 0 then
    (if pm_cl_ e4 a0 = some 5 then F_X6_here e4 a0 else none).bind fun q6 =>
    (F_X6_factOf q6).bind fun q7 =>
    if q7 = (-1) then
      (pm_fI [(5, 13)] e4 a0).bind fun v11 =>
      (if pm_cl_ e4 a0 = some 5 then F_X6_wrongAt e4 a0 1 v11 else none).bind fun q12 =>
      if q12.1 = 0 ∨ q12.1 = 1 then
        some (q12.1, q12.2)
      else none
    else
      (if pm_cl_ e4 a0 = some 5 then F_X6_notes e4 a0 1 q7 else none).bind fun q8 =>
      (pm_fI [(5, 13)] q8 a0).bind fun v9 =>
      (pm_put [(5, 13, 0)] q8 a0 (.int (v9 + 1))).bind fun h10 =>
      some (1, h10)
  else
    (if pm_cl_ e4 a0 = some 5 then F_X6_readsNumber n e4 a0 else none).bind fun q13 =>
    if q13.1 = 0 then
      some (0, q13.2)
    else
      (pm_fI [(5, 16)] q13.2 a0).bind fun v14 =>
      (if pm_cl_ q13.2 a0 = some 5 then F_X6_notes q13.2 a0 0 v14 else none).bind fun q15 =>
      some (1, q15)
theorem ok_F_X6_readsFactor {d n : Nat} {h : pm_H} {a0 : Nat} {q : Int32 × pm_H} (hF : F_X6_readsFactor n h a0 = some q) : pm_E (d + 3) 6 cX6_readsFactor (some .boolean) 0 [.ref a0, pm_D] [] h (some (.int q.1), q.2) := by
  unfold F_X6_readsFactor at hF
  obtain ⟨q3, hq3, hF⟩ := po_b hF
  refine ok_L_X6_readsFactor_0 n hq3 (fun r hq => ?_) (fun e4 hq => ?_)
  · subst hq
    replace hF := po_sl hF
    cases hF
    exact rfl
  subst hq
  replace hF := po_sr hF
  refine pr_aload_n dX6_readsFactor_20 rfl ?_
  obtain ⟨q5, hq5, hF⟩ := po_b hF
  refine po_i hq5 (fun hcl hq => ?_) (fun _ hq => nomatch hq)
  refine pr_V (as := []) (rest := []) dX6_readsFactor_21 cv_6_142 hcl rfl rfl rfl rfl (lb rfl) (lb rfl) (lb rfl) (ok_F_X6_isDigit hq) ?_
  refine po_i hF (fun hc hF => ?_) (fun hc hF => ?_)
  · refine pr_ifT (tgt := 47) dX6_readsFactor_24 (by decide) (pc_eqT hc) ?_
    refine pr_aload_n dX6_readsFactor_47 rfl ?_
    obtain ⟨q6, hq6, hF⟩ := po_b hF
    refine po_i hq6 (fun hcl hq => ?_) (fun _ hq => nomatch hq)
    refine pr_V (as := []) (rest := []) dX6_readsFactor_48 cv_6_129 hcl rfl rfl rfl rfl (lb rfl) (lb rfl) (lb rfl) (ok_F_X6_here hq) ?_
    obtain ⟨q7, hq7, hF⟩ := po_b hF
    refine pr_S dX6_readsFactor_51 cs_6_170 (as := [.int q6]) (rest := []) rfl rfl rfl (lb rfl) (lb rfl) (lb rfl) (ok_F_X6_factOf hq7) ?_
    refine pr_istore_n (L' := [.ref a0, .int q7]) dX6_readsFactor_54 rfl ?_
    refine pr_iload_n dX6_readsFactor_55 rfl ?_
    refine pr_iconst (v := (-1)) dX6_readsFactor_56 (kc_m1) ?_
    refine po_i hF (fun hc hF => ?_) (fun hc hF => ?_)
    · refine pr_icF (tgt := 70) dX6_readsFactor_57 (by decide) (pc_neF hc) ?_
      refine pr_aload_n dX6_readsFactor_60 rfl ?_
      refine pr_iconst (v := 1) dX6_readsFactor_61 (kc_1) ?_
      refine pr_aload_n dX6_readsFactor_62 rfl ?_
      obtain ⟨v11, hv11, hF⟩ := po_b hF
      refine pr_getI dX6_readsFactor_63 tf_6_123 (hv11) ?_
      obtain ⟨q12, hq12, hF⟩ := po_b hF
      refine po_i hq12 (fun hcl hq => ?_) (fun _ hq => nomatch hq)
      refine pr_V (as := [.int 1, .int v11]) (rest := []) dX6_readsFactor_66 cv_6_136 hcl rfl rfl rfl rfl (lb rfl) (lb rfl) (lb rfl) (ok_F_X6_wrongAt hq) ?_
      refine po_i hF (fun hg hF => ?_) (fun _ hF => nomatch hF)
      cases hF
      exact pr_iret dX6_readsFactor_69 rfl (nb_of hg) rfl
    · refine pr_icT (tgt := 70) dX6_readsFactor_57 (by decide) (pc_neT hc) ?_
      refine pr_aload_n dX6_readsFactor_70 rfl ?_
      refine pr_iconst (v := 1) dX6_readsFactor_71 (kc_1) ?_
      refine pr_iload_n dX6_readsFactor_72 rfl ?_
      obtain ⟨q8, hq8, hF⟩ := po_b hF
      refine po_i hq8 (fun hcl hq => ?_) (fun _ hq => nomatch hq)
      refine pr_V (as := [.int 1, .int q7]) (rest := []) dX6_readsFactor_73 cv_6_159 hcl rfl rfl rfl rfl (lb rfl) (lb rfl) (lb rfl) (ok_F_X6_notes hq) ?_
      refine pr_aload_n dX6_readsFactor_76 rfl ?_
      refine pr_aload_n dX6_readsFactor_77 rfl ?_
      obtain ⟨v9, hv9, hF⟩ := po_b hF
      refine pr_getI dX6_readsFactor_78 tf_6_123 (hv9) ?_
      refine pr_iconst (v := 1) dX6_readsFactor_81 (kc_1) ?_
      refine pr_iadd dX6_readsFactor_82 ?_
      obtain ⟨h10, hh10, hF⟩ := po_b hF
      refine pr_put dX6_readsFactor_83 tp_6_123 (hh10) ?_
      refine pr_iconst (v := 1) dX6_readsFactor_86 (kc_1) ?_
      cases hF
      exact pr_iret dX6_readsFactor_87 rfl nb_1 rfl
  · refine pr_ifF (tgt := 47) dX6_readsFactor_24 (by decide) (pc_eqF hc) ?_
    refine pr_aload_n dX6_readsFactor_27 rfl ?_
    obtain ⟨q13, hq13, hF⟩ := po_b hF
    refine po_i hq13 (fun hcl hq => ?_) (fun _ hq => nomatch hq)
    refine pr_V (as := []) (rest := []) dX6_readsFactor_28 cv_6_167 hcl rfl rfl rfl rfl (lb rfl) (lb rfl) (lb rfl) (ok_F_X6_readsNumber hq) ?_
    refine po_i hF (fun hc hF => ?_) (fun hc hF => ?_)
    · refine pr_ifF (tgt := 36) dX6_readsFactor_31 (by decide) (pc_neF hc) ?_
      refine pr_iconst (v := 0) dX6_readsFactor_34 (kc_0) ?_
      cases hF
      exact pr_iret dX6_readsFactor_35 rfl nb_0 rfl
    · refine pr_ifT (tgt := 36) dX6_readsFactor_31 (by decide) (pc_neT hc) ?_
      refine pr_aload_n dX6_readsFactor_36 rfl ?_
      refine pr_iconst (v := 0) dX6_readsFactor_37 (kc_0) ?_
      refine pr_aload_n dX6_readsFactor_38 rfl ?_
      obtain ⟨v14, hv14, hF⟩ := po_b hF
      refine pr_getI dX6_readsFactor_39 tf_6_139 (hv14) ?_
      obtain ⟨q15, hq15, hF⟩ := po_b hF
      refine po_i hq15 (fun hcl hq => ?_) (fun _ hq => nomatch hq)
      refine pr_V (as := [.int 0, .int v14]) (rest := []) dX6_readsFactor_42 cv_6_159 hcl rfl rfl rfl rfl (lb rfl) (lb rfl) (lb rfl) (ok_F_X6_notes hq) ?_
      refine pr_iconst (v := 1) dX6_readsFactor_45 (kc_1) ?_
      cases hF
      exact pr_iret dX6_readsFactor_46 rfl nb_1 rfl

def F_X6_sumSign (x0 : Int32) : Option (Int32) :=
  if x0 = 43 then
    some 2
  else
  if x0 = 45 then
    some 3
  else
  if x0 = 42 then
    some 4
  else
  if x0 = 47 then
    some 5
  else
  if x0 = 37 then
    some 6
  else
    some (-1)
theorem ok_F_X6_sumSign {d : Nat} {h : pm_H} {x0 : Int32} {q : Int32} (hF : F_X6_sumSign x0 = some q) : pm_E (d + 0) 6 cX6_sumSign (some .int) 0 [.int x0] [] h (some (.int q), h) := by
  unfold F_X6_sumSign at hF
  refine pr_iload_n dX6_sumSign_0 rfl ?_
  refine pr_bipush (v := 43) dX6_sumSign_1 (kb_43) ?_
  refine po_i hF (fun hc hF => ?_) (fun hc hF => ?_)
  · refine pr_icF (tgt := 10) dX6_sumSign_3 (by decide) (pc_neF hc) ?_
    refine pr_iconst (v := 2) dX6_sumSign_6 (kc_2) ?_
    refine pr_goto (tgt := 52) dX6_sumSign_7 (by decide) ?_
    cases hF
    exact pr_iret dX6_sumSign_52 rfl rfl rfl
  · refine pr_icT (tgt := 10) dX6_sumSign_3 (by decide) (pc_neT hc) ?_
    refine pr_iload_n dX6_sumSign_10 rfl ?_
    refine pr_bipush (v := 45) dX6_sumSign_11 (kb_45) ?_
    refine po_i hF (fun hc hF => ?_) (fun hc hF => ?_)
    · refine pr_icF (tgt := 20) dX6_sumSign_13 (by decide) (pc_neF hc) ?_
      refine pr_iconst (v := 3) dX6_sumSign_16 (kc_3) ?_
      refine pr_goto (tgt := 52) dX6_sumSign_17 (by decide) ?_
      cases hF
      exact pr_iret dX6_sumSign_52 rfl rfl rfl
    · refine pr_icT (tgt := 20) dX6_sumSign_13 (by decide) (pc_neT hc) ?_
      refine pr_iload_n dX6_sumSign_20 rfl ?_
      refine pr_bipush (v := 42) dX6_sumSign_21 (kb_42) ?_
      refine po_i hF (fun hc hF => ?_) (fun hc hF => ?_)
      · refine pr_icF (tgt := 30) dX6_sumSign_23 (by decide) (pc_neF hc) ?_
        refine pr_iconst (v := 4) dX6_sumSign_26 (kc_4) ?_
        refine pr_goto (tgt := 52) dX6_sumSign_27 (by decide) ?_
        cases hF
        exact pr_iret dX6_sumSign_52 rfl rfl rfl
      · refine pr_icT (tgt := 30) dX6_sumSign_23 (by decide) (pc_neT hc) ?_
        refine pr_iload_n dX6_sumSign_30 rfl ?_
        refine pr_bipush (v := 47) dX6_sumSign_31 (kb_47) ?_
        refine po_i hF (fun hc hF => ?_) (fun hc hF => ?_)
        · refine pr_icF (tgt := 40) dX6_sumSign_33 (by decide) (pc_neF hc) ?_
          refine pr_iconst (v := 5) dX6_sumSign_36 (kc_5) ?_
          refine pr_goto (tgt := 52) dX6_sumSign_37 (by decide) ?_
          cases hF
          exact pr_iret dX6_sumSign_52 rfl rfl rfl
        · refine pr_icT (tgt := 40) dX6_sumSign_33 (by decide) (pc_neT hc) ?_
          refine pr_iload_n dX6_sumSign_40 rfl ?_
          refine pr_bipush (v := 37) dX6_sumSign_41 (kb_37) ?_
          refine po_i hF (fun hc hF => ?_) (fun hc hF => ?_)
          · refine pr_icF (tgt := 51) dX6_sumSign_43 (by decide) (pc_neF hc) ?_
            refine pr_bipush (v := 6) dX6_sumSign_46 (kb_6) ?_
            refine pr_goto (tgt := 52) dX6_sumSign_48 (by decide) ?_
            cases hF
            exact pr_iret dX6_sumSign_52 rfl rfl rfl
          · refine pr_icT (tgt := 51) dX6_sumSign_43 (by decide) (pc_neT hc) ?_
            refine pr_iconst (v := (-1)) dX6_sumSign_51 (kc_m1) ?_
            cases hF
            exact pr_iret dX6_sumSign_52 rfl rfl rfl

def F_X6_waitTop (h : pm_H) (a0 : Nat) : Option (Int32) :=
  (pm_fI [(5, 19)] h a0).bind fun v1 =>
  if v1 = 0 then
    some (-1)
  else
    (pm_fR [(5, 23)] h a0).bind fun v2 =>
    (pm_fI [(5, 19)] h a0).bind fun v3 =>
    (pm_ai 0 h v2 (v3 - 1)).bind fun v4 =>
    some (v4 / 1048576)
theorem ok_F_X6_waitTop {d : Nat} {h : pm_H} {a0 : Nat} {q : Int32} (hF : F_X6_waitTop h a0 = some q) : pm_E (d + 0) 6 cX6_waitTop (some .int) 0 [.ref a0] [] h (some (.int q), h) := by
  unfold F_X6_waitTop at hF
  refine pr_aload_n dX6_waitTop_0 rfl ?_
  obtain ⟨v1, hv1, hF⟩ := po_b hF
  refine pr_getI dX6_waitTop_1 tf_6_153 (hv1) ?_
  refine po_i hF (fun hc hF => ?_) (fun hc hF => ?_)
  · refine pr_ifF (tgt := 11) dX6_waitTop_4 (by decide) (pc_neF hc) ?_
    refine pr_iconst (v := (-1)) dX6_waitTop_7 (kc_m1) ?_
    refine pr_goto (tgt := 25) dX6_waitTop_8 (by decide) ?_
    cases hF
    exact pr_iret dX6_waitTop_25 rfl rfl rfl
  · refine pr_ifT (tgt := 11) dX6_waitTop_4 (by decide) (pc_neT hc) ?_
    refine pr_aload_n dX6_waitTop_11 rfl ?_
    obtain ⟨v2, hv2, hF⟩ := po_b hF
    refine pr_getR dX6_waitTop_12 tf_6_38 (hv2) ?_
    refine pr_aload_n dX6_waitTop_15 rfl ?_
    obtain ⟨v3, hv3, hF⟩ := po_b hF
    refine pr_getI dX6_waitTop_16 tf_6_153 (hv3) ?_
    refine pr_iconst (v := 1) dX6_waitTop_19 (kc_1) ?_
    refine pr_isub dX6_waitTop_20 ?_
    obtain ⟨v4, hv4, hF⟩ := po_b hF
    refine pr_iald dX6_waitTop_21 (hv4) ?_
    refine pr_ldc (v := 1048576) dX6_waitTop_22 rfl ?_
    refine pr_idiv dX6_waitTop_24 (by decide) ?_
    cases hF
    exact pr_iret dX6_waitTop_25 rfl rfl rfl

def L_X6_closesSums_0 : Nat → Nat → Int32 → pm_H → Option (pm_H)
  | 0, _, _, _ => none
  | n + 1, x0, x1, h =>
    (if pm_cl_ h x0 = some 5 then F_X6_waitTop h x0 else none).bind fun q1 =>
    if q1 < 4 then
      if x1 = 0 then
        some h
      else
        (if pm_cl_ h x0 = some 5 then F_X6_waitTop h x0 else none).bind fun q2 =>
        if q2 = 2 then
          (if pm_cl_ h x0 = some 5 then F_X6_waitTop h x0 else none).bind fun q3 =>
          (if pm_cl_ h x0 = some 5 then F_X6_notes h x0 q3 0 else none).bind fun q4 =>
          (pm_fI [(5, 19)] q4 x0).bind fun v5 =>
          (pm_put [(5, 19, 0)] q4 x0 (.int (v5 - 1))).bind fun h6 =>
          L_X6_closesSums_0 n x0 x1 h6
        else
          (if pm_cl_ h x0 = some 5 then F_X6_waitTop h x0 else none).bind fun q7 =>
          if q7 = 3 then
            (if pm_cl_ h x0 = some 5 then F_X6_waitTop h x0 else none).bind fun q8 =>
            (if pm_cl_ h x0 = some 5 then F_X6_notes h x0 q8 0 else none).bind fun q9 =>
            (pm_fI [(5, 19)] q9 x0).bind fun v10 =>
            (pm_put [(5, 19, 0)] q9 x0 (.int (v10 - 1))).bind fun h11 =>
            L_X6_closesSums_0 n x0 x1 h11
          else
            some h
    else
      (if pm_cl_ h x0 = some 5 then F_X6_waitTop h x0 else none).bind fun q12 =>
      if 6 < q12 then
        if x1 = 0 then
          some h
        else
          (if pm_cl_ h x0 = some 5 then F_X6_waitTop h x0 else none).bind fun q17 =>
          if q17 = 2 then
            (if pm_cl_ h x0 = some 5 then F_X6_waitTop h x0 else none).bind fun q18 =>
            (if pm_cl_ h x0 = some 5 then F_X6_notes h x0 q18 0 else none).bind fun q19 =>
            (pm_fI [(5, 19)] q19 x0).bind fun v20 =>
            (pm_put [(5, 19, 0)] q19 x0 (.int (v20 - 1))).bind fun h21 =>
            L_X6_closesSums_0 n x0 x1 h21
          else
            (if pm_cl_ h x0 = some 5 then F_X6_waitTop h x0 else none).bind fun q22 =>
            if q22 = 3 then
              (if pm_cl_ h x0 = some 5 then F_X6_waitTop h x0 else none).bind fun q23 =>
              (if pm_cl_ h x0 = some 5 then F_X6_notes h x0 q23 0 else none).bind fun q24 =>
              (pm_fI [(5, 19)] q24 x0).bind fun v25 =>
              (pm_put [(5, 19, 0)] q24 x0 (.int (v25 - 1))).bind fun h26 =>
              L_X6_closesSums_0 n x0 x1 h26
            else
              some h
      else
        (if pm_cl_ h x0 = some 5 then F_X6_waitTop h x0 else none).bind fun q13 =>
        (if pm_cl_ h x0 = some 5 then F_X6_notes h x0 q13 0 else none).bind fun q14 =>
        (pm_fI [(5, 19)] q14 x0).bind fun v15 =>
        (pm_put [(5, 19, 0)] q14 x0 (.int (v15 - 1))).bind fun h16 =>
        L_X6_closesSums_0 n x0 x1 h16
theorem ok_L_X6_closesSums_0 {d : Nat} : ∀ (n : Nat) {x0 : Nat} {x1 : Int32} {h : pm_H} {q : pm_H} {res : Option Value × pm_H}, L_X6_closesSums_0 n x0 x1 h = some q → (res = (none, q)) → pm_E (d + 1) 6 cX6_closesSums (none) 0 [.ref x0, .int x1] [] h res := by
  intro n
  induction n with
  | zero =>
    intro x0 x1 h q res hF hr
    rw [L_X6_closesSums_0] at hF
    cases hF
  | succ n ih =>
    intro x0 x1 h q res hF hr
    rw [L_X6_closesSums_0] at hF
    refine pr_aload_n dX6_closesSums_0 rfl ?_
    obtain ⟨q1, hq1, hF⟩ := po_b hF
    refine po_i hq1 (fun hcl hq => ?_) (fun _ hq => nomatch hq)
    refine pr_V (as := []) (rest := []) dX6_closesSums_1 cv_6_156 hcl rfl rfl rfl rfl (lb rfl) (lb rfl) (lb rfl) (ok_F_X6_waitTop hq) ?_
    refine pr_iconst (v := 4) dX6_closesSums_4 (kc_4) ?_
    refine po_i hF (fun hc hF => ?_) (fun hc hF => ?_)
    · refine pr_icT (tgt := 17) dX6_closesSums_5 (by decide) (pc_ltT hc) ?_
      refine pr_iload_n dX6_closesSums_17 rfl ?_
      refine po_i hF (fun hc hF => ?_) (fun hc hF => ?_)
      · refine pr_ifT (tgt := 59) dX6_closesSums_18 (by decide) (pc_eqT hc) ?_
        cases hF
        exact pr_vret dX6_closesSums_59 rfl hr
      · refine pr_ifF (tgt := 59) dX6_closesSums_18 (by decide) (pc_eqF hc) ?_
        refine pr_aload_n dX6_closesSums_21 rfl ?_
        obtain ⟨q2, hq2, hF⟩ := po_b hF
        refine po_i hq2 (fun hcl hq => ?_) (fun _ hq => nomatch hq)
        refine pr_V (as := []) (rest := []) dX6_closesSums_22 cv_6_156 hcl rfl rfl rfl rfl (lb rfl) (lb rfl) (lb rfl) (ok_F_X6_waitTop hq) ?_
        refine pr_iconst (v := 2) dX6_closesSums_25 (kc_2) ?_
        refine po_i hF (fun hc hF => ?_) (fun hc hF => ?_)
        · refine pr_icT (tgt := 37) dX6_closesSums_26 (by decide) (pc_eqT hc) ?_
          refine pr_aload_n dX6_closesSums_37 rfl ?_
          refine pr_aload_n dX6_closesSums_38 rfl ?_
          obtain ⟨q3, hq3, hF⟩ := po_b hF
          refine po_i hq3 (fun hcl hq => ?_) (fun _ hq => nomatch hq)
          refine pr_V (as := []) (rest := [.ref x0]) dX6_closesSums_39 cv_6_156 hcl rfl rfl rfl rfl (lb rfl) (lb rfl) (lb rfl) (ok_F_X6_waitTop hq) ?_
          refine pr_iconst (v := 0) dX6_closesSums_42 (kc_0) ?_
          obtain ⟨q4, hq4, hF⟩ := po_b hF
          refine po_i hq4 (fun hcl hq => ?_) (fun _ hq => nomatch hq)
          refine pr_V (as := [.int q3, .int 0]) (rest := []) dX6_closesSums_43 cv_6_159 hcl rfl rfl rfl rfl (lb rfl) (lb rfl) (lb rfl) (ok_F_X6_notes hq) ?_
          refine pr_aload_n dX6_closesSums_46 rfl ?_
          refine pr_aload_n dX6_closesSums_47 rfl ?_
          obtain ⟨v5, hv5, hF⟩ := po_b hF
          refine pr_getI dX6_closesSums_48 tf_6_153 (hv5) ?_
          refine pr_iconst (v := 1) dX6_closesSums_51 (kc_1) ?_
          refine pr_isub dX6_closesSums_52 ?_
          obtain ⟨h6, hh6, hF⟩ := po_b hF
          refine pr_put dX6_closesSums_53 tp_6_153 (hh6) ?_
          refine pr_goto (tgt := 0) dX6_closesSums_56 (by decide) ?_
          exact ih hF hr
        · refine pr_icF (tgt := 37) dX6_closesSums_26 (by decide) (pc_eqF hc) ?_
          refine pr_aload_n dX6_closesSums_29 rfl ?_
          obtain ⟨q7, hq7, hF⟩ := po_b hF
          refine po_i hq7 (fun hcl hq => ?_) (fun _ hq => nomatch hq)
          refine pr_V (as := []) (rest := []) dX6_closesSums_30 cv_6_156 hcl rfl rfl rfl rfl (lb rfl) (lb rfl) (lb rfl) (ok_F_X6_waitTop hq) ?_
          refine pr_iconst (v := 3) dX6_closesSums_33 (kc_3) ?_
          refine po_i hF (fun hc hF => ?_) (fun hc hF => ?_)
          · refine pr_icF (tgt := 59) dX6_closesSums_34 (by decide) (pc_neF hc) ?_
            refine pr_aload_n dX6_closesSums_37 rfl ?_
            refine pr_aload_n dX6_closesSums_38 rfl ?_
            obtain ⟨q8, hq8, hF⟩ := po_b hF
            refine po_i hq8 (fun hcl hq => ?_) (fun _ hq => nomatch hq)
            refine pr_V (as := []) (rest := [.ref x0]) dX6_closesSums_39 cv_6_156 hcl rfl rfl rfl rfl (lb rfl) (lb rfl) (lb rfl) (ok_F_X6_waitTop hq) ?_
            refine pr_iconst (v := 0) dX6_closesSums_42 (kc_0) ?_
            obtain ⟨q9, hq9, hF⟩ := po_b hF
            refine po_i hq9 (fun hcl hq => ?_) (fun _ hq => nomatch hq)
            refine pr_V (as := [.int q8, .int 0]) (rest := []) dX6_closesSums_43 cv_6_159 hcl rfl rfl rfl rfl (lb rfl) (lb rfl) (lb rfl) (ok_F_X6_notes hq) ?_
            refine pr_aload_n dX6_closesSums_46 rfl ?_
            refine pr_aload_n dX6_closesSums_47 rfl ?_
            obtain ⟨v10, hv10, hF⟩ := po_b hF
            refine pr_getI dX6_closesSums_48 tf_6_153 (hv10) ?_
            refine pr_iconst (v := 1) dX6_closesSums_51 (kc_1) ?_
            refine pr_isub dX6_closesSums_52 ?_
            obtain ⟨h11, hh11, hF⟩ := po_b hF
            refine pr_put dX6_closesSums_53 tp_6_153 (hh11) ?_
            refine pr_goto (tgt := 0) dX6_closesSums_56 (by decide) ?_
            exact ih hF hr
          · refine pr_icT (tgt := 59) dX6_closesSums_34 (by decide) (pc_neT hc) ?_
            cases hF
            exact pr_vret dX6_closesSums_59 rfl hr
    · refine pr_icF (tgt := 17) dX6_closesSums_5 (by decide) (pc_ltF hc) ?_
      refine pr_aload_n dX6_closesSums_8 rfl ?_
      obtain ⟨q12, hq12, hF⟩ := po_b hF
      refine po_i hq12 (fun hcl hq => ?_) (fun _ hq => nomatch hq)
      refine pr_V (as := []) (rest := []) dX6_closesSums_9 cv_6_156 hcl rfl rfl rfl rfl (lb rfl) (lb rfl) (lb rfl) (ok_F_X6_waitTop hq) ?_
      refine pr_bipush (v := 6) dX6_closesSums_12 (kb_6) ?_
      refine po_i hF (fun hc hF => ?_) (fun hc hF => ?_)
      · refine pr_icF (tgt := 37) dX6_closesSums_14 (by decide) (pc_leF hc) ?_
        refine pr_iload_n dX6_closesSums_17 rfl ?_
        refine po_i hF (fun hc hF => ?_) (fun hc hF => ?_)
        · refine pr_ifT (tgt := 59) dX6_closesSums_18 (by decide) (pc_eqT hc) ?_
          cases hF
          exact pr_vret dX6_closesSums_59 rfl hr
        · refine pr_ifF (tgt := 59) dX6_closesSums_18 (by decide) (pc_eqF hc) ?_
          refine pr_aload_n dX6_closesSums_21 rfl ?_
          obtain ⟨q17, hq17, hF⟩ := po_b hF
          refine po_i hq17 (fun hcl hq => ?_) (fun _ hq => nomatch hq)
          refine pr_V (as := []) (rest := []) dX6_closesSums_22 cv_6_156 hcl rfl rfl rfl rfl (lb rfl) (lb rfl) (lb rfl) (ok_F_X6_waitTop hq) ?_
          refine pr_iconst (v := 2) dX6_closesSums_25 (kc_2) ?_
          refine po_i hF (fun hc hF => ?_) (fun hc hF => ?_)
          · refine pr_icT (tgt := 37) dX6_closesSums_26 (by decide) (pc_eqT hc) ?_
            refine pr_aload_n dX6_closesSums_37 rfl ?_
            refine pr_aload_n dX6_closesSums_38 rfl ?_
            obtain ⟨q18, hq18, hF⟩ := po_b hF
            refine po_i hq18 (fun hcl hq => ?_) (fun _ hq => nomatch hq)
            refine pr_V (as := []) (rest := [.ref x0]) dX6_closesSums_39 cv_6_156 hcl rfl rfl rfl rfl (lb rfl) (lb rfl) (lb rfl) (ok_F_X6_waitTop hq) ?_
            refine pr_iconst (v := 0) dX6_closesSums_42 (kc_0) ?_
            obtain ⟨q19, hq19, hF⟩ := po_b hF
            refine po_i hq19 (fun hcl hq => ?_) (fun _ hq => nomatch hq)
            refine pr_V (as := [.int q18, .int 0]) (rest := []) dX6_closesSums_43 cv_6_159 hcl rfl rfl rfl rfl (lb rfl) (lb rfl) (lb rfl) (ok_F_X6_notes hq) ?_
            refine pr_aload_n dX6_closesSums_46 rfl ?_
            refine pr_aload_n dX6_closesSums_47 rfl ?_
            obtain ⟨v20, hv20, hF⟩ := po_b hF
            refine pr_getI dX6_closesSums_48 tf_6_153 (hv20) ?_
            refine pr_iconst (v := 1) dX6_closesSums_51 (kc_1) ?_
            refine pr_isub dX6_closesSums_52 ?_
            obtain ⟨h21, hh21, hF⟩ := po_b hF
            refine pr_put dX6_closesSums_53 tp_6_153 (hh21) ?_
            refine pr_goto (tgt := 0) dX6_closesSums_56 (by decide) ?_
            exact ih hF hr
          · refine pr_icF (tgt := 37) dX6_closesSums_26 (by decide) (pc_eqF hc) ?_
            refine pr_aload_n dX6_closesSums_29 rfl ?_
            obtain ⟨q22, hq22, hF⟩ := po_b hF
            refine po_i hq22 (fun hcl hq => ?_) (fun _ hq => nomatch hq)
            refine pr_V (as := []) (rest := []) dX6_closesSums_30 cv_6_156 hcl rfl rfl rfl rfl (lb rfl) (lb rfl) (lb rfl) (ok_F_X6_waitTop hq) ?_
            refine pr_iconst (v := 3) dX6_closesSums_33 (kc_3) ?_
            refine po_i hF (fun hc hF => ?_) (fun hc hF => ?_)
            · refine pr_icF (tgt := 59) dX6_closesSums_34 (by decide) (pc_neF hc) ?_
              refine pr_aload_n dX6_closesSums_37 rfl ?_
              refine pr_aload_n dX6_closesSums_38 rfl ?_
              obtain ⟨q23, hq23, hF⟩ := po_b hF
              refine po_i hq23 (fun hcl hq => ?_) (fun _ hq => nomatch hq)
              refine pr_V (as := []) (rest := [.ref x0]) dX6_closesSums_39 cv_6_156 hcl rfl rfl rfl rfl (lb rfl) (lb rfl) (lb rfl) (ok_F_X6_waitTop hq) ?_
              refine pr_iconst (v := 0) dX6_closesSums_42 (kc_0) ?_
              obtain ⟨q24, hq24, hF⟩ := po_b hF
              refine po_i hq24 (fun hcl hq => ?_) (fun _ hq => nomatch hq)
              refine pr_V (as := [.int q23, .int 0]) (rest := []) dX6_closesSums_43 cv_6_159 hcl rfl rfl rfl rfl (lb rfl) (lb rfl) (lb rfl) (ok_F_X6_notes hq) ?_
              refine pr_aload_n dX6_closesSums_46 rfl ?_
              refine pr_aload_n dX6_closesSums_47 rfl ?_
              obtain ⟨v25, hv25, hF⟩ := po_b hF
              refine pr_getI dX6_closesSums_48 tf_6_153 (hv25) ?_
              refine pr_iconst (v := 1) dX6_closesSums_51 (kc_1) ?_
              refine pr_isub dX6_closesSums_52 ?_
              obtain ⟨h26, hh26, hF⟩ := po_b hF
              refine pr_put dX6_closesSums_53 tp_6_153 (hh26) ?_
              refine pr_goto (tgt := 0) dX6_closesSums_56 (by decide) ?_
              exact ih hF hr
            · refine pr_icT (tgt := 59) dX6_closesSums_34 (by decide) (pc_neT hc) ?_
              cases hF
              exact pr_vret dX6_closesSums_59 rfl hr
      · refine pr_icT (tgt := 37) dX6_closesSums_14 (by decide) (pc_leT hc) ?_
        refine pr_aload_n dX6_closesSums_37 rfl ?_
        refine pr_aload_n dX6_closesSums_38 rfl ?_
        obtain ⟨q13, hq13, hF⟩ := po_b hF
        refine po_i hq13 (fun hcl hq => ?_) (fun _ hq => nomatch hq)
        refine pr_V (as := []) (rest := [.ref x0]) dX6_closesSums_39 cv_6_156 hcl rfl rfl rfl rfl (lb rfl) (lb rfl) (lb rfl) (ok_F_X6_waitTop hq) ?_
        refine pr_iconst (v := 0) dX6_closesSums_42 (kc_0) ?_
        obtain ⟨q14, hq14, hF⟩ := po_b hF
        refine po_i hq14 (fun hcl hq => ?_) (fun _ hq => nomatch hq)
        refine pr_V (as := [.int q13, .int 0]) (rest := []) dX6_closesSums_43 cv_6_159 hcl rfl rfl rfl rfl (lb rfl) (lb rfl) (lb rfl) (ok_F_X6_notes hq) ?_
        refine pr_aload_n dX6_closesSums_46 rfl ?_
        refine pr_aload_n dX6_closesSums_47 rfl ?_
        obtain ⟨v15, hv15, hF⟩ := po_b hF
        refine pr_getI dX6_closesSums_48 tf_6_153 (hv15) ?_
        refine pr_iconst (v := 1) dX6_closesSums_51 (kc_1) ?_
        refine pr_isub dX6_closesSums_52 ?_
        obtain ⟨h16, hh16, hF⟩ := po_b hF
        refine pr_put dX6_closesSums_53 tp_6_153 (hh16) ?_
        refine pr_goto (tgt := 0) dX6_closesSums_56 (by decide) ?_
        exact ih hF hr
def F_X6_closesSums (n : Nat) (h : pm_H) (a0 : Nat) (x1 : Int32) : Option (pm_H) :=
  (L_X6_closesSums_0 n a0 x1 h).bind fun q27 =>
  some q27
theorem ok_F_X6_closesSums {d n : Nat} {h : pm_H} {a0 : Nat} {x1 : Int32} {q : pm_H} (hF : F_X6_closesSums n h a0 x1 = some q) : pm_E (d + 1) 6 cX6_closesSums (none) 0 [.ref a0, .int x1] [] h (none, q) := by
  unfold F_X6_closesSums at hF
  obtain ⟨q27, hq27, hF⟩ := po_b hF
  cases hF
  exact ok_L_X6_closesSums_0 n hq27 rfl

def L_X6_hasOpenSum_2 : Nat → Nat → Int32 → pm_H → Option ((Int32) ⊕ (Unit))
  | 0, _, _, _ => none
  | n + 1, x0, x2, h =>
    (pm_fI [(5, 19)] h x0).bind fun v1 =>
    if x2 < v1 then
      (pm_fR [(5, 23)] h x0).bind fun v2 =>
      (pm_ai 0 h v2 x2).bind fun v3 =>
      if (v3 / 1048576) = 14 then
        some (.inl 1)
      else
        L_X6_hasOpenSum_2 n x0 (x2 + 1) h
    else
      some (.inr ())
theorem ok_L_X6_hasOpenSum_2 {d : Nat} : ∀ (n : Nat) {x0 : Nat} {x2 : Int32} {w1 : Value} {h : pm_H} {q : (Int32) ⊕ (Unit)} {res : Option Value × pm_H}, L_X6_hasOpenSum_2 n x0 x2 h = some q → pm_nolong w1 = true → (∀ r, q = .inl r → res = (some (.int r), h)) → (∀ e, q = .inr e → ∀ z2 : Value, pm_nolong z2 = true → pm_E (d + 0) 6 cX6_hasOpenSum (some .boolean) 32 [.ref x0, w1, z2] [] h res) → pm_E (d + 0) 6 cX6_hasOpenSum (some .boolean) 2 [.ref x0, w1, .int x2] [] h res := by
  intro n
  induction n with
  | zero =>
    intro x0 x2 w1 h q res hF hw1 hr hk
    rw [L_X6_hasOpenSum_2] at hF
    cases hF
  | succ n ih =>
    intro x0 x2 w1 h q res hF hw1 hr hk
    rw [L_X6_hasOpenSum_2] at hF
    refine pr_iload_n dX6_hasOpenSum_2 rfl ?_
    refine pr_aload_n dX6_hasOpenSum_3 rfl ?_
    obtain ⟨v1, hv1, hF⟩ := po_b hF
    refine pr_getI dX6_hasOpenSum_4 tf_6_153 (hv1) ?_
    refine po_i hF (fun hc hF => ?_) (fun hc hF => ?_)
    · refine pr_icF (tgt := 32) dX6_hasOpenSum_7 (by decide) (pc_geF hc) ?_
      refine pr_aload_n dX6_hasOpenSum_10 rfl ?_
      obtain ⟨v2, hv2, hF⟩ := po_b hF
      refine pr_getR dX6_hasOpenSum_11 tf_6_38 (hv2) ?_
      refine pr_iload_n dX6_hasOpenSum_14 rfl ?_
      obtain ⟨v3, hv3, hF⟩ := po_b hF
      refine pr_iald dX6_hasOpenSum_15 (hv3) ?_
      refine pr_ldc (v := 1048576) dX6_hasOpenSum_16 rfl ?_
      refine pr_idiv dX6_hasOpenSum_18 (by decide) ?_
      refine pr_bipush (v := 14) dX6_hasOpenSum_19 (kb_14) ?_
      refine po_i hF (fun hc hF => ?_) (fun hc hF => ?_)
      · refine pr_icF (tgt := 26) dX6_hasOpenSum_21 (by decide) (pc_neF hc) ?_
        refine pr_iconst (v := 1) dX6_hasOpenSum_24 (kc_1) ?_
        cases hF
        exact pr_iret dX6_hasOpenSum_25 rfl nb_1 (hr _ rfl)
      · refine pr_icT (tgt := 26) dX6_hasOpenSum_21 (by decide) (pc_neT hc) ?_
        refine pr_iinc (v := 1) (L' := [.ref x0, w1, .int (x2 + 1)]) dX6_hasOpenSum_26 rfl (kc_1) (pm_st_w (i := 1) rfl rfl hw1 rfl) ?_
        refine pr_goto (tgt := 2) dX6_hasOpenSum_29 (by decide) ?_
        exact ih hF hw1 hr hk
    · refine pr_icT (tgt := 32) dX6_hasOpenSum_7 (by decide) (pc_geT hc) ?_
      cases hF
      exact hk _ rfl _ rfl
def F_X6_hasOpenSum (n : Nat) (h : pm_H) (a0 : Nat) (x1 : Int32) : Option (Int32) :=
  (L_X6_hasOpenSum_2 n a0 x1 h).bind fun q4 => po_s q4 (fun r => some r) fun e5 =>
  some 0
theorem ok_F_X6_hasOpenSum {d n : Nat} {h : pm_H} {a0 : Nat} {x1 : Int32} {q : Int32} (hF : F_X6_hasOpenSum n h a0 x1 = some q) : pm_E (d + 0) 6 cX6_hasOpenSum (some .boolean) 0 [.ref a0, .int x1, pm_D] [] h (some (.int q), h) := by
  unfold F_X6_hasOpenSum at hF
  refine pr_iload_n dX6_hasOpenSum_0 rfl ?_
  refine pr_istore_n (L' := [.ref a0, .int x1, .int x1]) dX6_hasOpenSum_1 rfl ?_
  obtain ⟨q4, hq4, hF⟩ := po_b hF
  refine ok_L_X6_hasOpenSum_2 n hq4 rfl (fun r hq => ?_) (fun e5 hq z2 hz2 => ?_)
  · subst hq
    replace hF := po_sl hF
    cases hF
    exact rfl
  subst hq
  replace hF := po_sr hF
  refine pr_iconst (v := 0) dX6_hasOpenSum_32 (kc_0) ?_
  cases hF
  exact pr_iret dX6_hasOpenSum_33 rfl nb_0 rfl

def L_X6_readsSum_14 : Nat → Nat → Int32 → pm_H → Option ((Int32 × pm_H) ⊕ (pm_H))
  | 0, _, _, _ => none
  | n + 1, x0, x1, h =>
    (if pm_cl_ h x0 = some 5 then F_X6_here h x0 else none).bind fun q3 =>
    (F_X6_sumSign q3).bind fun q4 =>
    if q4 = (-1) then
      (if pm_cl_ h x0 = some 5 then F_X6_here h x0 else none).bind fun q5 =>
      if q5 = 93 then
        (if pm_cl_ h x0 = some 5 then F_X6_hasOpenSum n h x0 x1 else none).bind fun q6 =>
        if q6 = 0 then
          some (.inr h)
        else
          (if pm_cl_ h x0 = some 5 then F_X6_closesSums n h x0 1 else none).bind fun q7 =>
          (pm_fI [(5, 19)] q7 x0).bind fun v8 =>
          (pm_put [(5, 19, 0)] q7 x0 (.int (v8 - 1))).bind fun h9 =>
          (pm_fI [(5, 17)] h9 x0).bind fun v10 =>
          (pm_put [(5, 17, 0)] h9 x0 (.int (v10 - 1))).bind fun h11 =>
          (pm_fI [(5, 13)] h11 x0).bind fun v12 =>
          (pm_put [(5, 13, 0)] h11 x0 (.int (v12 + 1))).bind fun h13 =>
          L_X6_readsSum_14 n x0 x1 h13
      else
        some (.inr h)
    else
      ((
        if q4 < 4 then
          some 1
        else
          some 0
      ) : Option (Int32)).bind fun q14 =>
      (if pm_cl_ h x0 = some 5 then F_X6_closesSums n h x0 q14 else none).bind fun q15 =>
      (pm_fR [(5, 23)] q15 x0).bind fun v16 =>
      (pm_fI [(5, 19)] q15 x0).bind fun v17 =>
      (pm_si 0 q15 v16 v17 (1048576 * q4)).bind fun h18 =>
      (pm_fI [(5, 19)] h18 x0).bind fun v19 =>
      (pm_put [(5, 19, 0)] h18 x0 (.int (v19 + 1))).bind fun h20 =>
      (pm_fI [(5, 13)] h20 x0).bind fun v21 =>
      (pm_put [(5, 13, 0)] h20 x0 (.int (v21 + 1))).bind fun h22 =>
      (if pm_cl_ h22 x0 = some 5 then F_X6_readsFactor n h22 x0 else none).bind fun q23 =>
      if q23.1 = 0 then
        some (.inl (0, q23.2))
      else
        L_X6_readsSum_14 n x0 x1 q23.2
theorem ok_L_X6_readsSum_14 {d : Nat} : ∀ (n : Nat) {x0 : Nat} {x1 : Int32} {w2 : Value} {h : pm_H} {q : (Int32 × pm_H) ⊕ (pm_H)} {res : Option Value × pm_H}, L_X6_readsSum_14 n x0 x1 h = some q → pm_nolong w2 = true → (∀ r, q = .inl r → res = (some (.int r.1), r.2)) → (∀ e, q = .inr e → ∀ z2 : Value, pm_nolong z2 = true → pm_E (d + 4) 6 cX6_readsSum (some .boolean) 138 [.ref x0, .int x1, z2] [] e res) → pm_E (d + 4) 6 cX6_readsSum (some .boolean) 14 [.ref x0, .int x1, w2] [] h res := by
  intro n
  induction n with
  | zero =>
    intro x0 x1 w2 h q res hF hw2 hr hk
    rw [L_X6_readsSum_14] at hF
    cases hF
  | succ n ih =>
    intro x0 x1 w2 h q res hF hw2 hr hk
    rw [L_X6_readsSum_14] at hF
    refine pr_aload_n dX6_readsSum_14 rfl ?_
    obtain ⟨q3, hq3, hF⟩ := po_b hF
    refine po_i hq3 (fun hcl hq => ?_) (fun _ hq => nomatch hq)
    refine pr_V (as := []) (rest := []) dX6_readsSum_15 cv_6_129 hcl rfl rfl rfl rfl (lb rfl) (lb rfl) (lb rfl) (ok_F_X6_here hq) ?_
    obtain ⟨q4, hq4, hF⟩ := po_b hF
    refine pr_S dX6_readsSum_18 cs_6_176 (as := [.int q3]) (rest := []) rfl rfl rfl (lb rfl) (lb rfl) (lb rfl) (ok_F_X6_sumSign hq4) ?_
    refine pr_istore_n (L' := [.ref x0, .int x1, .int q4]) dX6_readsSum_21 rfl ?_
    refine pr_iload_n dX6_readsSum_22 rfl ?_
    refine pr_iconst (v := (-1)) dX6_readsSum_23 (kc_m1) ?_
    refine po_i hF (fun hc hF => ?_) (fun hc hF => ?_)
    · refine pr_icT (tgt := 83) dX6_readsSum_24 (by decide) (pc_eqT hc) ?_
      refine pr_aload_n dX6_readsSum_83 rfl ?_
      obtain ⟨q5, hq5, hF⟩ := po_b hF
      refine po_i hq5 (fun hcl hq => ?_) (fun _ hq => nomatch hq)
      refine pr_V (as := []) (rest := []) dX6_readsSum_84 cv_6_129 hcl rfl rfl rfl rfl (lb rfl) (lb rfl) (lb rfl) (ok_F_X6_here hq) ?_
      refine pr_bipush (v := 93) dX6_readsSum_87 (kb_93) ?_
      refine po_i hF (fun hc hF => ?_) (fun hc hF => ?_)
      · refine pr_icF (tgt := 138) dX6_readsSum_89 (by decide) (pc_neF hc) ?_
        refine pr_aload_n dX6_readsSum_92 rfl ?_
        refine pr_iload_n dX6_readsSum_93 rfl ?_
        obtain ⟨q6, hq6, hF⟩ := po_b hF
        refine po_i hq6 (fun hcl hq => ?_) (fun _ hq => nomatch hq)
        refine pr_V (as := [.int x1]) (rest := []) dX6_readsSum_94 cv_6_183 hcl rfl rfl rfl rfl (lb rfl) (lb rfl) (lb rfl) (ok_F_X6_hasOpenSum hq) ?_
        refine po_i hF (fun hc hF => ?_) (fun hc hF => ?_)
        · refine pr_ifT (tgt := 138) dX6_readsSum_97 (by decide) (pc_eqT hc) ?_
          cases hF
          exact hk _ rfl _ rfl
        · refine pr_ifF (tgt := 138) dX6_readsSum_97 (by decide) (pc_eqF hc) ?_
          refine pr_aload_n dX6_readsSum_100 rfl ?_
          refine pr_iconst (v := 1) dX6_readsSum_101 (kc_1) ?_
          obtain ⟨q7, hq7, hF⟩ := po_b hF
          refine po_i hq7 (fun hcl hq => ?_) (fun _ hq => nomatch hq)
          refine pr_V (as := [.int 1]) (rest := []) dX6_readsSum_102 cv_6_179 hcl rfl rfl rfl rfl (lb rfl) (lb rfl) (lb rfl) (ok_F_X6_closesSums hq) ?_
          refine pr_aload_n dX6_readsSum_105 rfl ?_
          refine pr_aload_n dX6_readsSum_106 rfl ?_
          obtain ⟨v8, hv8, hF⟩ := po_b hF
          refine pr_getI dX6_readsSum_107 tf_6_153 (hv8) ?_
          refine pr_iconst (v := 1) dX6_readsSum_110 (kc_1) ?_
          refine pr_isub dX6_readsSum_111 ?_
          obtain ⟨h9, hh9, hF⟩ := po_b hF
          refine pr_put dX6_readsSum_112 tp_6_153 (hh9) ?_
          refine pr_aload_n dX6_readsSum_115 rfl ?_
          refine pr_aload_n dX6_readsSum_116 rfl ?_
          obtain ⟨v10, hv10, hF⟩ := po_b hF
          refine pr_getI dX6_readsSum_117 tf_6_150 (hv10) ?_
          refine pr_iconst (v := 1) dX6_readsSum_120 (kc_1) ?_
          refine pr_isub dX6_readsSum_121 ?_
          obtain ⟨h11, hh11, hF⟩ := po_b hF
          refine pr_put dX6_readsSum_122 tp_6_150 (hh11) ?_
          refine pr_aload_n dX6_readsSum_125 rfl ?_
          refine pr_aload_n dX6_readsSum_126 rfl ?_
          obtain ⟨v12, hv12, hF⟩ := po_b hF
          refine pr_getI dX6_readsSum_127 tf_6_123 (hv12) ?_
          refine pr_iconst (v := 1) dX6_readsSum_130 (kc_1) ?_
          refine pr_iadd dX6_readsSum_131 ?_
          obtain ⟨h13, hh13, hF⟩ := po_b hF
          refine pr_put dX6_readsSum_132 tp_6_123 (hh13) ?_
          refine pr_goto (tgt := 163) dX6_readsSum_135 (by decide) ?_
          refine pr_goto (tgt := 14) dX6_readsSum_163 (by decide) ?_
          exact ih hF rfl hr hk
      · refine pr_icT (tgt := 138) dX6_readsSum_89 (by decide) (pc_neT hc) ?_
        cases hF
        exact hk _ rfl _ rfl
    · refine pr_icF (tgt := 83) dX6_readsSum_24 (by decide) (pc_eqF hc) ?_
      refine pr_aload_n dX6_readsSum_27 rfl ?_
      refine pr_iload_n dX6_readsSum_28 rfl ?_
      refine pr_iconst (v := 4) dX6_readsSum_29 (kc_4) ?_
      obtain ⟨q14, hq14, hF⟩ := po_b hF
      have J38 : pm_E (d + 4) 6 cX6_readsSum (some .boolean) 38 [.ref x0, .int x1, .int q4] [.int q14, .ref x0] h res := by
        obtain ⟨q15, hq15, hF⟩ := po_b hF
        refine po_i hq15 (fun hcl hq => ?_) (fun _ hq => nomatch hq)
        refine pr_V (as := [.int q14]) (rest := []) dX6_readsSum_38 cv_6_179 hcl rfl rfl rfl rfl (lb rfl) (lb rfl) (lb rfl) (ok_F_X6_closesSums hq) ?_
        refine pr_aload_n dX6_readsSum_41 rfl ?_
        obtain ⟨v16, hv16, hF⟩ := po_b hF
        refine pr_getR dX6_readsSum_42 tf_6_38 (hv16) ?_
        refine pr_aload_n dX6_readsSum_45 rfl ?_
        obtain ⟨v17, hv17, hF⟩ := po_b hF
        refine pr_getI dX6_readsSum_46 tf_6_153 (hv17) ?_
        refine pr_ldc (v := 1048576) dX6_readsSum_49 rfl ?_
        refine pr_iload_n dX6_readsSum_51 rfl ?_
        refine pr_imul dX6_readsSum_52 ?_
        obtain ⟨h18, hh18, hF⟩ := po_b hF
        refine pr_iast dX6_readsSum_53 (hh18) ?_
        refine pr_aload_n dX6_readsSum_54 rfl ?_
        refine pr_aload_n dX6_readsSum_55 rfl ?_
        obtain ⟨v19, hv19, hF⟩ := po_b hF
        refine pr_getI dX6_readsSum_56 tf_6_153 (hv19) ?_
        refine pr_iconst (v := 1) dX6_readsSum_59 (kc_1) ?_
        refine pr_iadd dX6_readsSum_60 ?_
        obtain ⟨h20, hh20, hF⟩ := po_b hF
        refine pr_put dX6_readsSum_61 tp_6_153 (hh20) ?_
        refine pr_aload_n dX6_readsSum_64 rfl ?_
        refine pr_aload_n dX6_readsSum_65 rfl ?_
        obtain ⟨v21, hv21, hF⟩ := po_b hF
        refine pr_getI dX6_readsSum_66 tf_6_123 (hv21) ?_
        refine pr_iconst (v := 1) dX6_readsSum_69 (kc_1) ?_
        refine pr_iadd dX6_readsSum_70 ?_
        obtain ⟨h22, hh22, hF⟩ := po_b hF
        refine pr_put dX6_readsSum_71 tp_6_123 (hh22) ?_
        refine pr_aload_n dX6_readsSum_74 rfl ?_
        obtain ⟨q23, hq23, hF⟩ := po_b hF
        refine po_i hq23 (fun hcl hq => ?_) (fun _ hq => nomatch hq)
        refine pr_V (as := []) (rest := []) dX6_readsSum_75 cv_6_173 hcl rfl rfl rfl rfl (lb rfl) (lb rfl) (lb rfl) (ok_F_X6_readsFactor hq) ?_
        refine po_i hF (fun hc hF => ?_) (fun hc hF => ?_)
        · refine pr_ifF (tgt := 163) dX6_readsSum_78 (by decide) (pc_neF hc) ?_
          refine pr_iconst (v := 0) dX6_readsSum_81 (kc_0) ?_
          cases hF
          exact pr_iret dX6_readsSum_82 rfl nb_0 (hr _ rfl)
        · refine pr_ifT (tgt := 163) dX6_readsSum_78 (by decide) (pc_neT hc) ?_
          refine pr_goto (tgt := 14) dX6_readsSum_163 (by decide) ?_
          exact ih hF rfl hr hk
      clear hF
      have hF := hq14
      refine po_i hF (fun hc hF => ?_) (fun hc hF => ?_)
      · refine pr_icF (tgt := 37) dX6_readsSum_30 (by decide) (pc_geF hc) ?_
        refine pr_iconst (v := 1) dX6_readsSum_33 (kc_1) ?_
        refine pr_goto (tgt := 38) dX6_readsSum_34 (by decide) ?_
        cases hF
        exact J38
      · refine pr_icT (tgt := 37) dX6_readsSum_30 (by decide) (pc_geT hc) ?_
        refine pr_iconst (v := 0) dX6_readsSum_37 (kc_0) ?_
        cases hF
        exact J38
def F_X6_readsSum (n : Nat) (h : pm_H) (a0 : Nat) : Option (Int32 × pm_H) :=
  (pm_fI [(5, 19)] h a0).bind fun v1 =>
  (if pm_cl_ h a0 = some 5 then F_X6_readsFactor n h a0 else none).bind fun q2 =>
  if q2.1 = 0 then
    some (0, q2.2)
  else
    (L_X6_readsSum_14 n a0 v1 q2.2).bind fun q24 => po_s q24 (fun r => some r) fun e25 =>
    (if pm_cl_ e25 a0 = some 5 then F_X6_hasOpenSum n e25 a0 v1 else none).bind fun q26 =>
    if q26 = 0 then
      (if pm_cl_ e25 a0 = some 5 then F_X6_closesSums n e25 a0 1 else none).bind fun q27 =>
      some (1, q27)
    else
      (pm_fI [(5, 13)] e25 a0).bind fun v28 =>
      (if pm_cl_ e25 a0 = some 5 then F_X6_wrongAt e25 a0 1 v28 else none).bind fun q29 =>
      if q29.1 = 0 ∨ q29.1 = 1 then
        some (q29.1, q29.2)
      else none
theorem ok_F_X6_readsSum {d n : Nat} {h : pm_H} {a0 : Nat} {q : Int32 × pm_H} (hF : F_X6_readsSum n h a0 = some q) : pm_E (d + 4) 6 cX6_readsSum (some .boolean) 0 [.ref a0, pm_D, pm_D] [] h (some (.int q.1), q.2) := by
  unfold F_X6_readsSum at hF
  refine pr_aload_n dX6_readsSum_0 rfl ?_
  obtain ⟨v1, hv1, hF⟩ := po_b hF
  refine pr_getI dX6_readsSum_1 tf_6_153 (hv1) ?_
  refine pr_istore_n (L' := [.ref a0, .int v1, pm_D]) dX6_readsSum_4 rfl ?_
  refine pr_aload_n dX6_readsSum_5 rfl ?_
  obtain ⟨q2, hq2, hF⟩ := po_b hF
  refine po_i hq2 (fun hcl hq => ?_) (fun _ hq => nomatch hq)
  refine pr_V (as := []) (rest := []) dX6_readsSum_6 cv_6_173 hcl rfl rfl rfl rfl (lb rfl) (lb rfl) (lb rfl) (ok_F_X6_readsFactor hq) ?_
  refine po_i hF (fun hc hF => ?_) (fun hc hF => ?_)
  · refine pr_ifF (tgt := 14) dX6_readsSum_9 (by decide) (pc_neF hc) ?_
    refine pr_iconst (v := 0) dX6_readsSum_12 (kc_0) ?_
    cases hF
    exact pr_iret dX6_readsSum_13 rfl nb_0 rfl
  · refine pr_ifT (tgt := 14) dX6_readsSum_9 (by decide) (pc_neT hc) ?_
    obtain ⟨q24, hq24, hF⟩ := po_b hF
    refine ok_L_X6_readsSum_14 n hq24 rfl (fun r hq => ?_) (fun e25 hq z2 hz2 => ?_)
    · subst hq
      replace hF := po_sl hF
      cases hF
      exact rfl
    subst hq
    replace hF := po_sr hF
    refine pr_aload_n dX6_readsSum_138 rfl ?_
    refine pr_iload_n dX6_readsSum_139 rfl ?_
    obtain ⟨q26, hq26, hF⟩ := po_b hF
    refine po_i hq26 (fun hcl hq => ?_) (fun _ hq => nomatch hq)
    refine pr_V (as := [.int v1]) (rest := []) dX6_readsSum_140 cv_6_183 hcl rfl rfl rfl rfl (lb rfl) (lb rfl) (lb rfl) (ok_F_X6_hasOpenSum hq) ?_
    refine po_i hF (fun hc hF => ?_) (fun hc hF => ?_)
    · refine pr_ifT (tgt := 156) dX6_readsSum_143 (by decide) (pc_eqT hc) ?_
      refine pr_aload_n dX6_readsSum_156 rfl ?_
      refine pr_iconst (v := 1) dX6_readsSum_157 (kc_1) ?_
      obtain ⟨q27, hq27, hF⟩ := po_b hF
      refine po_i hq27 (fun hcl hq => ?_) (fun _ hq => nomatch hq)
      refine pr_V (as := [.int 1]) (rest := []) dX6_readsSum_158 cv_6_179 hcl rfl rfl rfl rfl (lb rfl) (lb rfl) (lb rfl) (ok_F_X6_closesSums hq) ?_
      refine pr_iconst (v := 1) dX6_readsSum_161 (kc_1) ?_
      cases hF
      exact pr_iret dX6_readsSum_162 rfl nb_1 rfl
    · refine pr_ifF (tgt := 156) dX6_readsSum_143 (by decide) (pc_eqF hc) ?_
      refine pr_aload_n dX6_readsSum_146 rfl ?_
      refine pr_iconst (v := 1) dX6_readsSum_147 (kc_1) ?_
      refine pr_aload_n dX6_readsSum_148 rfl ?_
      obtain ⟨v28, hv28, hF⟩ := po_b hF
      refine pr_getI dX6_readsSum_149 tf_6_123 (hv28) ?_
      obtain ⟨q29, hq29, hF⟩ := po_b hF
      refine po_i hq29 (fun hcl hq => ?_) (fun _ hq => nomatch hq)
      refine pr_V (as := [.int 1, .int v28]) (rest := []) dX6_readsSum_152 cv_6_136 hcl rfl rfl rfl rfl (lb rfl) (lb rfl) (lb rfl) (ok_F_X6_wrongAt hq) ?_
      refine po_i hF (fun hg hF => ?_) (fun _ hF => nomatch hF)
      cases hF
      exact pr_iret dX6_readsSum_155 rfl (nb_of hg) rfl

def L_X6_endsPiece_0 : Nat → Nat → pm_H → Option (pm_H)
  | 0, _, _ => none
  | n + 1, x0, h =>
    (if pm_cl_ h x0 = some 5 then F_X6_waitTop h x0 else none).bind fun q1 =>
    if q1 = 10 then
      (if pm_cl_ h x0 = some 5 then F_X6_notes h x0 10 0 else none).bind fun q2 =>
      (pm_fI [(5, 19)] q2 x0).bind fun v3 =>
      (pm_put [(5, 19, 0)] q2 x0 (.int (v3 - 1))).bind fun h4 =>
      (pm_fI [(5, 17)] h4 x0).bind fun v5 =>
      (pm_put [(5, 17, 0)] h4 x0 (.int (v5 - 1))).bind fun h6 =>
      L_X6_endsPiece_0 n x0 h6
    else
      some h
theorem ok_L_X6_endsPiece_0 {d : Nat} : ∀ (n : Nat) {x0 : Nat} {h : pm_H} {q : pm_H} {res : Option Value × pm_H}, L_X6_endsPiece_0 n x0 h = some q → (pm_E (d + 1) 6 cX6_endsPiece (none) 39 [.ref x0] [] q res) → pm_E (d + 1) 6 cX6_endsPiece (none) 0 [.ref x0] [] h res := by
  intro n
  induction n with
  | zero =>
    intro x0 h q res hF hk
    rw [L_X6_endsPiece_0] at hF
    cases hF
  | succ n ih =>
    intro x0 h q res hF hk
    rw [L_X6_endsPiece_0] at hF
    refine pr_aload_n dX6_endsPiece_0 rfl ?_
    obtain ⟨q1, hq1, hF⟩ := po_b hF
    refine po_i hq1 (fun hcl hq => ?_) (fun _ hq => nomatch hq)
    refine pr_V (as := []) (rest := []) dX6_endsPiece_1 cv_6_156 hcl rfl rfl rfl rfl (lb rfl) (lb rfl) (lb rfl) (ok_F_X6_waitTop hq) ?_
    refine pr_bipush (v := 10) dX6_endsPiece_4 (kb_10) ?_
    refine po_i hF (fun hc hF => ?_) (fun hc hF => ?_)
    · refine pr_icF (tgt := 39) dX6_endsPiece_6 (by decide) (pc_neF hc) ?_
      refine pr_aload_n dX6_endsPiece_9 rfl ?_
      refine pr_bipush (v := 10) dX6_endsPiece_10 (kb_10) ?_
      refine pr_iconst (v := 0) dX6_endsPiece_12 (kc_0) ?_
      obtain ⟨q2, hq2, hF⟩ := po_b hF
      refine po_i hq2 (fun hcl hq => ?_) (fun _ hq => nomatch hq)
      refine pr_V (as := [.int 10, .int 0]) (rest := []) dX6_endsPiece_13 cv_6_159 hcl rfl rfl rfl rfl (lb rfl) (lb rfl) (lb rfl) (ok_F_X6_notes hq) ?_
      refine pr_aload_n dX6_endsPiece_16 rfl ?_
      refine pr_aload_n dX6_endsPiece_17 rfl ?_
      obtain ⟨v3, hv3, hF⟩ := po_b hF
      refine pr_getI dX6_endsPiece_18 tf_6_153 (hv3) ?_
      refine pr_iconst (v := 1) dX6_endsPiece_21 (kc_1) ?_
      refine pr_isub dX6_endsPiece_22 ?_
      obtain ⟨h4, hh4, hF⟩ := po_b hF
      refine pr_put dX6_endsPiece_23 tp_6_153 (hh4) ?_
      refine pr_aload_n dX6_endsPiece_26 rfl ?_
      refine pr_aload_n dX6_endsPiece_27 rfl ?_
      obtain ⟨v5, hv5, hF⟩ := po_b hF
      refine pr_getI dX6_endsPiece_28 tf_6_150 (hv5) ?_
      refine pr_iconst (v := 1) dX6_endsPiece_31 (kc_1) ?_
      refine pr_isub dX6_endsPiece_32 ?_
      obtain ⟨h6, hh6, hF⟩ := po_b hF
      refine pr_put dX6_endsPiece_33 tp_6_150 (hh6) ?_
      refine pr_goto (tgt := 0) dX6_endsPiece_36 (by decide) ?_
      exact ih hF hk
    · refine pr_icT (tgt := 39) dX6_endsPiece_6 (by decide) (pc_neT hc) ?_
      cases hF
      exact hk
def F_X6_endsPiece (n : Nat) (h : pm_H) (a0 : Nat) : Option (pm_H) :=
  (L_X6_endsPiece_0 n a0 h).bind fun q7 =>
  some q7
theorem ok_F_X6_endsPiece {d n : Nat} {h : pm_H} {a0 : Nat} {q : pm_H} (hF : F_X6_endsPiece n h a0 = some q) : pm_E (d + 1) 6 cX6_endsPiece (none) 0 [.ref a0] [] h (none, q) := by
  unfold F_X6_endsPiece at hF
  obtain ⟨q7, hq7, hF⟩ := po_b hF
  refine ok_L_X6_endsPiece_0 n hq7 ?_
  cases hF
  exact pr_vret dX6_endsPiece_39 rfl rfl

def F_X6_readsCompared (n : Nat) (h : pm_H) (a0 : Nat) : Option (Int32 × pm_H) :=
  (if pm_cl_ h a0 = some 5 then F_X6_readsSum n h a0 else none).bind fun q1 =>
  if q1.1 = 0 then
    some (0, q1.2)
  else
    (if pm_cl_ q1.2 a0 = some 5 then F_X6_here q1.2 a0 else none).bind fun q2 =>
    ((
      if q2 = 60 then
        some 7
      else
        (if pm_cl_ q1.2 a0 = some 5 then F_X6_here q1.2 a0 else none).bind fun q3 =>
        if q3 = 62 then
          some 8
        else
          (if pm_cl_ q1.2 a0 = some 5 then F_X6_here q1.2 a0 else none).bind fun q4 =>
          if q4 = 61 then
            some 9
          else
            some (-1)
    ) : Option (Int32)).bind fun q5 =>
    if q5 = (-1) then
      (pm_fI [(5, 13)] q1.2 a0).bind fun v11 =>
      (if pm_cl_ q1.2 a0 = some 5 then F_X6_wrongAt q1.2 a0 1 v11 else none).bind fun q12 =>
      if q12.1 = 0 ∨ q12.1 = 1 then
        some (q12.1, q12.2)
      else none
    else
      (pm_fI [(5, 13)] q1.2 a0).bind fun v6 =>
      (pm_put [(5, 13, 0)] q1.2 a0 (.int (v6 + 1))).bind fun h7 =>
      (if pm_cl_ h7 a0 = some 5 then F_X6_readsSum n h7 a0 else none).bind fun q8 =>
      if q8.1 = 0 then
        some (0, q8.2)
      else
        (if pm_cl_ q8.2 a0 = some 5 then F_X6_notes q8.2 a0 q5 0 else none).bind fun q9 =>
        (if pm_cl_ q9 a0 = some 5 then F_X6_endsPiece n q9 a0 else none).bind fun q10 =>
        some (1, q10)
theorem ok_F_X6_readsCompared {d n : Nat} {h : pm_H} {a0 : Nat} {q : Int32 × pm_H} (hF : F_X6_readsCompared n h a0 = some q) : pm_E (d + 5) 6 cX6_readsCompared (some .boolean) 0 [.ref a0, pm_D] [] h (some (.int q.1), q.2) := by
  unfold F_X6_readsCompared at hF
  refine pr_aload_n dX6_readsCompared_0 rfl ?_
  obtain ⟨q1, hq1, hF⟩ := po_b hF
  refine po_i hq1 (fun hcl hq => ?_) (fun _ hq => nomatch hq)
  refine pr_V (as := []) (rest := []) dX6_readsCompared_1 cv_6_186 hcl rfl rfl rfl rfl (lb rfl) (lb rfl) (lb rfl) (ok_F_X6_readsSum hq) ?_
  refine po_i hF (fun hc hF => ?_) (fun hc hF => ?_)
  · refine pr_ifF (tgt := 9) dX6_readsCompared_4 (by decide) (pc_neF hc) ?_
    refine pr_iconst (v := 0) dX6_readsCompared_7 (kc_0) ?_
    cases hF
    exact pr_iret dX6_readsCompared_8 rfl nb_0 rfl
  · refine pr_ifT (tgt := 9) dX6_readsCompared_4 (by decide) (pc_neT hc) ?_
    refine pr_aload_n dX6_readsCompared_9 rfl ?_
    obtain ⟨q2, hq2, hF⟩ := po_b hF
    refine po_i hq2 (fun hcl hq => ?_) (fun _ hq => nomatch hq)
    refine pr_V (as := []) (rest := []) dX6_readsCompared_10 cv_6_129 hcl rfl rfl rfl rfl (lb rfl) (lb rfl) (lb rfl) (ok_F_X6_here hq) ?_
    refine pr_bipush (v := 60) dX6_readsCompared_13 (kb_60) ?_
    obtain ⟨q5, hq5, hF⟩ := po_b hF
    have J52 : pm_E (d + 5) 6 cX6_readsCompared (some .boolean) 52 [.ref a0, pm_D] [.int q5] q1.2 (some (.int q.1), q.2) := by
      refine pr_istore_n (L' := [.ref a0, .int q5]) dX6_readsCompared_52 rfl ?_
      refine pr_iload_n dX6_readsCompared_53 rfl ?_
      refine pr_iconst (v := (-1)) dX6_readsCompared_54 (kc_m1) ?_
      refine po_i hF (fun hc hF => ?_) (fun hc hF => ?_)
      · refine pr_icF (tgt := 68) dX6_readsCompared_55 (by decide) (pc_neF hc) ?_
        refine pr_aload_n dX6_readsCompared_58 rfl ?_
        refine pr_iconst (v := 1) dX6_readsCompared_59 (kc_1) ?_
        refine pr_aload_n dX6_readsCompared_60 rfl ?_
        obtain ⟨v11, hv11, hF⟩ := po_b hF
        refine pr_getI dX6_readsCompared_61 tf_6_123 (hv11) ?_
        obtain ⟨q12, hq12, hF⟩ := po_b hF
        refine po_i hq12 (fun hcl hq => ?_) (fun _ hq => nomatch hq)
        refine pr_V (as := [.int 1, .int v11]) (rest := []) dX6_readsCompared_64 cv_6_136 hcl rfl rfl rfl rfl (lb rfl) (lb rfl) (lb rfl) (ok_F_X6_wrongAt hq) ?_
        refine po_i hF (fun hg hF => ?_) (fun _ hF => nomatch hF)
        cases hF
        exact pr_iret dX6_readsCompared_67 rfl (nb_of hg) rfl
      · refine pr_icT (tgt := 68) dX6_readsCompared_55 (by decide) (pc_neT hc) ?_
        refine pr_aload_n dX6_readsCompared_68 rfl ?_
        refine pr_aload_n dX6_readsCompared_69 rfl ?_
        obtain ⟨v6, hv6, hF⟩ := po_b hF
        refine pr_getI dX6_readsCompared_70 tf_6_123 (hv6) ?_
        refine pr_iconst (v := 1) dX6_readsCompared_73 (kc_1) ?_
        refine pr_iadd dX6_readsCompared_74 ?_
        obtain ⟨h7, hh7, hF⟩ := po_b hF
        refine pr_put dX6_readsCompared_75 tp_6_123 (hh7) ?_
        refine pr_aload_n dX6_readsCompared_78 rfl ?_
        obtain ⟨q8, hq8, hF⟩ := po_b hF
        refine po_i hq8 (fun hcl hq => ?_) (fun _ hq => nomatch hq)
        refine pr_V (as := []) (rest := []) dX6_readsCompared_79 cv_6_186 hcl rfl rfl rfl rfl (lb rfl) (lb rfl) (lb rfl) (ok_F_X6_readsSum hq) ?_
        refine po_i hF (fun hc hF => ?_) (fun hc hF => ?_)
        · refine pr_ifF (tgt := 87) dX6_readsCompared_82 (by decide) (pc_neF hc) ?_
          refine pr_iconst (v := 0) dX6_readsCompared_85 (kc_0) ?_
          cases hF
          exact pr_iret dX6_readsCompared_86 rfl nb_0 rfl
        · refine pr_ifT (tgt := 87) dX6_readsCompared_82 (by decide) (pc_neT hc) ?_
          refine pr_aload_n dX6_readsCompared_87 rfl ?_
          refine pr_iload_n dX6_readsCompared_88 rfl ?_
          refine pr_iconst (v := 0) dX6_readsCompared_89 (kc_0) ?_
          obtain ⟨q9, hq9, hF⟩ := po_b hF
          refine po_i hq9 (fun hcl hq => ?_) (fun _ hq => nomatch hq)
          refine pr_V (as := [.int q5, .int 0]) (rest := []) dX6_readsCompared_90 cv_6_159 hcl rfl rfl rfl rfl (lb rfl) (lb rfl) (lb rfl) (ok_F_X6_notes hq) ?_
          refine pr_aload_n dX6_readsCompared_93 rfl ?_
          obtain ⟨q10, hq10, hF⟩ := po_b hF
          refine po_i hq10 (fun hcl hq => ?_) (fun _ hq => nomatch hq)
          refine pr_V (as := []) (rest := []) dX6_readsCompared_94 cv_6_189 hcl rfl rfl rfl rfl (lb rfl) (lb rfl) (lb rfl) (ok_F_X6_endsPiece hq) ?_
          refine pr_iconst (v := 1) dX6_readsCompared_97 (kc_1) ?_
          cases hF
          exact pr_iret dX6_readsCompared_98 rfl nb_1 rfl
    clear hF
    have hF := hq5
    refine po_i hF (fun hc hF => ?_) (fun hc hF => ?_)
    · refine pr_icF (tgt := 23) dX6_readsCompared_15 (by decide) (pc_neF hc) ?_
      refine pr_bipush (v := 7) dX6_readsCompared_18 (kb_7) ?_
      refine pr_goto (tgt := 52) dX6_readsCompared_20 (by decide) ?_
      cases hF
      exact J52
    · refine pr_icT (tgt := 23) dX6_readsCompared_15 (by decide) (pc_neT hc) ?_
      refine pr_aload_n dX6_readsCompared_23 rfl ?_
      obtain ⟨q3, hq3, hF⟩ := po_b hF
      refine po_i hq3 (fun hcl hq => ?_) (fun _ hq => nomatch hq)
      refine pr_V (as := []) (rest := []) dX6_readsCompared_24 cv_6_129 hcl rfl rfl rfl rfl (lb rfl) (lb rfl) (lb rfl) (ok_F_X6_here hq) ?_
      refine pr_bipush (v := 62) dX6_readsCompared_27 (kb_62) ?_
      refine po_i hF (fun hc hF => ?_) (fun hc hF => ?_)
      · refine pr_icF (tgt := 37) dX6_readsCompared_29 (by decide) (pc_neF hc) ?_
        refine pr_bipush (v := 8) dX6_readsCompared_32 (kb_8) ?_
        refine pr_goto (tgt := 52) dX6_readsCompared_34 (by decide) ?_
        cases hF
        exact J52
      · refine pr_icT (tgt := 37) dX6_readsCompared_29 (by decide) (pc_neT hc) ?_
        refine pr_aload_n dX6_readsCompared_37 rfl ?_
        obtain ⟨q4, hq4, hF⟩ := po_b hF
        refine po_i hq4 (fun hcl hq => ?_) (fun _ hq => nomatch hq)
        refine pr_V (as := []) (rest := []) dX6_readsCompared_38 cv_6_129 hcl rfl rfl rfl rfl (lb rfl) (lb rfl) (lb rfl) (ok_F_X6_here hq) ?_
        refine pr_bipush (v := 61) dX6_readsCompared_41 (kb_61) ?_
        refine po_i hF (fun hc hF => ?_) (fun hc hF => ?_)
        · refine pr_icF (tgt := 51) dX6_readsCompared_43 (by decide) (pc_neF hc) ?_
          refine pr_bipush (v := 9) dX6_readsCompared_46 (kb_9) ?_
          refine pr_goto (tgt := 52) dX6_readsCompared_48 (by decide) ?_
          cases hF
          exact J52
        · refine pr_icT (tgt := 51) dX6_readsCompared_43 (by decide) (pc_neT hc) ?_
          refine pr_iconst (v := (-1)) dX6_readsCompared_51 (kc_m1) ?_
          cases hF
          exact J52

def L_X6_lands_0 : Nat → Nat → Int32 → pm_H → Option (pm_H)
  | 0, _, _, _ => none
  | n + 1, x0, x1, h =>
    (if pm_cl_ h x0 = some 5 then F_X6_waitTop h x0 else none).bind fun q1 =>
    if q1 = 11 then
      (pm_fR [(5, 23)] h x0).bind fun v2 =>
      (pm_fI [(5, 19)] h x0).bind fun v3 =>
      (pm_ai 0 h v2 (v3 - 1)).bind fun v4 =>
      (pm_fR [(5, 22)] h x0).bind fun v5 =>
      (pm_fR [(5, 22)] h x0).bind fun v6 =>
      (pm_ai 0 h v6 (pm_rem v4 1048576)).bind fun v7 =>
      (pm_fI [(5, 18)] h x0).bind fun v8 =>
      (pm_si 0 h v5 (pm_rem v4 1048576) ((1048576 * (v7 / 1048576)) + v8)).bind fun h9 =>
      (pm_fI [(5, 19)] h9 x0).bind fun v10 =>
      (pm_put [(5, 19, 0)] h9 x0 (.int (v10 - 1))).bind fun h11 =>
      L_X6_lands_0 n x0 x1 h11
    else
    if x1 = 0 then
      some h
    else
      (if pm_cl_ h x0 = some 5 then F_X6_waitTop h x0 else none).bind fun q12 =>
      if q12 = 12 then
        (pm_fR [(5, 23)] h x0).bind fun v13 =>
        (pm_fI [(5, 19)] h x0).bind fun v14 =>
        (pm_ai 0 h v13 (v14 - 1)).bind fun v15 =>
        (pm_fR [(5, 22)] h x0).bind fun v16 =>
        (pm_fR [(5, 22)] h x0).bind fun v17 =>
        (pm_ai 0 h v17 (pm_rem v15 1048576)).bind fun v18 =>
        (pm_fI [(5, 18)] h x0).bind fun v19 =>
        (pm_si 0 h v16 (pm_rem v15 1048576) ((1048576 * (v18 / 1048576)) + v19)).bind fun h20 =>
        (pm_fI [(5, 19)] h20 x0).bind fun v21 =>
        (pm_put [(5, 19, 0)] h20 x0 (.int (v21 - 1))).bind fun h22 =>
        L_X6_lands_0 n x0 x1 h22
      else
        some h
theorem ok_L_X6_lands_0 {d : Nat} : ∀ (n : Nat) {x0 : Nat} {x1 : Int32} {w2 : Value} {h : pm_H} {q : pm_H} {res : Option Value × pm_H}, L_X6_lands_0 n x0 x1 h = some q → pm_nolong w2 = true → (res = (none, q)) → pm_E (d + 1) 6 cX6_lands (none) 0 [.ref x0, .int x1, w2] [] h res := by
  intro n
  induction n with
  | zero =>
    intro x0 x1 w2 h q res hF hw2 hr
    rw [L_X6_lands_0] at hF
    cases hF
  | succ n ih =>
    intro x0 x1 w2 h q res hF hw2 hr
    rw [L_X6_lands_0] at hF
    refine pr_aload_n dX6_lands_0 rfl ?_
    obtain ⟨q1, hq1, hF⟩ := po_b hF
    refine po_i hq1 (fun hcl hq => ?_) (fun _ hq => nomatch hq)
    refine pr_V (as := []) (rest := []) dX6_lands_1 cv_6_156 hcl rfl rfl rfl rfl (lb rfl) (lb rfl) (lb rfl) (ok_F_X6_waitTop hq) ?_
    refine pr_bipush (v := 11) dX6_lands_4 (kb_11) ?_
    refine po_i hF (fun hc hF => ?_) (fun hc hF => ?_)
    · refine pr_icT (tgt := 22) dX6_lands_6 (by decide) (pc_eqT hc) ?_
      refine pr_aload_n dX6_lands_22 rfl ?_
      obtain ⟨v2, hv2, hF⟩ := po_b hF
      refine pr_getR dX6_lands_23 tf_6_38 (hv2) ?_
      refine pr_aload_n dX6_lands_26 rfl ?_
      obtain ⟨v3, hv3, hF⟩ := po_b hF
      refine pr_getI dX6_lands_27 tf_6_153 (hv3) ?_
      refine pr_iconst (v := 1) dX6_lands_30 (kc_1) ?_
      refine pr_isub dX6_lands_31 ?_
      obtain ⟨v4, hv4, hF⟩ := po_b hF
      refine pr_iald dX6_lands_32 (hv4) ?_
      refine pr_ldc (v := 1048576) dX6_lands_33 rfl ?_
      refine pr_irem dX6_lands_35 (by decide) ?_
      refine pr_istore_n (L' := [.ref x0, .int x1, .int (pm_rem v4 1048576)]) dX6_lands_36 rfl ?_
      refine pr_aload_n dX6_lands_37 rfl ?_
      obtain ⟨v5, hv5, hF⟩ := po_b hF
      refine pr_getR dX6_lands_38 tf_6_35 (hv5) ?_
      refine pr_iload_n dX6_lands_41 rfl ?_
      refine pr_ldc (v := 1048576) dX6_lands_42 rfl ?_
      refine pr_aload_n dX6_lands_44 rfl ?_
      obtain ⟨v6, hv6, hF⟩ := po_b hF
      refine pr_getR dX6_lands_45 tf_6_35 (hv6) ?_
      refine pr_iload_n dX6_lands_48 rfl ?_
      obtain ⟨v7, hv7, hF⟩ := po_b hF
      refine pr_iald dX6_lands_49 (hv7) ?_
      refine pr_ldc (v := 1048576) dX6_lands_50 rfl ?_
      refine pr_idiv dX6_lands_52 (by decide) ?_
      refine pr_imul dX6_lands_53 ?_
      refine pr_aload_n dX6_lands_54 rfl ?_
      obtain ⟨v8, hv8, hF⟩ := po_b hF
      refine pr_getI dX6_lands_55 tf_6_146 (hv8) ?_
      refine pr_iadd dX6_lands_58 ?_
      obtain ⟨h9, hh9, hF⟩ := po_b hF
      refine pr_iast dX6_lands_59 (hh9) ?_
      refine pr_aload_n dX6_lands_60 rfl ?_
      refine pr_aload_n dX6_lands_61 rfl ?_
      obtain ⟨v10, hv10, hF⟩ := po_b hF
      refine pr_getI dX6_lands_62 tf_6_153 (hv10) ?_
      refine pr_iconst (v := 1) dX6_lands_65 (kc_1) ?_
      refine pr_isub dX6_lands_66 ?_
      obtain ⟨h11, hh11, hF⟩ := po_b hF
      refine pr_put dX6_lands_67 tp_6_153 (hh11) ?_
      refine pr_goto (tgt := 0) dX6_lands_70 (by decide) ?_
      exact ih hF rfl hr
    · refine pr_icF (tgt := 22) dX6_lands_6 (by decide) (pc_eqF hc) ?_
      refine pr_iload_n dX6_lands_9 rfl ?_
      refine po_i hF (fun hc hF => ?_) (fun hc hF => ?_)
      · refine pr_ifT (tgt := 73) dX6_lands_10 (by decide) (pc_eqT hc) ?_
        cases hF
        exact pr_vret dX6_lands_73 rfl hr
      · refine pr_ifF (tgt := 73) dX6_lands_10 (by decide) (pc_eqF hc) ?_
        refine pr_aload_n dX6_lands_13 rfl ?_
        obtain ⟨q12, hq12, hF⟩ := po_b hF
        refine po_i hq12 (fun hcl hq => ?_) (fun _ hq => nomatch hq)
        refine pr_V (as := []) (rest := []) dX6_lands_14 cv_6_156 hcl rfl rfl rfl rfl (lb rfl) (lb rfl) (lb rfl) (ok_F_X6_waitTop hq) ?_
        refine pr_bipush (v := 12) dX6_lands_17 (kb_12) ?_
        refine po_i hF (fun hc hF => ?_) (fun hc hF => ?_)
        · refine pr_icF (tgt := 73) dX6_lands_19 (by decide) (pc_neF hc) ?_
          refine pr_aload_n dX6_lands_22 rfl ?_
          obtain ⟨v13, hv13, hF⟩ := po_b hF
          refine pr_getR dX6_lands_23 tf_6_38 (hv13) ?_
          refine pr_aload_n dX6_lands_26 rfl ?_
          obtain ⟨v14, hv14, hF⟩ := po_b hF
          refine pr_getI dX6_lands_27 tf_6_153 (hv14) ?_
          refine pr_iconst (v := 1) dX6_lands_30 (kc_1) ?_
          refine pr_isub dX6_lands_31 ?_
          obtain ⟨v15, hv15, hF⟩ := po_b hF
          refine pr_iald dX6_lands_32 (hv15) ?_
          refine pr_ldc (v := 1048576) dX6_lands_33 rfl ?_
          refine pr_irem dX6_lands_35 (by decide) ?_
          refine pr_istore_n (L' := [.ref x0, .int x1, .int (pm_rem v15 1048576)]) dX6_lands_36 rfl ?_
          refine pr_aload_n dX6_lands_37 rfl ?_
          obtain ⟨v16, hv16, hF⟩ := po_b hF
          refine pr_getR dX6_lands_38 tf_6_35 (hv16) ?_
          refine pr_iload_n dX6_lands_41 rfl ?_
          refine pr_ldc (v := 1048576) dX6_lands_42 rfl ?_
          refine pr_aload_n dX6_lands_44 rfl ?_
          obtain ⟨v17, hv17, hF⟩ := po_b hF
          refine pr_getR dX6_lands_45 tf_6_35 (hv17) ?_
          refine pr_iload_n dX6_lands_48 rfl ?_
          obtain ⟨v18, hv18, hF⟩ := po_b hF
          refine pr_iald dX6_lands_49 (hv18) ?_
          refine pr_ldc (v := 1048576) dX6_lands_50 rfl ?_
          refine pr_idiv dX6_lands_52 (by decide) ?_
          refine pr_imul dX6_lands_53 ?_
          refine pr_aload_n dX6_lands_54 rfl ?_
          obtain ⟨v19, hv19, hF⟩ := po_b hF
          refine pr_getI dX6_lands_55 tf_6_146 (hv19) ?_
          refine pr_iadd dX6_lands_58 ?_
          obtain ⟨h20, hh20, hF⟩ := po_b hF
          refine pr_iast dX6_lands_59 (hh20) ?_
          refine pr_aload_n dX6_lands_60 rfl ?_
          refine pr_aload_n dX6_lands_61 rfl ?_
          obtain ⟨v21, hv21, hF⟩ := po_b hF
          refine pr_getI dX6_lands_62 tf_6_153 (hv21) ?_
          refine pr_iconst (v := 1) dX6_lands_65 (kc_1) ?_
          refine pr_isub dX6_lands_66 ?_
          obtain ⟨h22, hh22, hF⟩ := po_b hF
          refine pr_put dX6_lands_67 tp_6_153 (hh22) ?_
          refine pr_goto (tgt := 0) dX6_lands_70 (by decide) ?_
          exact ih hF rfl hr
        · refine pr_icT (tgt := 73) dX6_lands_19 (by decide) (pc_neT hc) ?_
          cases hF
          exact pr_vret dX6_lands_73 rfl hr
def F_X6_lands (n : Nat) (h : pm_H) (a0 : Nat) (x1 : Int32) : Option (pm_H) :=
  (L_X6_lands_0 n a0 x1 h).bind fun q23 =>
  some q23
theorem ok_F_X6_lands {d n : Nat} {h : pm_H} {a0 : Nat} {x1 : Int32} {q : pm_H} (hF : F_X6_lands n h a0 x1 = some q) : pm_E (d + 1) 6 cX6_lands (none) 0 [.ref a0, .int x1, pm_D] [] h (none, q) := by
  unfold F_X6_lands at hF
  obtain ⟨q23, hq23, hF⟩ := po_b hF
  cases hF
  exact ok_L_X6_lands_0 n hq23 rfl rfl

def F_X6_jumps (h : pm_H) (a0 : Nat) (x1 : Int32) : Option (pm_H) :=
  (pm_fR [(5, 23)] h a0).bind fun v1 =>
  (pm_fI [(5, 19)] h a0).bind fun v2 =>
  (pm_fI [(5, 18)] h a0).bind fun v3 =>
  (pm_si 0 h v1 v2 ((1048576 * x1) + v3)).bind fun h4 =>
  (pm_fI [(5, 19)] h4 a0).bind fun v5 =>
  (pm_put [(5, 19, 0)] h4 a0 (.int (v5 + 1))).bind fun h6 =>
  (if pm_cl_ h6 a0 = some 5 then F_X6_notes h6 a0 x1 0 else none).bind fun q7 =>
  (pm_fI [(5, 13)] q7 a0).bind fun v8 =>
  (pm_put [(5, 13, 0)] q7 a0 (.int (v8 + 1))).bind fun h9 =>
  some h9
theorem ok_F_X6_jumps {d : Nat} {h : pm_H} {a0 : Nat} {x1 : Int32} {q : pm_H} (hF : F_X6_jumps h a0 x1 = some q) : pm_E (d + 1) 6 cX6_jumps (none) 0 [.ref a0, .int x1] [] h (none, q) := by
  unfold F_X6_jumps at hF
  refine pr_aload_n dX6_jumps_0 rfl ?_
  obtain ⟨v1, hv1, hF⟩ := po_b hF
  refine pr_getR dX6_jumps_1 tf_6_38 (hv1) ?_
  refine pr_aload_n dX6_jumps_4 rfl ?_
  obtain ⟨v2, hv2, hF⟩ := po_b hF
  refine pr_getI dX6_jumps_5 tf_6_153 (hv2) ?_
  refine pr_ldc (v := 1048576) dX6_jumps_8 rfl ?_
  refine pr_iload_n dX6_jumps_10 rfl ?_
  refine pr_imul dX6_jumps_11 ?_
  refine pr_aload_n dX6_jumps_12 rfl ?_
  obtain ⟨v3, hv3, hF⟩ := po_b hF
  refine pr_getI dX6_jumps_13 tf_6_146 (hv3) ?_
  refine pr_iadd dX6_jumps_16 ?_
  obtain ⟨h4, hh4, hF⟩ := po_b hF
  refine pr_iast dX6_jumps_17 (hh4) ?_
  refine pr_aload_n dX6_jumps_18 rfl ?_
  refine pr_aload_n dX6_jumps_19 rfl ?_
  obtain ⟨v5, hv5, hF⟩ := po_b hF
  refine pr_getI dX6_jumps_20 tf_6_153 (hv5) ?_
  refine pr_iconst (v := 1) dX6_jumps_23 (kc_1) ?_
  refine pr_iadd dX6_jumps_24 ?_
  obtain ⟨h6, hh6, hF⟩ := po_b hF
  refine pr_put dX6_jumps_25 tp_6_153 (hh6) ?_
  refine pr_aload_n dX6_jumps_28 rfl ?_
  refine pr_iload_n dX6_jumps_29 rfl ?_
  refine pr_iconst (v := 0) dX6_jumps_30 (kc_0) ?_
  obtain ⟨q7, hq7, hF⟩ := po_b hF
  refine po_i hq7 (fun hcl hq => ?_) (fun _ hq => nomatch hq)
  refine pr_V (as := [.int x1, .int 0]) (rest := []) dX6_jumps_31 cv_6_159 hcl rfl rfl rfl rfl (lb rfl) (lb rfl) (lb rfl) (ok_F_X6_notes hq) ?_
  refine pr_aload_n dX6_jumps_34 rfl ?_
  refine pr_aload_n dX6_jumps_35 rfl ?_
  obtain ⟨v8, hv8, hF⟩ := po_b hF
  refine pr_getI dX6_jumps_36 tf_6_123 (hv8) ?_
  refine pr_iconst (v := 1) dX6_jumps_39 (kc_1) ?_
  refine pr_iadd dX6_jumps_40 ?_
  obtain ⟨h9, hh9, hF⟩ := po_b hF
  refine pr_put dX6_jumps_41 tp_6_123 (hh9) ?_
  cases hF
  exact pr_vret dX6_jumps_44 rfl rfl

def L_X6_readsCondition_92 : Nat → Nat → pm_H → Option ((Int32 × pm_H) ⊕ (pm_H))
  | 0, _, _ => none
  | n + 1, x0, h =>
    (if pm_cl_ h x0 = some 5 then F_X6_here h x0 else none).bind fun q11 =>
    if q11 = 41 then
      (if pm_cl_ h x0 = some 5 then F_X6_lands n h x0 1 else none).bind fun q12 =>
      (pm_fI [(5, 19)] q12 x0).bind fun v13 =>
      (pm_put [(5, 19, 0)] q12 x0 (.int (v13 - 1))).bind fun h14 =>
      (pm_fI [(5, 17)] h14 x0).bind fun v15 =>
      (pm_put [(5, 17, 0)] h14 x0 (.int (v15 - 1))).bind fun h16 =>
      (pm_fI [(5, 13)] h16 x0).bind fun v17 =>
      (pm_put [(5, 13, 0)] h16 x0 (.int (v17 + 1))).bind fun h18 =>
      (pm_fI [(5, 19)] h18 x0).bind fun v19 =>
      if v19 = 0 then
        some (.inl (1, h18))
      else
        (if pm_cl_ h18 x0 = some 5 then F_X6_endsPiece n h18 x0 else none).bind fun q20 =>
        L_X6_readsCondition_92 n x0 q20
    else
      some (.inr h)
theorem ok_L_X6_readsCondition_92 {d : Nat} : ∀ (n : Nat) {x0 : Nat} {h : pm_H} {q : (Int32 × pm_H) ⊕ (pm_H)} {res : Option Value × pm_H}, L_X6_readsCondition_92 n x0 h = some q → (∀ r, q = .inl r → res = (some (.int r.1), r.2)) → (∀ e, q = .inr e → pm_E (d + 6) 6 cX6_readsCondition (some .boolean) 152 [.ref x0] [] e res) → pm_E (d + 6) 6 cX6_readsCondition (some .boolean) 92 [.ref x0] [] h res := by
  intro n
  induction n with
  | zero =>
    intro x0 h q res hF hr hk
    rw [L_X6_readsCondition_92] at hF
    cases hF
  | succ n ih =>
    intro x0 h q res hF hr hk
    rw [L_X6_readsCondition_92] at hF
    refine pr_aload_n dX6_readsCondition_92 rfl ?_
    obtain ⟨q11, hq11, hF⟩ := po_b hF
    refine po_i hq11 (fun hcl hq => ?_) (fun _ hq => nomatch hq)
    refine pr_V (as := []) (rest := []) dX6_readsCondition_93 cv_6_129 hcl rfl rfl rfl rfl (lb rfl) (lb rfl) (lb rfl) (ok_F_X6_here hq) ?_
    refine pr_bipush (v := 41) dX6_readsCondition_96 (kb_41) ?_
    refine po_i hF (fun hc hF => ?_) (fun hc hF => ?_)
    · refine pr_icF (tgt := 152) dX6_readsCondition_98 (by decide) (pc_neF hc) ?_
      refine pr_aload_n dX6_readsCondition_101 rfl ?_
      refine pr_iconst (v := 1) dX6_readsCondition_102 (kc_1) ?_
      obtain ⟨q12, hq12, hF⟩ := po_b hF
      refine po_i hq12 (fun hcl hq => ?_) (fun _ hq => nomatch hq)
      refine pr_V (as := [.int 1]) (rest := []) dX6_readsCondition_103 cv_6_195 hcl rfl rfl rfl rfl (lb rfl) (lb rfl) (lb rfl) (ok_F_X6_lands hq) ?_
      refine pr_aload_n dX6_readsCondition_106 rfl ?_
      refine pr_aload_n dX6_readsCondition_107 rfl ?_
      obtain ⟨v13, hv13, hF⟩ := po_b hF
      refine pr_getI dX6_readsCondition_108 tf_6_153 (hv13) ?_
      refine pr_iconst (v := 1) dX6_readsCondition_111 (kc_1) ?_
      refine pr_isub dX6_readsCondition_112 ?_
      obtain ⟨h14, hh14, hF⟩ := po_b hF
      refine pr_put dX6_readsCondition_113 tp_6_153 (hh14) ?_
      refine pr_aload_n dX6_readsCondition_116 rfl ?_
      refine pr_aload_n dX6_readsCondition_117 rfl ?_
      obtain ⟨v15, hv15, hF⟩ := po_b hF
      refine pr_getI dX6_readsCondition_118 tf_6_150 (hv15) ?_
      refine pr_iconst (v := 1) dX6_readsCondition_121 (kc_1) ?_
      refine pr_isub dX6_readsCondition_122 ?_
      obtain ⟨h16, hh16, hF⟩ := po_b hF
      refine pr_put dX6_readsCondition_123 tp_6_150 (hh16) ?_
      refine pr_aload_n dX6_readsCondition_126 rfl ?_
      refine pr_aload_n dX6_readsCondition_127 rfl ?_
      obtain ⟨v17, hv17, hF⟩ := po_b hF
      refine pr_getI dX6_readsCondition_128 tf_6_123 (hv17) ?_
      refine pr_iconst (v := 1) dX6_readsCondition_131 (kc_1) ?_
      refine pr_iadd dX6_readsCondition_132 ?_
      obtain ⟨h18, hh18, hF⟩ := po_b hF
      refine pr_put dX6_readsCondition_133 tp_6_123 (hh18) ?_
      refine pr_aload_n dX6_readsCondition_136 rfl ?_
      obtain ⟨v19, hv19, hF⟩ := po_b hF
      refine pr_getI dX6_readsCondition_137 tf_6_153 (hv19) ?_
      refine po_i hF (fun hc hF => ?_) (fun hc hF => ?_)
      · refine pr_ifF (tgt := 145) dX6_readsCondition_140 (by decide) (pc_neF hc) ?_
        refine pr_iconst (v := 1) dX6_readsCondition_143 (kc_1) ?_
        cases hF
        exact pr_iret dX6_readsCondition_144 rfl nb_1 (hr _ rfl)
      · refine pr_ifT (tgt := 145) dX6_readsCondition_140 (by decide) (pc_neT hc) ?_
        refine pr_aload_n dX6_readsCondition_145 rfl ?_
        obtain ⟨q20, hq20, hF⟩ := po_b hF
        refine po_i hq20 (fun hcl hq => ?_) (fun _ hq => nomatch hq)
        refine pr_V (as := []) (rest := []) dX6_readsCondition_146 cv_6_189 hcl rfl rfl rfl rfl (lb rfl) (lb rfl) (lb rfl) (ok_F_X6_endsPiece hq) ?_
        refine pr_goto (tgt := 92) dX6_readsCondition_149 (by decide) ?_
        exact ih hF hr hk
    · refine pr_icT (tgt := 152) dX6_readsCondition_98 (by decide) (pc_neT hc) ?_
      cases hF
      exact hk _ rfl
def L_X6_readsCondition_40 : Nat → Nat → pm_H → Option ((Int32 × pm_H) ⊕ (pm_H))
  | 0, _, _ => none
  | n + 1, x0, h =>
    (if pm_cl_ h x0 = some 5 then F_X6_here h x0 else none).bind fun q5 =>
    if q5 = 33 then
      (if pm_cl_ h x0 = some 5 then F_X6_here h x0 else none).bind fun q6 =>
      ((
        if q6 = 33 then
          some 10
        else
          some 13
      ) : Option (Int32)).bind fun q7 =>
      (if pm_cl_ h x0 = some 5 then F_X6_opens h x0 q7 else none).bind fun q8 =>
      if q8.1 = 0 then
        some (.inl (0, q8.2))
      else
        L_X6_readsCondition_40 n x0 q8.2
    else
      (if pm_cl_ h x0 = some 5 then F_X6_here h x0 else none).bind fun q9 =>
      if q9 = 40 then
        (if pm_cl_ h x0 = some 5 then F_X6_here h x0 else none).bind fun q37 =>
        ((
          if q37 = 33 then
            some 10
          else
            some 13
        ) : Option (Int32)).bind fun q38 =>
        (if pm_cl_ h x0 = some 5 then F_X6_opens h x0 q38 else none).bind fun q39 =>
        if q39.1 = 0 then
          some (.inl (0, q39.2))
        else
          L_X6_readsCondition_40 n x0 q39.2
      else
        (if pm_cl_ h x0 = some 5 then F_X6_readsCompared n h x0 else none).bind fun q10 =>
        if q10.1 = 0 then
          some (.inl (0, q10.2))
        else
          (L_X6_readsCondition_92 n x0 q10.2).bind fun q21 => po_s q21 (fun r => some (.inl r)) fun e22 =>
          (if pm_cl_ e22 x0 = some 5 then F_X6_here e22 x0 else none).bind fun q23 =>
          if q23 = 38 then
            (if pm_cl_ e22 x0 = some 5 then F_X6_here e22 x0 else none).bind fun q24 =>
            ((
              if q24 = 124 then
                some 1
              else
                some 0
            ) : Option (Int32)).bind fun q25 =>
            (if pm_cl_ e22 x0 = some 5 then F_X6_lands n e22 x0 q25 else none).bind fun q26 =>
            (if pm_cl_ q26 x0 = some 5 then F_X6_here q26 x0 else none).bind fun q27 =>
            if q27 = 38 then
              (if pm_cl_ q26 x0 = some 5 then F_X6_jumps q26 x0 11 else none).bind fun q29 =>
              L_X6_readsCondition_40 n x0 q29
            else
              (if pm_cl_ q26 x0 = some 5 then F_X6_jumps q26 x0 12 else none).bind fun q28 =>
              L_X6_readsCondition_40 n x0 q28
          else
            (if pm_cl_ e22 x0 = some 5 then F_X6_here e22 x0 else none).bind fun q30 =>
            if q30 = 124 then
              (if pm_cl_ e22 x0 = some 5 then F_X6_here e22 x0 else none).bind fun q31 =>
              ((
                if q31 = 124 then
                  some 1
                else
                  some 0
              ) : Option (Int32)).bind fun q32 =>
              (if pm_cl_ e22 x0 = some 5 then F_X6_lands n e22 x0 q32 else none).bind fun q33 =>
              (if pm_cl_ q33 x0 = some 5 then F_X6_here q33 x0 else none).bind fun q34 =>
              if q34 = 38 then
                (if pm_cl_ q33 x0 = some 5 then F_X6_jumps q33 x0 11 else none).bind fun q36 =>
                L_X6_readsCondition_40 n x0 q36
              else
                (if pm_cl_ q33 x0 = some 5 then F_X6_jumps q33 x0 12 else none).bind fun q35 =>
                L_X6_readsCondition_40 n x0 q35
            else
              some (.inr e22)
theorem ok_L_X6_readsCondition_40 {d : Nat} : ∀ (n : Nat) {x0 : Nat} {h : pm_H} {q : (Int32 × pm_H) ⊕ (pm_H)} {res : Option Value × pm_H}, L_X6_readsCondition_40 n x0 h = some q → (∀ r, q = .inl r → res = (some (.int r.1), r.2)) → (∀ e, q = .inr e → pm_E (d + 6) 6 cX6_readsCondition (some .boolean) 170 [.ref x0] [] e res) → pm_E (d + 6) 6 cX6_readsCondition (some .boolean) 40 [.ref x0] [] h res := by
  intro n
  induction n with
  | zero =>
    intro x0 h q res hF hr hk
    rw [L_X6_readsCondition_40] at hF
    cases hF
  | succ n ih =>
    intro x0 h q res hF hr hk
    rw [L_X6_readsCondition_40] at hF
    refine pr_aload_n dX6_readsCondition_40 rfl ?_
    obtain ⟨q5, hq5, hF⟩ := po_b hF
    refine po_i hq5 (fun hcl hq => ?_) (fun _ hq => nomatch hq)
    refine pr_V (as := []) (rest := []) dX6_readsCondition_41 cv_6_129 hcl rfl rfl rfl rfl (lb rfl) (lb rfl) (lb rfl) (ok_F_X6_here hq) ?_
    refine pr_bipush (v := 33) dX6_readsCondition_44 (kb_33) ?_
    refine po_i hF (fun hc hF => ?_) (fun hc hF => ?_)
    · refine pr_icT (tgt := 58) dX6_readsCondition_46 (by decide) (pc_eqT hc) ?_
      refine pr_aload_n dX6_readsCondition_58 rfl ?_
      refine pr_aload_n dX6_readsCondition_59 rfl ?_
      obtain ⟨q6, hq6, hF⟩ := po_b hF
      refine po_i hq6 (fun hcl hq => ?_) (fun _ hq => nomatch hq)
      refine pr_V (as := []) (rest := [.ref x0]) dX6_readsCondition_60 cv_6_129 hcl rfl rfl rfl rfl (lb rfl) (lb rfl) (lb rfl) (ok_F_X6_here hq) ?_
      refine pr_bipush (v := 33) dX6_readsCondition_63 (kb_33) ?_
      obtain ⟨q7, hq7, hF⟩ := po_b hF
      have J75 : pm_E (d + 6) 6 cX6_readsCondition (some .boolean) 75 [.ref x0] [.int q7, .ref x0] h res := by
        obtain ⟨q8, hq8, hF⟩ := po_b hF
        refine po_i hq8 (fun hcl hq => ?_) (fun _ hq => nomatch hq)
        refine pr_V (as := [.int q7]) (rest := []) dX6_readsCondition_75 cv_6_163 hcl rfl rfl rfl rfl (lb rfl) (lb rfl) (lb rfl) (ok_F_X6_opens hq) ?_
        refine po_i hF (fun hc hF => ?_) (fun hc hF => ?_)
        · refine pr_ifF (tgt := 40) dX6_readsCondition_78 (by decide) (pc_neF hc) ?_
          refine pr_iconst (v := 0) dX6_readsCondition_81 (kc_0) ?_
          cases hF
          exact pr_iret dX6_readsCondition_82 rfl nb_0 (hr _ rfl)
        · refine pr_ifT (tgt := 40) dX6_readsCondition_78 (by decide) (pc_neT hc) ?_
          exact ih hF hr hk
      clear hF
      have hF := hq7
      refine po_i hF (fun hc hF => ?_) (fun hc hF => ?_)
      · refine pr_icF (tgt := 73) dX6_readsCondition_65 (by decide) (pc_neF hc) ?_
        refine pr_bipush (v := 10) dX6_readsCondition_68 (kb_10) ?_
        refine pr_goto (tgt := 75) dX6_readsCondition_70 (by decide) ?_
        cases hF
        exact J75
      · refine pr_icT (tgt := 73) dX6_readsCondition_65 (by decide) (pc_neT hc) ?_
        refine pr_bipush (v := 13) dX6_readsCondition_73 (kb_13) ?_
        cases hF
        exact J75
    · refine pr_icF (tgt := 58) dX6_readsCondition_46 (by decide) (pc_eqF hc) ?_
      refine pr_aload_n dX6_readsCondition_49 rfl ?_
      obtain ⟨q9, hq9, hF⟩ := po_b hF
      refine po_i hq9 (fun hcl hq => ?_) (fun _ hq => nomatch hq)
      refine pr_V (as := []) (rest := []) dX6_readsCondition_50 cv_6_129 hcl rfl rfl rfl rfl (lb rfl) (lb rfl) (lb rfl) (ok_F_X6_here hq) ?_
      refine pr_bipush (v := 40) dX6_readsCondition_53 (kb_40) ?_
      refine po_i hF (fun hc hF => ?_) (fun hc hF => ?_)
      · refine pr_icF (tgt := 83) dX6_readsCondition_55 (by decide) (pc_neF hc) ?_
        refine pr_aload_n dX6_readsCondition_58 rfl ?_
        refine pr_aload_n dX6_readsCondition_59 rfl ?_
        obtain ⟨q37, hq37, hF⟩ := po_b hF
        refine po_i hq37 (fun hcl hq => ?_) (fun _ hq => nomatch hq)
        refine pr_V (as := []) (rest := [.ref x0]) dX6_readsCondition_60 cv_6_129 hcl rfl rfl rfl rfl (lb rfl) (lb rfl) (lb rfl) (ok_F_X6_here hq) ?_
        refine pr_bipush (v := 33) dX6_readsCondition_63 (kb_33) ?_
        obtain ⟨q38, hq38, hF⟩ := po_b hF
        have J75 : pm_E (d + 6) 6 cX6_readsCondition (some .boolean) 75 [.ref x0] [.int q38, .ref x0] h res := by
          obtain ⟨q39, hq39, hF⟩ := po_b hF
          refine po_i hq39 (fun hcl hq => ?_) (fun _ hq => nomatch hq)
          refine pr_V (as := [.int q38]) (rest := []) dX6_readsCondition_75 cv_6_163 hcl rfl rfl rfl rfl (lb rfl) (lb rfl) (lb rfl) (ok_F_X6_opens hq) ?_
          refine po_i hF (fun hc hF => ?_) (fun hc hF => ?_)
          · refine pr_ifF (tgt := 40) dX6_readsCondition_78 (by decide) (pc_neF hc) ?_
            refine pr_iconst (v := 0) dX6_readsCondition_81 (kc_0) ?_
            cases hF
            exact pr_iret dX6_readsCondition_82 rfl nb_0 (hr _ rfl)
          · refine pr_ifT (tgt := 40) dX6_readsCondition_78 (by decide) (pc_neT hc) ?_
            exact ih hF hr hk
        clear hF
        have hF := hq38
        refine po_i hF (fun hc hF => ?_) (fun hc hF => ?_)
        · refine pr_icF (tgt := 73) dX6_readsCondition_65 (by decide) (pc_neF hc) ?_
          refine pr_bipush (v := 10) dX6_readsCondition_68 (kb_10) ?_
          refine pr_goto (tgt := 75) dX6_readsCondition_70 (by decide) ?_
          cases hF
          exact J75
        · refine pr_icT (tgt := 73) dX6_readsCondition_65 (by decide) (pc_neT hc) ?_
          refine pr_bipush (v := 13) dX6_readsCondition_73 (kb_13) ?_
          cases hF
          exact J75
      · refine pr_icT (tgt := 83) dX6_readsCondition_55 (by decide) (pc_neT hc) ?_
        refine pr_aload_n dX6_readsCondition_83 rfl ?_
        obtain ⟨q10, hq10, hF⟩ := po_b hF
        refine po_i hq10 (fun hcl hq => ?_) (fun _ hq => nomatch hq)
        refine pr_V (as := []) (rest := []) dX6_readsCondition_84 cv_6_192 hcl rfl rfl rfl rfl (lb rfl) (lb rfl) (lb rfl) (ok_F_X6_readsCompared hq) ?_
        refine po_i hF (fun hc hF => ?_) (fun hc hF => ?_)
        · refine pr_ifF (tgt := 92) dX6_readsCondition_87 (by decide) (pc_neF hc) ?_
          refine pr_iconst (v := 0) dX6_readsCondition_90 (kc_0) ?_
          cases hF
          exact pr_iret dX6_readsCondition_91 rfl nb_0 (hr _ rfl)
        · refine pr_ifT (tgt := 92) dX6_readsCondition_87 (by decide) (pc_neT hc) ?_
          obtain ⟨q21, hq21, hF⟩ := po_b hF
          refine ok_L_X6_readsCondition_92 n hq21 (fun r hq => ?_) (fun e22 hq => ?_)
          · subst hq
            replace hF := po_sl hF
            cases hF
            exact (hr _ rfl)
          subst hq
          replace hF := po_sr hF
          refine pr_aload_n dX6_readsCondition_152 rfl ?_
          obtain ⟨q23, hq23, hF⟩ := po_b hF
          refine po_i hq23 (fun hcl hq => ?_) (fun _ hq => nomatch hq)
          refine pr_V (as := []) (rest := []) dX6_readsCondition_153 cv_6_129 hcl rfl rfl rfl rfl (lb rfl) (lb rfl) (lb rfl) (ok_F_X6_here hq) ?_
          refine pr_bipush (v := 38) dX6_readsCondition_156 (kb_38) ?_
          refine po_i hF (fun hc hF => ?_) (fun hc hF => ?_)
          · refine pr_icT (tgt := 180) dX6_readsCondition_158 (by decide) (pc_eqT hc) ?_
            refine pr_aload_n dX6_readsCondition_180 rfl ?_
            refine pr_aload_n dX6_readsCondition_181 rfl ?_
            obtain ⟨q24, hq24, hF⟩ := po_b hF
            refine po_i hq24 (fun hcl hq => ?_) (fun _ hq => nomatch hq)
            refine pr_V (as := []) (rest := [.ref x0]) dX6_readsCondition_182 cv_6_129 hcl rfl rfl rfl rfl (lb rfl) (lb rfl) (lb rfl) (ok_F_X6_here hq) ?_
            refine pr_bipush (v := 124) dX6_readsCondition_185 (kb_124) ?_
            obtain ⟨q25, hq25, hF⟩ := po_b hF
            have J195 : pm_E (d + 6) 6 cX6_readsCondition (some .boolean) 195 [.ref x0] [.int q25, .ref x0] e22 res := by
              obtain ⟨q26, hq26, hF⟩ := po_b hF
              refine po_i hq26 (fun hcl hq => ?_) (fun _ hq => nomatch hq)
              refine pr_V (as := [.int q25]) (rest := []) dX6_readsCondition_195 cv_6_195 hcl rfl rfl rfl rfl (lb rfl) (lb rfl) (lb rfl) (ok_F_X6_lands hq) ?_
              refine pr_aload_n dX6_readsCondition_198 rfl ?_
              refine pr_aload_n dX6_readsCondition_199 rfl ?_
              obtain ⟨q27, hq27, hF⟩ := po_b hF
              refine po_i hq27 (fun hcl hq => ?_) (fun _ hq => nomatch hq)
              refine pr_V (as := []) (rest := [.ref x0]) dX6_readsCondition_200 cv_6_129 hcl rfl rfl rfl rfl (lb rfl) (lb rfl) (lb rfl) (ok_F_X6_here hq) ?_
              refine pr_bipush (v := 38) dX6_readsCondition_203 (kb_38) ?_
              refine po_i hF (fun hc hF => ?_) (fun hc hF => ?_)
              · refine pr_icF (tgt := 213) dX6_readsCondition_205 (by decide) (pc_neF hc) ?_
                refine pr_bipush (v := 11) dX6_readsCondition_208 (kb_11) ?_
                refine pr_goto (tgt := 215) dX6_readsCondition_210 (by decide) ?_
                obtain ⟨q29, hq29, hF⟩ := po_b hF
                refine po_i hq29 (fun hcl hq => ?_) (fun _ hq => nomatch hq)
                refine pr_V (as := [.int 11]) (rest := []) dX6_readsCondition_215 cv_6_198 hcl rfl rfl rfl rfl (lb rfl) (lb rfl) (lb rfl) (ok_F_X6_jumps hq) ?_
                refine pr_goto (tgt := 40) dX6_readsCondition_218 (by decide) ?_
                exact ih hF hr hk
              · refine pr_icT (tgt := 213) dX6_readsCondition_205 (by decide) (pc_neT hc) ?_
                refine pr_bipush (v := 12) dX6_readsCondition_213 (kb_12) ?_
                obtain ⟨q28, hq28, hF⟩ := po_b hF
                refine po_i hq28 (fun hcl hq => ?_) (fun _ hq => nomatch hq)
                refine pr_V (as := [.int 12]) (rest := []) dX6_readsCondition_215 cv_6_198 hcl rfl rfl rfl rfl (lb rfl) (lb rfl) (lb rfl) (ok_F_X6_jumps hq) ?_
                refine pr_goto (tgt := 40) dX6_readsCondition_218 (by decide) ?_
                exact ih hF hr hk
            clear hF
            have hF := hq25
            refine po_i hF (fun hc hF => ?_) (fun hc hF => ?_)
            · refine pr_icF (tgt := 194) dX6_readsCondition_187 (by decide) (pc_neF hc) ?_
              refine pr_iconst (v := 1) dX6_readsCondition_190 (kc_1) ?_
              refine pr_goto (tgt := 195) dX6_readsCondition_191 (by decide) ?_
              cases hF
              exact J195
            · refine pr_icT (tgt := 194) dX6_readsCondition_187 (by decide) (pc_neT hc) ?_
              refine pr_iconst (v := 0) dX6_readsCondition_194 (kc_0) ?_
              cases hF
              exact J195
          · refine pr_icF (tgt := 180) dX6_readsCondition_158 (by decide) (pc_eqF hc) ?_
            refine pr_aload_n dX6_readsCondition_161 rfl ?_
            obtain ⟨q30, hq30, hF⟩ := po_b hF
            refine po_i hq30 (fun hcl hq => ?_) (fun _ hq => nomatch hq)
            refine pr_V (as := []) (rest := []) dX6_readsCondition_162 cv_6_129 hcl rfl rfl rfl rfl (lb rfl) (lb rfl) (lb rfl) (ok_F_X6_here hq) ?_
            refine pr_bipush (v := 124) dX6_readsCondition_165 (kb_124) ?_
            refine po_i hF (fun hc hF => ?_) (fun hc hF => ?_)
            · refine pr_icT (tgt := 180) dX6_readsCondition_167 (by decide) (pc_eqT hc) ?_
              refine pr_aload_n dX6_readsCondition_180 rfl ?_
              refine pr_aload_n dX6_readsCondition_181 rfl ?_
              obtain ⟨q31, hq31, hF⟩ := po_b hF
              refine po_i hq31 (fun hcl hq => ?_) (fun _ hq => nomatch hq)
              refine pr_V (as := []) (rest := [.ref x0]) dX6_readsCondition_182 cv_6_129 hcl rfl rfl rfl rfl (lb rfl) (lb rfl) (lb rfl) (ok_F_X6_here hq) ?_
              refine pr_bipush (v := 124) dX6_readsCondition_185 (kb_124) ?_
              obtain ⟨q32, hq32, hF⟩ := po_b hF
              have J195 : pm_E (d + 6) 6 cX6_readsCondition (some .boolean) 195 [.ref x0] [.int q32, .ref x0] e22 res := by
                obtain ⟨q33, hq33, hF⟩ := po_b hF
                refine po_i hq33 (fun hcl hq => ?_) (fun _ hq => nomatch hq)
                refine pr_V (as := [.int q32]) (rest := []) dX6_readsCondition_195 cv_6_195 hcl rfl rfl rfl rfl (lb rfl) (lb rfl) (lb rfl) (ok_F_X6_lands hq) ?_
                refine pr_aload_n dX6_readsCondition_198 rfl ?_
                refine pr_aload_n dX6_readsCondition_199 rfl ?_
                obtain ⟨q34, hq34, hF⟩ := po_b hF
                refine po_i hq34 (fun hcl hq => ?_) (fun _ hq => nomatch hq)
                refine pr_V (as := []) (rest := [.ref x0]) dX6_readsCondition_200 cv_6_129 hcl rfl rfl rfl rfl (lb rfl) (lb rfl) (lb rfl) (ok_F_X6_here hq) ?_
                refine pr_bipush (v := 38) dX6_readsCondition_203 (kb_38) ?_
                refine po_i hF (fun hc hF => ?_) (fun hc hF => ?_)
                · refine pr_icF (tgt := 213) dX6_readsCondition_205 (by decide) (pc_neF hc) ?_
                  refine pr_bipush (v := 11) dX6_readsCondition_208 (kb_11) ?_
                  refine pr_goto (tgt := 215) dX6_readsCondition_210 (by decide) ?_
                  obtain ⟨q36, hq36, hF⟩ := po_b hF
                  refine po_i hq36 (fun hcl hq => ?_) (fun _ hq => nomatch hq)
                  refine pr_V (as := [.int 11]) (rest := []) dX6_readsCondition_215 cv_6_198 hcl rfl rfl rfl rfl (lb rfl) (lb rfl) (lb rfl) (ok_F_X6_jumps hq) ?_
                  refine pr_goto (tgt := 40) dX6_readsCondition_218 (by decide) ?_
                  exact ih hF hr hk
                · refine pr_icT (tgt := 213) dX6_readsCondition_205 (by decide) (pc_neT hc) ?_
                  refine pr_bipush (v := 12) dX6_readsCondition_213 (kb_12) ?_
                  obtain ⟨q35, hq35, hF⟩ := po_b hF
                  refine po_i hq35 (fun hcl hq => ?_) (fun _ hq => nomatch hq)
                  refine pr_V (as := [.int 12]) (rest := []) dX6_readsCondition_215 cv_6_198 hcl rfl rfl rfl rfl (lb rfl) (lb rfl) (lb rfl) (ok_F_X6_jumps hq) ?_
                  refine pr_goto (tgt := 40) dX6_readsCondition_218 (by decide) ?_
                  exact ih hF hr hk
              clear hF
              have hF := hq32
              refine po_i hF (fun hc hF => ?_) (fun hc hF => ?_)
              · refine pr_icF (tgt := 194) dX6_readsCondition_187 (by decide) (pc_neF hc) ?_
                refine pr_iconst (v := 1) dX6_readsCondition_190 (kc_1) ?_
                refine pr_goto (tgt := 195) dX6_readsCondition_191 (by decide) ?_
                cases hF
                exact J195
              · refine pr_icT (tgt := 194) dX6_readsCondition_187 (by decide) (pc_neT hc) ?_
                refine pr_iconst (v := 0) dX6_readsCondition_194 (kc_0) ?_
                cases hF
                exact J195
            · refine pr_icF (tgt := 180) dX6_readsCondition_167 (by decide) (pc_eqF hc) ?_
              cases hF
              exact hk _ rfl
def F_X6_readsCondition (n : Nat) (h : pm_H) (a0 : Nat) : Option (Int32 × pm_H) :=
  (if pm_cl_ h a0 = some 5 then F_X6_here h a0 else none).bind fun q1 =>
  if q1 = 40 then
    (pm_put [(5, 17, 0)] h a0 (.int 0)).bind fun h2 =>
    (pm_put [(5, 19, 0)] h2 a0 (.int 0)).bind fun h3 =>
    (if pm_cl_ h3 a0 = some 5 then F_X6_opens h3 a0 13 else none).bind fun q4 =>
    if q4.1 = 0 then
      some (0, q4.2)
    else
      (L_X6_readsCondition_40 n a0 q4.2).bind fun q40 => po_s q40 (fun r => some r) fun e41 =>
      (pm_fI [(5, 13)] e41 a0).bind fun v42 =>
      (if pm_cl_ e41 a0 = some 5 then F_X6_wrongAt e41 a0 1 v42 else none).bind fun q43 =>
      if q43.1 = 0 ∨ q43.1 = 1 then
        some (q43.1, q43.2)
      else none
  else
    (pm_fI [(5, 13)] h a0).bind fun v44 =>
    (if pm_cl_ h a0 = some 5 then F_X6_wrongAt h a0 1 v44 else none).bind fun q45 =>
    if q45.1 = 0 ∨ q45.1 = 1 then
      some (q45.1, q45.2)
    else none
theorem ok_F_X6_readsCondition {d n : Nat} {h : pm_H} {a0 : Nat} {q : Int32 × pm_H} (hF : F_X6_readsCondition n h a0 = some q) : pm_E (d + 6) 6 cX6_readsCondition (some .boolean) 0 [.ref a0] [] h (some (.int q.1), q.2) := by
  unfold F_X6_readsCondition at hF
  refine pr_aload_n dX6_readsCondition_0 rfl ?_
  obtain ⟨q1, hq1, hF⟩ := po_b hF
  refine po_i hq1 (fun hcl hq => ?_) (fun _ hq => nomatch hq)
  refine pr_V (as := []) (rest := []) dX6_readsCondition_1 cv_6_129 hcl rfl rfl rfl rfl (lb rfl) (lb rfl) (lb rfl) (ok_F_X6_here hq) ?_
  refine pr_bipush (v := 40) dX6_readsCondition_4 (kb_40) ?_
  refine po_i hF (fun hc hF => ?_) (fun hc hF => ?_)
  · refine pr_icT (tgt := 19) dX6_readsCondition_6 (by decide) (pc_eqT hc) ?_
    refine pr_aload_n dX6_readsCondition_19 rfl ?_
    refine pr_iconst (v := 0) dX6_readsCondition_20 (kc_0) ?_
    obtain ⟨h2, hh2, hF⟩ := po_b hF
    refine pr_put dX6_readsCondition_21 tp_6_150 (hh2) ?_
    refine pr_aload_n dX6_readsCondition_24 rfl ?_
    refine pr_iconst (v := 0) dX6_readsCondition_25 (kc_0) ?_
    obtain ⟨h3, hh3, hF⟩ := po_b hF
    refine pr_put dX6_readsCondition_26 tp_6_153 (hh3) ?_
    refine pr_aload_n dX6_readsCondition_29 rfl ?_
    refine pr_bipush (v := 13) dX6_readsCondition_30 (kb_13) ?_
    obtain ⟨q4, hq4, hF⟩ := po_b hF
    refine po_i hq4 (fun hcl hq => ?_) (fun _ hq => nomatch hq)
    refine pr_V (as := [.int 13]) (rest := []) dX6_readsCondition_32 cv_6_163 hcl rfl rfl rfl rfl (lb rfl) (lb rfl) (lb rfl) (ok_F_X6_opens hq) ?_
    refine po_i hF (fun hc hF => ?_) (fun hc hF => ?_)
    · refine pr_ifF (tgt := 40) dX6_readsCondition_35 (by decide) (pc_neF hc) ?_
      refine pr_iconst (v := 0) dX6_readsCondition_38 (kc_0) ?_
      cases hF
      exact pr_iret dX6_readsCondition_39 rfl nb_0 rfl
    · refine pr_ifT (tgt := 40) dX6_readsCondition_35 (by decide) (pc_neT hc) ?_
      obtain ⟨q40, hq40, hF⟩ := po_b hF
      refine ok_L_X6_readsCondition_40 n hq40 (fun r hq => ?_) (fun e41 hq => ?_)
      · subst hq
        replace hF := po_sl hF
        cases hF
        exact rfl
      subst hq
      replace hF := po_sr hF
      refine pr_aload_n dX6_readsCondition_170 rfl ?_
      refine pr_iconst (v := 1) dX6_readsCondition_171 (kc_1) ?_
      refine pr_aload_n dX6_readsCondition_172 rfl ?_
      obtain ⟨v42, hv42, hF⟩ := po_b hF
      refine pr_getI dX6_readsCondition_173 tf_6_123 (hv42) ?_
      obtain ⟨q43, hq43, hF⟩ := po_b hF
      refine po_i hq43 (fun hcl hq => ?_) (fun _ hq => nomatch hq)
      refine pr_V (as := [.int 1, .int v42]) (rest := []) dX6_readsCondition_176 cv_6_136 hcl rfl rfl rfl rfl (lb rfl) (lb rfl) (lb rfl) (ok_F_X6_wrongAt hq) ?_
      refine po_i hF (fun hg hF => ?_) (fun _ hF => nomatch hF)
      cases hF
      exact pr_iret dX6_readsCondition_179 rfl (nb_of hg) rfl
  · refine pr_icF (tgt := 19) dX6_readsCondition_6 (by decide) (pc_eqF hc) ?_
    refine pr_aload_n dX6_readsCondition_9 rfl ?_
    refine pr_iconst (v := 1) dX6_readsCondition_10 (kc_1) ?_
    refine pr_aload_n dX6_readsCondition_11 rfl ?_
    obtain ⟨v44, hv44, hF⟩ := po_b hF
    refine pr_getI dX6_readsCondition_12 tf_6_123 (hv44) ?_
    obtain ⟨q45, hq45, hF⟩ := po_b hF
    refine po_i hq45 (fun hcl hq => ?_) (fun _ hq => nomatch hq)
    refine pr_V (as := [.int 1, .int v44]) (rest := []) dX6_readsCondition_15 cv_6_136 hcl rfl rfl rfl rfl (lb rfl) (lb rfl) (lb rfl) (ok_F_X6_wrongAt hq) ?_
    refine po_i hF (fun hg hF => ?_) (fun _ hF => nomatch hF)
    cases hF
    exact pr_iret dX6_readsCondition_18 rfl (nb_of hg) rfl

def F_X6_readsRule (n : Nat) (h : pm_H) (a0 : Nat) : Option (Int32 × pm_H) :=
  (if pm_cl_ h a0 = some 5 then F_X6_here h a0 else none).bind fun q1 =>
  if q1 = 101 then
    (pm_fI [(5, 20)] h a0).bind fun v2 =>
    if v2 = 16 then
      (pm_fI [(5, 13)] h a0).bind fun v37 =>
      (if pm_cl_ h a0 = some 5 then F_X6_wrongAt h a0 4 v37 else none).bind fun q38 =>
      if q38.1 = 0 ∨ q38.1 = 1 then
        some (q38.1, q38.2)
      else none
    else
      (pm_fR [(5, 24)] h a0).bind fun v3 =>
      (pm_fI [(5, 20)] h a0).bind fun v4 =>
      (pm_si 0 h v3 v4 q1).bind fun h5 =>
      (pm_fI [(5, 13)] h5 a0).bind fun v6 =>
      (pm_put [(5, 13, 0)] h5 a0 (.int (v6 + 1))).bind fun h7 =>
      (pm_fR [(5, 25)] h7 a0).bind fun v8 =>
      (pm_fI [(5, 20)] h7 a0).bind fun v9 =>
      (pm_fI [(5, 18)] h7 a0).bind fun v10 =>
      (pm_si 0 h7 v8 v9 v10).bind fun h11 =>
      (pm_put [(5, 17, 0)] h11 a0 (.int 0)).bind fun h12 =>
      (pm_put [(5, 19, 0)] h12 a0 (.int 0)).bind fun h13 =>
      if q1 = 120 then
        (pm_fR [(5, 26)] h13 a0).bind fun v14 =>
        (pm_fI [(5, 20)] h13 a0).bind fun v15 =>
        (pm_fI [(5, 18)] h13 a0).bind fun v16 =>
        (pm_si 0 h13 v14 v15 v16).bind fun h17 =>
        (if pm_cl_ h17 a0 = some 5 then F_X6_readsCondition n h17 a0 else none).bind fun q18 =>
        if q18.1 = 0 then
          some (0, q18.2)
        else
          (pm_fR [(5, 27)] q18.2 a0).bind fun v19 =>
          (pm_fI [(5, 20)] q18.2 a0).bind fun v20 =>
          (pm_fI [(5, 18)] q18.2 a0).bind fun v21 =>
          (pm_si 0 q18.2 v19 v20 v21).bind fun h22 =>
          (pm_fI [(5, 20)] h22 a0).bind fun v23 =>
          (pm_put [(5, 20, 0)] h22 a0 (.int (v23 + 1))).bind fun h24 =>
          some (1, h24)
      else
        (if pm_cl_ h13 a0 = some 5 then F_X6_readsSum n h13 a0 else none).bind fun q25 =>
        if q25.1 = 0 then
          some (0, q25.2)
        else
          (pm_fR [(5, 26)] q25.2 a0).bind fun v26 =>
          (pm_fI [(5, 20)] q25.2 a0).bind fun v27 =>
          (pm_fI [(5, 18)] q25.2 a0).bind fun v28 =>
          (pm_si 0 q25.2 v26 v27 v28).bind fun h29 =>
          (if pm_cl_ h29 a0 = some 5 then F_X6_readsCondition n h29 a0 else none).bind fun q30 =>
          if q30.1 = 0 then
            some (0, q30.2)
          else
            (pm_fR [(5, 27)] q30.2 a0).bind fun v31 =>
            (pm_fI [(5, 20)] q30.2 a0).bind fun v32 =>
            (pm_fI [(5, 18)] q30.2 a0).bind fun v33 =>
            (pm_si 0 q30.2 v31 v32 v33).bind fun h34 =>
            (pm_fI [(5, 20)] h34 a0).bind fun v35 =>
            (pm_put [(5, 20, 0)] h34 a0 (.int (v35 + 1))).bind fun h36 =>
            some (1, h36)
  else
  if q1 = 98 then
    (pm_fI [(5, 20)] h a0).bind fun v39 =>
    if v39 = 16 then
      (pm_fI [(5, 13)] h a0).bind fun v74 =>
      (if pm_cl_ h a0 = some 5 then F_X6_wrongAt h a0 4 v74 else none).bind fun q75 =>
      if q75.1 = 0 ∨ q75.1 = 1 then
        some (q75.1, q75.2)
      else none
    else
      (pm_fR [(5, 24)] h a0).bind fun v40 =>
      (pm_fI [(5, 20)] h a0).bind fun v41 =>
      (pm_si 0 h v40 v41 q1).bind fun h42 =>
      (pm_fI [(5, 13)] h42 a0).bind fun v43 =>
      (pm_put [(5, 13, 0)] h42 a0 (.int (v43 + 1))).bind fun h44 =>
      (pm_fR [(5, 25)] h44 a0).bind fun v45 =>
      (pm_fI [(5, 20)] h44 a0).bind fun v46 =>
      (pm_fI [(5, 18)] h44 a0).bind fun v47 =>
      (pm_si 0 h44 v45 v46 v47).bind fun h48 =>
      (pm_put [(5, 17, 0)] h48 a0 (.int 0)).bind fun h49 =>
      (pm_put [(5, 19, 0)] h49 a0 (.int 0)).bind fun h50 =>
      if q1 = 120 then
        (pm_fR [(5, 26)] h50 a0).bind fun v51 =>
        (pm_fI [(5, 20)] h50 a0).bind fun v52 =>
        (pm_fI [(5, 18)] h50 a0).bind fun v53 =>
        (pm_si 0 h50 v51 v52 v53).bind fun h54 =>
        (if pm_cl_ h54 a0 = some 5 then F_X6_readsCondition n h54 a0 else none).bind fun q55 =>
        if q55.1 = 0 then
          some (0, q55.2)
        else
          (pm_fR [(5, 27)] q55.2 a0).bind fun v56 =>
          (pm_fI [(5, 20)] q55.2 a0).bind fun v57 =>
          (pm_fI [(5, 18)] q55.2 a0).bind fun v58 =>
          (pm_si 0 q55.2 v56 v57 v58).bind fun h59 =>
          (pm_fI [(5, 20)] h59 a0).bind fun v60 =>
          (pm_put [(5, 20, 0)] h59 a0 (.int (v60 + 1))).bind fun h61 =>
          some (1, h61)
      else
        (if pm_cl_ h50 a0 = some 5 then F_X6_readsSum n h50 a0 else none).bind fun q62 =>
        if q62.1 = 0 then
          some (0, q62.2)
        else
          (pm_fR [(5, 26)] q62.2 a0).bind fun v63 =>
          (pm_fI [(5, 20)] q62.2 a0).bind fun v64 =>
          (pm_fI [(5, 18)] q62.2 a0).bind fun v65 =>
          (pm_si 0 q62.2 v63 v64 v65).bind fun h66 =>
          (if pm_cl_ h66 a0 = some 5 then F_X6_readsCondition n h66 a0 else none).bind fun q67 =>
          if q67.1 = 0 then
            some (0, q67.2)
          else
            (pm_fR [(5, 27)] q67.2 a0).bind fun v68 =>
            (pm_fI [(5, 20)] q67.2 a0).bind fun v69 =>
            (pm_fI [(5, 18)] q67.2 a0).bind fun v70 =>
            (pm_si 0 q67.2 v68 v69 v70).bind fun h71 =>
            (pm_fI [(5, 20)] h71 a0).bind fun v72 =>
            (pm_put [(5, 20, 0)] h71 a0 (.int (v72 + 1))).bind fun h73 =>
            some (1, h73)
  else
  if q1 = 120 then
    (pm_fI [(5, 20)] h a0).bind fun v76 =>
    if v76 = 16 then
      (pm_fI [(5, 13)] h a0).bind fun v111 =>
      (if pm_cl_ h a0 = some 5 then F_X6_wrongAt h a0 4 v111 else none).bind fun q112 =>
      if q112.1 = 0 ∨ q112.1 = 1 then
        some (q112.1, q112.2)
      else none
    else
      (pm_fR [(5, 24)] h a0).bind fun v77 =>
      (pm_fI [(5, 20)] h a0).bind fun v78 =>
      (pm_si 0 h v77 v78 q1).bind fun h79 =>
      (pm_fI [(5, 13)] h79 a0).bind fun v80 =>
      (pm_put [(5, 13, 0)] h79 a0 (.int (v80 + 1))).bind fun h81 =>
      (pm_fR [(5, 25)] h81 a0).bind fun v82 =>
      (pm_fI [(5, 20)] h81 a0).bind fun v83 =>
      (pm_fI [(5, 18)] h81 a0).bind fun v84 =>
      (pm_si 0 h81 v82 v83 v84).bind fun h85 =>
      (pm_put [(5, 17, 0)] h85 a0 (.int 0)).bind fun h86 =>
      (pm_put [(5, 19, 0)] h86 a0 (.int 0)).bind fun h87 =>
      if q1 = 120 then
        (pm_fR [(5, 26)] h87 a0).bind fun v88 =>
        (pm_fI [(5, 20)] h87 a0).bind fun v89 =>
        (pm_fI [(5, 18)] h87 a0).bind fun v90 =>
        (pm_si 0 h87 v88 v89 v90).bind fun h91 =>
        (if pm_cl_ h91 a0 = some 5 then F_X6_readsCondition n h91 a0 else none).bind fun q92 =>
        if q92.1 = 0 then
          some (0, q92.2)
        else
          (pm_fR [(5, 27)] q92.2 a0).bind fun v93 =>
          (pm_fI [(5, 20)] q92.2 a0).bind fun v94 =>
          (pm_fI [(5, 18)] q92.2 a0).bind fun v95 =>
          (pm_si 0 q92.2 v93 v94 v95).bind fun h96 =>
          (pm_fI [(5, 20)] h96 a0).bind fun v97 =>
          (pm_put [(5, 20, 0)] h96 a0 (.int (v97 + 1))).bind fun h98 =>
          some (1, h98)
      else
        (if pm_cl_ h87 a0 = some 5 then F_X6_readsSum n h87 a0 else none).bind fun q99 =>
        if q99.1 = 0 then
          some (0, q99.2)
        else
          (pm_fR [(5, 26)] q99.2 a0).bind fun v100 =>
          (pm_fI [(5, 20)] q99.2 a0).bind fun v101 =>
          (pm_fI [(5, 18)] q99.2 a0).bind fun v102 =>
          (pm_si 0 q99.2 v100 v101 v102).bind fun h103 =>
          (if pm_cl_ h103 a0 = some 5 then F_X6_readsCondition n h103 a0 else none).bind fun q104 =>
          if q104.1 = 0 then
            some (0, q104.2)
          else
            (pm_fR [(5, 27)] q104.2 a0).bind fun v105 =>
            (pm_fI [(5, 20)] q104.2 a0).bind fun v106 =>
            (pm_fI [(5, 18)] q104.2 a0).bind fun v107 =>
            (pm_si 0 q104.2 v105 v106 v107).bind fun h108 =>
            (pm_fI [(5, 20)] h108 a0).bind fun v109 =>
            (pm_put [(5, 20, 0)] h108 a0 (.int (v109 + 1))).bind fun h110 =>
            some (1, h110)
  else
    (pm_fI [(5, 13)] h a0).bind fun v113 =>
    (if pm_cl_ h a0 = some 5 then F_X6_wrongAt h a0 1 v113 else none).bind fun q114 =>
    if q114.1 = 0 ∨ q114.1 = 1 then
      some (q114.1, q114.2)
    else none
theorem ok_F_X6_readsRule {d n : Nat} {h : pm_H} {a0 : Nat} {q : Int32 × pm_H} (hF : F_X6_readsRule n h a0 = some q) : pm_E (d + 7) 6 cX6_readsRule (some .boolean) 0 [.ref a0, pm_D] [] h (some (.int q.1), q.2) := by
  unfold F_X6_readsRule at hF
  refine pr_aload_n dX6_readsRule_0 rfl ?_
  obtain ⟨q1, hq1, hF⟩ := po_b hF
  refine po_i hq1 (fun hcl hq => ?_) (fun _ hq => nomatch hq)
  refine pr_V (as := []) (rest := []) dX6_readsRule_1 cv_6_129 hcl rfl rfl rfl rfl (lb rfl) (lb rfl) (lb rfl) (ok_F_X6_here hq) ?_
  refine pr_istore_n (L' := [.ref a0, .int q1]) dX6_readsRule_4 rfl ?_
  refine pr_iload_n dX6_readsRule_5 rfl ?_
  refine pr_bipush (v := 101) dX6_readsRule_6 (kb_101) ?_
  refine po_i hF (fun hc hF => ?_) (fun hc hF => ?_)
  · refine pr_icT (tgt := 33) dX6_readsRule_8 (by decide) (pc_eqT hc) ?_
    refine pr_aload_n dX6_readsRule_33 rfl ?_
    obtain ⟨v2, hv2, hF⟩ := po_b hF
    refine pr_getI dX6_readsRule_34 tf_6_201 (hv2) ?_
    refine pr_bipush (v := 16) dX6_readsRule_37 (kb_16) ?_
    refine po_i hF (fun hc hF => ?_) (fun hc hF => ?_)
    · refine pr_icF (tgt := 52) dX6_readsRule_39 (by decide) (pc_neF hc) ?_
      refine pr_aload_n dX6_readsRule_42 rfl ?_
      refine pr_iconst (v := 4) dX6_readsRule_43 (kc_4) ?_
      refine pr_aload_n dX6_readsRule_44 rfl ?_
      obtain ⟨v37, hv37, hF⟩ := po_b hF
      refine pr_getI dX6_readsRule_45 tf_6_123 (hv37) ?_
      obtain ⟨q38, hq38, hF⟩ := po_b hF
      refine po_i hq38 (fun hcl hq => ?_) (fun _ hq => nomatch hq)
      refine pr_V (as := [.int 4, .int v37]) (rest := []) dX6_readsRule_48 cv_6_136 hcl rfl rfl rfl rfl (lb rfl) (lb rfl) (lb rfl) (ok_F_X6_wrongAt hq) ?_
      refine po_i hF (fun hg hF => ?_) (fun _ hF => nomatch hF)
      cases hF
      exact pr_iret dX6_readsRule_51 rfl (nb_of hg) rfl
    · refine pr_icT (tgt := 52) dX6_readsRule_39 (by decide) (pc_neT hc) ?_
      refine pr_aload_n dX6_readsRule_52 rfl ?_
      obtain ⟨v3, hv3, hF⟩ := po_b hF
      refine pr_getR dX6_readsRule_53 tf_6_41 (hv3) ?_
      refine pr_aload_n dX6_readsRule_56 rfl ?_
      obtain ⟨v4, hv4, hF⟩ := po_b hF
      refine pr_getI dX6_readsRule_57 tf_6_201 (hv4) ?_
      refine pr_iload_n dX6_readsRule_60 rfl ?_
      obtain ⟨h5, hh5, hF⟩ := po_b hF
      refine pr_iast dX6_readsRule_61 (hh5) ?_
      refine pr_aload_n dX6_readsRule_62 rfl ?_
      refine pr_aload_n dX6_readsRule_63 rfl ?_
      obtain ⟨v6, hv6, hF⟩ := po_b hF
      refine pr_getI dX6_readsRule_64 tf_6_123 (hv6) ?_
      refine pr_iconst (v := 1) dX6_readsRule_67 (kc_1) ?_
      refine pr_iadd dX6_readsRule_68 ?_
      obtain ⟨h7, hh7, hF⟩ := po_b hF
      refine pr_put dX6_readsRule_69 tp_6_123 (hh7) ?_
      refine pr_aload_n dX6_readsRule_72 rfl ?_
      obtain ⟨v8, hv8, hF⟩ := po_b hF
      refine pr_getR dX6_readsRule_73 tf_6_44 (hv8) ?_
      refine pr_aload_n dX6_readsRule_76 rfl ?_
      obtain ⟨v9, hv9, hF⟩ := po_b hF
      refine pr_getI dX6_readsRule_77 tf_6_201 (hv9) ?_
      refine pr_aload_n dX6_readsRule_80 rfl ?_
      obtain ⟨v10, hv10, hF⟩ := po_b hF
      refine pr_getI dX6_readsRule_81 tf_6_146 (hv10) ?_
      obtain ⟨h11, hh11, hF⟩ := po_b hF
      refine pr_iast dX6_readsRule_84 (hh11) ?_
      refine pr_aload_n dX6_readsRule_85 rfl ?_
      refine pr_iconst (v := 0) dX6_readsRule_86 (kc_0) ?_
      obtain ⟨h12, hh12, hF⟩ := po_b hF
      refine pr_put dX6_readsRule_87 tp_6_150 (hh12) ?_
      refine pr_aload_n dX6_readsRule_90 rfl ?_
      refine pr_iconst (v := 0) dX6_readsRule_91 (kc_0) ?_
      obtain ⟨h13, hh13, hF⟩ := po_b hF
      refine pr_put dX6_readsRule_92 tp_6_153 (hh13) ?_
      refine pr_iload_n dX6_readsRule_95 rfl ?_
      refine pr_bipush (v := 120) dX6_readsRule_96 (kb_120) ?_
      refine po_i hF (fun hc hF => ?_) (fun hc hF => ?_)
      · refine pr_icT (tgt := 110) dX6_readsRule_98 (by decide) (pc_eqT hc) ?_
        refine pr_aload_n dX6_readsRule_110 rfl ?_
        obtain ⟨v14, hv14, hF⟩ := po_b hF
        refine pr_getR dX6_readsRule_111 tf_6_47 (hv14) ?_
        refine pr_aload_n dX6_readsRule_114 rfl ?_
        obtain ⟨v15, hv15, hF⟩ := po_b hF
        refine pr_getI dX6_readsRule_115 tf_6_201 (hv15) ?_
        refine pr_aload_n dX6_readsRule_118 rfl ?_
        obtain ⟨v16, hv16, hF⟩ := po_b hF
        refine pr_getI dX6_readsRule_119 tf_6_146 (hv16) ?_
        obtain ⟨h17, hh17, hF⟩ := po_b hF
        refine pr_iast dX6_readsRule_122 (hh17) ?_
        refine pr_aload_n dX6_readsRule_123 rfl ?_
        obtain ⟨q18, hq18, hF⟩ := po_b hF
        refine po_i hq18 (fun hcl hq => ?_) (fun _ hq => nomatch hq)
        refine pr_V (as := []) (rest := []) dX6_readsRule_124 cv_6_204 hcl rfl rfl rfl rfl (lb rfl) (lb rfl) (lb rfl) (ok_F_X6_readsCondition hq) ?_
        refine po_i hF (fun hc hF => ?_) (fun hc hF => ?_)
        · refine pr_ifF (tgt := 132) dX6_readsRule_127 (by decide) (pc_neF hc) ?_
          refine pr_iconst (v := 0) dX6_readsRule_130 (kc_0) ?_
          cases hF
          exact pr_iret dX6_readsRule_131 rfl nb_0 rfl
        · refine pr_ifT (tgt := 132) dX6_readsRule_127 (by decide) (pc_neT hc) ?_
          refine pr_aload_n dX6_readsRule_132 rfl ?_
          obtain ⟨v19, hv19, hF⟩ := po_b hF
          refine pr_getR dX6_readsRule_133 tf_6_50 (hv19) ?_
          refine pr_aload_n dX6_readsRule_136 rfl ?_
          obtain ⟨v20, hv20, hF⟩ := po_b hF
          refine pr_getI dX6_readsRule_137 tf_6_201 (hv20) ?_
          refine pr_aload_n dX6_readsRule_140 rfl ?_
          obtain ⟨v21, hv21, hF⟩ := po_b hF
          refine pr_getI dX6_readsRule_141 tf_6_146 (hv21) ?_
          obtain ⟨h22, hh22, hF⟩ := po_b hF
          refine pr_iast dX6_readsRule_144 (hh22) ?_
          refine pr_aload_n dX6_readsRule_145 rfl ?_
          refine pr_aload_n dX6_readsRule_146 rfl ?_
          obtain ⟨v23, hv23, hF⟩ := po_b hF
          refine pr_getI dX6_readsRule_147 tf_6_201 (hv23) ?_
          refine pr_iconst (v := 1) dX6_readsRule_150 (kc_1) ?_
          refine pr_iadd dX6_readsRule_151 ?_
          obtain ⟨h24, hh24, hF⟩ := po_b hF
          refine pr_put dX6_readsRule_152 tp_6_201 (hh24) ?_
          refine pr_iconst (v := 1) dX6_readsRule_155 (kc_1) ?_
          cases hF
          exact pr_iret dX6_readsRule_156 rfl nb_1 rfl
      · refine pr_icF (tgt := 110) dX6_readsRule_98 (by decide) (pc_eqF hc) ?_
        refine pr_aload_n dX6_readsRule_101 rfl ?_
        obtain ⟨q25, hq25, hF⟩ := po_b hF
        refine po_i hq25 (fun hcl hq => ?_) (fun _ hq => nomatch hq)
        refine pr_V (as := []) (rest := []) dX6_readsRule_102 cv_6_186 hcl rfl rfl rfl rfl (lb rfl) (lb rfl) (lb rfl) (ok_F_X6_readsSum hq) ?_
        refine po_i hF (fun hc hF => ?_) (fun hc hF => ?_)
        · refine pr_ifF (tgt := 110) dX6_readsRule_105 (by decide) (pc_neF hc) ?_
          refine pr_iconst (v := 0) dX6_readsRule_108 (kc_0) ?_
          cases hF
          exact pr_iret dX6_readsRule_109 rfl nb_0 rfl
        · refine pr_ifT (tgt := 110) dX6_readsRule_105 (by decide) (pc_neT hc) ?_
          refine pr_aload_n dX6_readsRule_110 rfl ?_
          obtain ⟨v26, hv26, hF⟩ := po_b hF
          refine pr_getR dX6_readsRule_111 tf_6_47 (hv26) ?_
          refine pr_aload_n dX6_readsRule_114 rfl ?_
          obtain ⟨v27, hv27, hF⟩ := po_b hF
          refine pr_getI dX6_readsRule_115 tf_6_201 (hv27) ?_
          refine pr_aload_n dX6_readsRule_118 rfl ?_
          obtain ⟨v28, hv28, hF⟩ := po_b hF
          refine pr_getI dX6_readsRule_119 tf_6_146 (hv28) ?_
          obtain ⟨h29, hh29, hF⟩ := po_b hF
          refine pr_iast dX6_readsRule_122 (hh29) ?_
          refine pr_aload_n dX6_readsRule_123 rfl ?_
          obtain ⟨q30, hq30, hF⟩ := po_b hF
          refine po_i hq30 (fun hcl hq => ?_) (fun _ hq => nomatch hq)
          refine pr_V (as := []) (rest := []) dX6_readsRule_124 cv_6_204 hcl rfl rfl rfl rfl (lb rfl) (lb rfl) (lb rfl) (ok_F_X6_readsCondition hq) ?_
          refine po_i hF (fun hc hF => ?_) (fun hc hF => ?_)
          · refine pr_ifF (tgt := 132) dX6_readsRule_127 (by decide) (pc_neF hc) ?_
            refine pr_iconst (v := 0) dX6_readsRule_130 (kc_0) ?_
            cases hF
            exact pr_iret dX6_readsRule_131 rfl nb_0 rfl
          · refine pr_ifT (tgt := 132) dX6_readsRule_127 (by decide) (pc_neT hc) ?_
            refine pr_aload_n dX6_readsRule_132 rfl ?_
            obtain ⟨v31, hv31, hF⟩ := po_b hF
            refine pr_getR dX6_readsRule_133 tf_6_50 (hv31) ?_
            refine pr_aload_n dX6_readsRule_136 rfl ?_
            obtain ⟨v32, hv32, hF⟩ := po_b hF
            refine pr_getI dX6_readsRule_137 tf_6_201 (hv32) ?_
            refine pr_aload_n dX6_readsRule_140 rfl ?_
            obtain ⟨v33, hv33, hF⟩ := po_b hF
            refine pr_getI dX6_readsRule_141 tf_6_146 (hv33) ?_
            obtain ⟨h34, hh34, hF⟩ := po_b hF
            refine pr_iast dX6_readsRule_144 (hh34) ?_
            refine pr_aload_n dX6_readsRule_145 rfl ?_
            refine pr_aload_n dX6_readsRule_146 rfl ?_
            obtain ⟨v35, hv35, hF⟩ := po_b hF
            refine pr_getI dX6_readsRule_147 tf_6_201 (hv35) ?_
            refine pr_iconst (v := 1) dX6_readsRule_150 (kc_1) ?_
            refine pr_iadd dX6_readsRule_151 ?_
            obtain ⟨h36, hh36, hF⟩ := po_b hF
            refine pr_put dX6_readsRule_152 tp_6_201 (hh36) ?_
            refine pr_iconst (v := 1) dX6_readsRule_155 (kc_1) ?_
            cases hF
            exact pr_iret dX6_readsRule_156 rfl nb_1 rfl
  · refine pr_icF (tgt := 33) dX6_readsRule_8 (by decide) (pc_eqF hc) ?_
    refine pr_iload_n dX6_readsRule_11 rfl ?_
    refine pr_bipush (v := 98) dX6_readsRule_12 (kb_98) ?_
    refine po_i hF (fun hc hF => ?_) (fun hc hF => ?_)
    · refine pr_icT (tgt := 33) dX6_readsRule_14 (by decide) (pc_eqT hc) ?_
      refine pr_aload_n dX6_readsRule_33 rfl ?_
      obtain ⟨v39, hv39, hF⟩ := po_b hF
      refine pr_getI dX6_readsRule_34 tf_6_201 (hv39) ?_
      refine pr_bipush (v := 16) dX6_readsRule_37 (kb_16) ?_
      refine po_i hF (fun hc hF => ?_) (fun hc hF => ?_)
      · refine pr_icF (tgt := 52) dX6_readsRule_39 (by decide) (pc_neF hc) ?_
        refine pr_aload_n dX6_readsRule_42 rfl ?_
        refine pr_iconst (v := 4) dX6_readsRule_43 (kc_4) ?_
        refine pr_aload_n dX6_readsRule_44 rfl ?_
        obtain ⟨v74, hv74, hF⟩ := po_b hF
        refine pr_getI dX6_readsRule_45 tf_6_123 (hv74) ?_
        obtain ⟨q75, hq75, hF⟩ := po_b hF
        refine po_i hq75 (fun hcl hq => ?_) (fun _ hq => nomatch hq)
        refine pr_V (as := [.int 4, .int v74]) (rest := []) dX6_readsRule_48 cv_6_136 hcl rfl rfl rfl rfl (lb rfl) (lb rfl) (lb rfl) (ok_F_X6_wrongAt hq) ?_
        refine po_i hF (fun hg hF => ?_) (fun _ hF => nomatch hF)
        cases hF
        exact pr_iret dX6_readsRule_51 rfl (nb_of hg) rfl
      · refine pr_icT (tgt := 52) dX6_readsRule_39 (by decide) (pc_neT hc) ?_
        refine pr_aload_n dX6_readsRule_52 rfl ?_
        obtain ⟨v40, hv40, hF⟩ := po_b hF
        refine pr_getR dX6_readsRule_53 tf_6_41 (hv40) ?_
        refine pr_aload_n dX6_readsRule_56 rfl ?_
        obtain ⟨v41, hv41, hF⟩ := po_b hF
        refine pr_getI dX6_readsRule_57 tf_6_201 (hv41) ?_
        refine pr_iload_n dX6_readsRule_60 rfl ?_
        obtain ⟨h42, hh42, hF⟩ := po_b hF
        refine pr_iast dX6_readsRule_61 (hh42) ?_
        refine pr_aload_n dX6_readsRule_62 rfl ?_
        refine pr_aload_n dX6_readsRule_63 rfl ?_
        obtain ⟨v43, hv43, hF⟩ := po_b hF
        refine pr_getI dX6_readsRule_64 tf_6_123 (hv43) ?_
        refine pr_iconst (v := 1) dX6_readsRule_67 (kc_1) ?_
        refine pr_iadd dX6_readsRule_68 ?_
        obtain ⟨h44, hh44, hF⟩ := po_b hF
        refine pr_put dX6_readsRule_69 tp_6_123 (hh44) ?_
        refine pr_aload_n dX6_readsRule_72 rfl ?_
        obtain ⟨v45, hv45, hF⟩ := po_b hF
        refine pr_getR dX6_readsRule_73 tf_6_44 (hv45) ?_
        refine pr_aload_n dX6_readsRule_76 rfl ?_
        obtain ⟨v46, hv46, hF⟩ := po_b hF
        refine pr_getI dX6_readsRule_77 tf_6_201 (hv46) ?_
        refine pr_aload_n dX6_readsRule_80 rfl ?_
        obtain ⟨v47, hv47, hF⟩ := po_b hF
        refine pr_getI dX6_readsRule_81 tf_6_146 (hv47) ?_
        obtain ⟨h48, hh48, hF⟩ := po_b hF
        refine pr_iast dX6_readsRule_84 (hh48) ?_
        refine pr_aload_n dX6_readsRule_85 rfl ?_
        refine pr_iconst (v := 0) dX6_readsRule_86 (kc_0) ?_
        obtain ⟨h49, hh49, hF⟩ := po_b hF
        refine pr_put dX6_readsRule_87 tp_6_150 (hh49) ?_
        refine pr_aload_n dX6_readsRule_90 rfl ?_
        refine pr_iconst (v := 0) dX6_readsRule_91 (kc_0) ?_
        obtain ⟨h50, hh50, hF⟩ := po_b hF
        refine pr_put dX6_readsRule_92 tp_6_153 (hh50) ?_
        refine pr_iload_n dX6_readsRule_95 rfl ?_
        refine pr_bipush (v := 120) dX6_readsRule_96 (kb_120) ?_
        refine po_i hF (fun hc hF => ?_) (fun hc hF => ?_)
        · refine pr_icT (tgt := 110) dX6_readsRule_98 (by decide) (pc_eqT hc) ?_
          refine pr_aload_n dX6_readsRule_110 rfl ?_
          obtain ⟨v51, hv51, hF⟩ := po_b hF
          refine pr_getR dX6_readsRule_111 tf_6_47 (hv51) ?_
          refine pr_aload_n dX6_readsRule_114 rfl ?_
          obtain ⟨v52, hv52, hF⟩ := po_b hF
          refine pr_getI dX6_readsRule_115 tf_6_201 (hv52) ?_
          refine pr_aload_n dX6_readsRule_118 rfl ?_
          obtain ⟨v53, hv53, hF⟩ := po_b hF
          refine pr_getI dX6_readsRule_119 tf_6_146 (hv53) ?_
          obtain ⟨h54, hh54, hF⟩ := po_b hF
          refine pr_iast dX6_readsRule_122 (hh54) ?_
          refine pr_aload_n dX6_readsRule_123 rfl ?_
          obtain ⟨q55, hq55, hF⟩ := po_b hF
          refine po_i hq55 (fun hcl hq => ?_) (fun _ hq => nomatch hq)
          refine pr_V (as := []) (rest := []) dX6_readsRule_124 cv_6_204 hcl rfl rfl rfl rfl (lb rfl) (lb rfl) (lb rfl) (ok_F_X6_readsCondition hq) ?_
          refine po_i hF (fun hc hF => ?_) (fun hc hF => ?_)
          · refine pr_ifF (tgt := 132) dX6_readsRule_127 (by decide) (pc_neF hc) ?_
            refine pr_iconst (v := 0) dX6_readsRule_130 (kc_0) ?_
            cases hF
            exact pr_iret dX6_readsRule_131 rfl nb_0 rfl
          · refine pr_ifT (tgt := 132) dX6_readsRule_127 (by decide) (pc_neT hc) ?_
            refine pr_aload_n dX6_readsRule_132 rfl ?_
            obtain ⟨v56, hv56, hF⟩ := po_b hF
            refine pr_getR dX6_readsRule_133 tf_6_50 (hv56) ?_
            refine pr_aload_n dX6_readsRule_136 rfl ?_
            obtain ⟨v57, hv57, hF⟩ := po_b hF
            refine pr_getI dX6_readsRule_137 tf_6_201 (hv57) ?_
            refine pr_aload_n dX6_readsRule_140 rfl ?_
            obtain ⟨v58, hv58, hF⟩ := po_b hF
            refine pr_getI dX6_readsRule_141 tf_6_146 (hv58) ?_
            obtain ⟨h59, hh59, hF⟩ := po_b hF
            refine pr_iast dX6_readsRule_144 (hh59) ?_
            refine pr_aload_n dX6_readsRule_145 rfl ?_
            refine pr_aload_n dX6_readsRule_146 rfl ?_
            obtain ⟨v60, hv60, hF⟩ := po_b hF
            refine pr_getI dX6_readsRule_147 tf_6_201 (hv60) ?_
            refine pr_iconst (v := 1) dX6_readsRule_150 (kc_1) ?_
            refine pr_iadd dX6_readsRule_151 ?_
            obtain ⟨h61, hh61, hF⟩ := po_b hF
            refine pr_put dX6_readsRule_152 tp_6_201 (hh61) ?_
            refine pr_iconst (v := 1) dX6_readsRule_155 (kc_1) ?_
            cases hF
            exact pr_iret dX6_readsRule_156 rfl nb_1 rfl
        · refine pr_icF (tgt := 110) dX6_readsRule_98 (by decide) (pc_eqF hc) ?_
          refine pr_aload_n dX6_readsRule_101 rfl ?_
          obtain ⟨q62, hq62, hF⟩ := po_b hF
          refine po_i hq62 (fun hcl hq => ?_) (fun _ hq => nomatch hq)
          refine pr_V (as := []) (rest := []) dX6_readsRule_102 cv_6_186 hcl rfl rfl rfl rfl (lb rfl) (lb rfl) (lb rfl) (ok_F_X6_readsSum hq) ?_
          refine po_i hF (fun hc hF => ?_) (fun hc hF => ?_)
          · refine pr_ifF (tgt := 110) dX6_readsRule_105 (by decide) (pc_neF hc) ?_
            refine pr_iconst (v := 0) dX6_readsRule_108 (kc_0) ?_
            cases hF
            exact pr_iret dX6_readsRule_109 rfl nb_0 rfl
          · refine pr_ifT (tgt := 110) dX6_readsRule_105 (by decide) (pc_neT hc) ?_
            refine pr_aload_n dX6_readsRule_110 rfl ?_
            obtain ⟨v63, hv63, hF⟩ := po_b hF
            refine pr_getR dX6_readsRule_111 tf_6_47 (hv63) ?_
            refine pr_aload_n dX6_readsRule_114 rfl ?_
            obtain ⟨v64, hv64, hF⟩ := po_b hF
            refine pr_getI dX6_readsRule_115 tf_6_201 (hv64) ?_
            refine pr_aload_n dX6_readsRule_118 rfl ?_
            obtain ⟨v65, hv65, hF⟩ := po_b hF
            refine pr_getI dX6_readsRule_119 tf_6_146 (hv65) ?_
            obtain ⟨h66, hh66, hF⟩ := po_b hF
            refine pr_iast dX6_readsRule_122 (hh66) ?_
            refine pr_aload_n dX6_readsRule_123 rfl ?_
            obtain ⟨q67, hq67, hF⟩ := po_b hF
            refine po_i hq67 (fun hcl hq => ?_) (fun _ hq => nomatch hq)
            refine pr_V (as := []) (rest := []) dX6_readsRule_124 cv_6_204 hcl rfl rfl rfl rfl (lb rfl) (lb rfl) (lb rfl) (ok_F_X6_readsCondition hq) ?_
            refine po_i hF (fun hc hF => ?_) (fun hc hF => ?_)
            · refine pr_ifF (tgt := 132) dX6_readsRule_127 (by decide) (pc_neF hc) ?_
              refine pr_iconst (v := 0) dX6_readsRule_130 (kc_0) ?_
              cases hF
              exact pr_iret dX6_readsRule_131 rfl nb_0 rfl
            · refine pr_ifT (tgt := 132) dX6_readsRule_127 (by decide) (pc_neT hc) ?_
              refine pr_aload_n dX6_readsRule_132 rfl ?_
              obtain ⟨v68, hv68, hF⟩ := po_b hF
              refine pr_getR dX6_readsRule_133 tf_6_50 (hv68) ?_
              refine pr_aload_n dX6_readsRule_136 rfl ?_
              obtain ⟨v69, hv69, hF⟩ := po_b hF
              refine pr_getI dX6_readsRule_137 tf_6_201 (hv69) ?_
              refine pr_aload_n dX6_readsRule_140 rfl ?_
              obtain ⟨v70, hv70, hF⟩ := po_b hF
              refine pr_getI dX6_readsRule_141 tf_6_146 (hv70) ?_
              obtain ⟨h71, hh71, hF⟩ := po_b hF
              refine pr_iast dX6_readsRule_144 (hh71) ?_
              refine pr_aload_n dX6_readsRule_145 rfl ?_
              refine pr_aload_n dX6_readsRule_146 rfl ?_
              obtain ⟨v72, hv72, hF⟩ := po_b hF
              refine pr_getI dX6_readsRule_147 tf_6_201 (hv72) ?_
              refine pr_iconst (v := 1) dX6_readsRule_150 (kc_1) ?_
              refine pr_iadd dX6_readsRule_151 ?_
              obtain ⟨h73, hh73, hF⟩ := po_b hF
              refine pr_put dX6_readsRule_152 tp_6_201 (hh73) ?_
              refine pr_iconst (v := 1) dX6_readsRule_155 (kc_1) ?_
              cases hF
              exact pr_iret dX6_readsRule_156 rfl nb_1 rfl
    · refine pr_icF (tgt := 33) dX6_readsRule_14 (by decide) (pc_eqF hc) ?_
      refine pr_iload_n dX6_readsRule_17 rfl ?_
      refine pr_bipush (v := 120) dX6_readsRule_18 (kb_120) ?_
      refine po_i hF (fun hc hF => ?_) (fun hc hF => ?_)
      · refine pr_icT (tgt := 33) dX6_readsRule_20 (by decide) (pc_eqT hc) ?_
        refine pr_aload_n dX6_readsRule_33 rfl ?_
        obtain ⟨v76, hv76, hF⟩ := po_b hF
        refine pr_getI dX6_readsRule_34 tf_6_201 (hv76) ?_
        refine pr_bipush (v := 16) dX6_readsRule_37 (kb_16) ?_
        refine po_i hF (fun hc hF => ?_) (fun hc hF => ?_)
        · refine pr_icF (tgt := 52) dX6_readsRule_39 (by decide) (pc_neF hc) ?_
          refine pr_aload_n dX6_readsRule_42 rfl ?_
          refine pr_iconst (v := 4) dX6_readsRule_43 (kc_4) ?_
          refine pr_aload_n dX6_readsRule_44 rfl ?_
          obtain ⟨v111, hv111, hF⟩ := po_b hF
          refine pr_getI dX6_readsRule_45 tf_6_123 (hv111) ?_
          obtain ⟨q112, hq112, hF⟩ := po_b hF
          refine po_i hq112 (fun hcl hq => ?_) (fun _ hq => nomatch hq)
          refine pr_V (as := [.int 4, .int v111]) (rest := []) dX6_readsRule_48 cv_6_136 hcl rfl rfl rfl rfl (lb rfl) (lb rfl) (lb rfl) (ok_F_X6_wrongAt hq) ?_
          refine po_i hF (fun hg hF => ?_) (fun _ hF => nomatch hF)
          cases hF
          exact pr_iret dX6_readsRule_51 rfl (nb_of hg) rfl
        · refine pr_icT (tgt := 52) dX6_readsRule_39 (by decide) (pc_neT hc) ?_
          refine pr_aload_n dX6_readsRule_52 rfl ?_
          obtain ⟨v77, hv77, hF⟩ := po_b hF
          refine pr_getR dX6_readsRule_53 tf_6_41 (hv77) ?_
          refine pr_aload_n dX6_readsRule_56 rfl ?_
          obtain ⟨v78, hv78, hF⟩ := po_b hF
          refine pr_getI dX6_readsRule_57 tf_6_201 (hv78) ?_
          refine pr_iload_n dX6_readsRule_60 rfl ?_
          obtain ⟨h79, hh79, hF⟩ := po_b hF
          refine pr_iast dX6_readsRule_61 (hh79) ?_
          refine pr_aload_n dX6_readsRule_62 rfl ?_
          refine pr_aload_n dX6_readsRule_63 rfl ?_
          obtain ⟨v80, hv80, hF⟩ := po_b hF
          refine pr_getI dX6_readsRule_64 tf_6_123 (hv80) ?_
          refine pr_iconst (v := 1) dX6_readsRule_67 (kc_1) ?_
          refine pr_iadd dX6_readsRule_68 ?_
          obtain ⟨h81, hh81, hF⟩ := po_b hF
          refine pr_put dX6_readsRule_69 tp_6_123 (hh81) ?_
          refine pr_aload_n dX6_readsRule_72 rfl ?_
          obtain ⟨v82, hv82, hF⟩ := po_b hF
          refine pr_getR dX6_readsRule_73 tf_6_44 (hv82) ?_
          refine pr_aload_n dX6_readsRule_76 rfl ?_
          obtain ⟨v83, hv83, hF⟩ := po_b hF
          refine pr_getI dX6_readsRule_77 tf_6_201 (hv83) ?_
          refine pr_aload_n dX6_readsRule_80 rfl ?_
          obtain ⟨v84, hv84, hF⟩ := po_b hF
          refine pr_getI dX6_readsRule_81 tf_6_146 (hv84) ?_
          obtain ⟨h85, hh85, hF⟩ := po_b hF
          refine pr_iast dX6_readsRule_84 (hh85) ?_
          refine pr_aload_n dX6_readsRule_85 rfl ?_
          refine pr_iconst (v := 0) dX6_readsRule_86 (kc_0) ?_
          obtain ⟨h86, hh86, hF⟩ := po_b hF
          refine pr_put dX6_readsRule_87 tp_6_150 (hh86) ?_
          refine pr_aload_n dX6_readsRule_90 rfl ?_
          refine pr_iconst (v := 0) dX6_readsRule_91 (kc_0) ?_
          obtain ⟨h87, hh87, hF⟩ := po_b hF
          refine pr_put dX6_readsRule_92 tp_6_153 (hh87) ?_
          refine pr_iload_n dX6_readsRule_95 rfl ?_
          refine pr_bipush (v := 120) dX6_readsRule_96 (kb_120) ?_
          refine po_i hF (fun hc hF => ?_) (fun hc hF => ?_)
          · refine pr_icT (tgt := 110) dX6_readsRule_98 (by decide) (pc_eqT hc) ?_
            refine pr_aload_n dX6_readsRule_110 rfl ?_
            obtain ⟨v88, hv88, hF⟩ := po_b hF
            refine pr_getR dX6_readsRule_111 tf_6_47 (hv88) ?_
            refine pr_aload_n dX6_readsRule_114 rfl ?_
            obtain ⟨v89, hv89, hF⟩ := po_b hF
            refine pr_getI dX6_readsRule_115 tf_6_201 (hv89) ?_
            refine pr_aload_n dX6_readsRule_118 rfl ?_
            obtain ⟨v90, hv90, hF⟩ := po_b hF
            refine pr_getI dX6_readsRule_119 tf_6_146 (hv90) ?_
            obtain ⟨h91, hh91, hF⟩ := po_b hF
            refine pr_iast dX6_readsRule_122 (hh91) ?_
            refine pr_aload_n dX6_readsRule_123 rfl ?_
            obtain ⟨q92, hq92, hF⟩ := po_b hF
            refine po_i hq92 (fun hcl hq => ?_) (fun _ hq => nomatch hq)
            refine pr_V (as := []) (rest := []) dX6_readsRule_124 cv_6_204 hcl rfl rfl rfl rfl (lb rfl) (lb rfl) (lb rfl) (ok_F_X6_readsCondition hq) ?_
            refine po_i hF (fun hc hF => ?_) (fun hc hF => ?_)
            · refine pr_ifF (tgt := 132) dX6_readsRule_127 (by decide) (pc_neF hc) ?_
              refine pr_iconst (v := 0) dX6_readsRule_130 (kc_0) ?_
              cases hF
              exact pr_iret dX6_readsRule_131 rfl nb_0 rfl
            · refine pr_ifT (tgt := 132) dX6_readsRule_127 (by decide) (pc_neT hc) ?_
              refine pr_aload_n dX6_readsRule_132 rfl ?_
              obtain ⟨v93, hv93, hF⟩ := po_b hF
              refine pr_getR dX6_readsRule_133 tf_6_50 (hv93) ?_
              refine pr_aload_n dX6_readsRule_136 rfl ?_
              obtain ⟨v94, hv94, hF⟩ := po_b hF
              refine pr_getI dX6_readsRule_137 tf_6_201 (hv94) ?_
              refine pr_aload_n dX6_readsRule_140 rfl ?_
              obtain ⟨v95, hv95, hF⟩ := po_b hF
              refine pr_getI dX6_readsRule_141 tf_6_146 (hv95) ?_
              obtain ⟨h96, hh96, hF⟩ := po_b hF
              refine pr_iast dX6_readsRule_144 (hh96) ?_
              refine pr_aload_n dX6_readsRule_145 rfl ?_
              refine pr_aload_n dX6_readsRule_146 rfl ?_
              obtain ⟨v97, hv97, hF⟩ := po_b hF
              refine pr_getI dX6_readsRule_147 tf_6_201 (hv97) ?_
              refine pr_iconst (v := 1) dX6_readsRule_150 (kc_1) ?_
              refine pr_iadd dX6_readsRule_151 ?_
              obtain ⟨h98, hh98, hF⟩ := po_b hF
              refine pr_put dX6_readsRule_152 tp_6_201 (hh98) ?_
              refine pr_iconst (v := 1) dX6_readsRule_155 (kc_1) ?_
              cases hF
              exact pr_iret dX6_readsRule_156 rfl nb_1 rfl
          · refine pr_icF (tgt := 110) dX6_readsRule_98 (by decide) (pc_eqF hc) ?_
            refine pr_aload_n dX6_readsRule_101 rfl ?_
            obtain ⟨q99, hq99, hF⟩ := po_b hF
            refine po_i hq99 (fun hcl hq => ?_) (fun _ hq => nomatch hq)
            refine pr_V (as := []) (rest := []) dX6_readsRule_102 cv_6_186 hcl rfl rfl rfl rfl (lb rfl) (lb rfl) (lb rfl) (ok_F_X6_readsSum hq) ?_
            refine po_i hF (fun hc hF => ?_) (fun hc hF => ?_)
            · refine pr_ifF (tgt := 110) dX6_readsRule_105 (by decide) (pc_neF hc) ?_
              refine pr_iconst (v := 0) dX6_readsRule_108 (kc_0) ?_
              cases hF
              exact pr_iret dX6_readsRule_109 rfl nb_0 rfl
            · refine pr_ifT (tgt := 110) dX6_readsRule_105 (by decide) (pc_neT hc) ?_
              refine pr_aload_n dX6_readsRule_110 rfl ?_
              obtain ⟨v100, hv100, hF⟩ := po_b hF
              refine pr_getR dX6_readsRule_111 tf_6_47 (hv100) ?_
              refine pr_aload_n dX6_readsRule_114 rfl ?_
              obtain ⟨v101, hv101, hF⟩ := po_b hF
              refine pr_getI dX6_readsRule_115 tf_6_201 (hv101) ?_
              refine pr_aload_n dX6_readsRule_118 rfl ?_
              obtain ⟨v102, hv102, hF⟩ := po_b hF
              refine pr_getI dX6_readsRule_119 tf_6_146 (hv102) ?_
              obtain ⟨h103, hh103, hF⟩ := po_b hF
              refine pr_iast dX6_readsRule_122 (hh103) ?_
              refine pr_aload_n dX6_readsRule_123 rfl ?_
              obtain ⟨q104, hq104, hF⟩ := po_b hF
              refine po_i hq104 (fun hcl hq => ?_) (fun _ hq => nomatch hq)
              refine pr_V (as := []) (rest := []) dX6_readsRule_124 cv_6_204 hcl rfl rfl rfl rfl (lb rfl) (lb rfl) (lb rfl) (ok_F_X6_readsCondition hq) ?_
              refine po_i hF (fun hc hF => ?_) (fun hc hF => ?_)
              · refine pr_ifF (tgt := 132) dX6_readsRule_127 (by decide) (pc_neF hc) ?_
                refine pr_iconst (v := 0) dX6_readsRule_130 (kc_0) ?_
                cases hF
                exact pr_iret dX6_readsRule_131 rfl nb_0 rfl
              · refine pr_ifT (tgt := 132) dX6_readsRule_127 (by decide) (pc_neT hc) ?_
                refine pr_aload_n dX6_readsRule_132 rfl ?_
                obtain ⟨v105, hv105, hF⟩ := po_b hF
                refine pr_getR dX6_readsRule_133 tf_6_50 (hv105) ?_
                refine pr_aload_n dX6_readsRule_136 rfl ?_
                obtain ⟨v106, hv106, hF⟩ := po_b hF
                refine pr_getI dX6_readsRule_137 tf_6_201 (hv106) ?_
                refine pr_aload_n dX6_readsRule_140 rfl ?_
                obtain ⟨v107, hv107, hF⟩ := po_b hF
                refine pr_getI dX6_readsRule_141 tf_6_146 (hv107) ?_
                obtain ⟨h108, hh108, hF⟩ := po_b hF
                refine pr_iast dX6_readsRule_144 (hh108) ?_
                refine pr_aload_n dX6_readsRule_145 rfl ?_
                refine pr_aload_n dX6_readsRule_146 rfl ?_
                obtain ⟨v109, hv109, hF⟩ := po_b hF
                refine pr_getI dX6_readsRule_147 tf_6_201 (hv109) ?_
                refine pr_iconst (v := 1) dX6_readsRule_150 (kc_1) ?_
                refine pr_iadd dX6_readsRule_151 ?_
                obtain ⟨h110, hh110, hF⟩ := po_b hF
                refine pr_put dX6_readsRule_152 tp_6_201 (hh110) ?_
                refine pr_iconst (v := 1) dX6_readsRule_155 (kc_1) ?_
                cases hF
                exact pr_iret dX6_readsRule_156 rfl nb_1 rfl
      · refine pr_icF (tgt := 33) dX6_readsRule_20 (by decide) (pc_eqF hc) ?_
        refine pr_aload_n dX6_readsRule_23 rfl ?_
        refine pr_iconst (v := 1) dX6_readsRule_24 (kc_1) ?_
        refine pr_aload_n dX6_readsRule_25 rfl ?_
        obtain ⟨v113, hv113, hF⟩ := po_b hF
        refine pr_getI dX6_readsRule_26 tf_6_123 (hv113) ?_
        obtain ⟨q114, hq114, hF⟩ := po_b hF
        refine po_i hq114 (fun hcl hq => ?_) (fun _ hq => nomatch hq)
        refine pr_V (as := [.int 1, .int v113]) (rest := []) dX6_readsRule_29 cv_6_136 hcl rfl rfl rfl rfl (lb rfl) (lb rfl) (lb rfl) (ok_F_X6_wrongAt hq) ?_
        refine po_i hF (fun hg hF => ?_) (fun _ hF => nomatch hF)
        cases hF
        exact pr_iret dX6_readsRule_32 rfl (nb_of hg) rfl
