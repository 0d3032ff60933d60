set_option maxRecDepth 100000
def L_X18_read_2 : Nat → Nat → Int32 → pm_H → Option (pm_H)
  | 0, _, _, _ => none
  | n + 1, x0, x1, h =>
    if x1 = 0 then
      some h
    else
      (if pm_cl_ h x0 = some 14 then F_X18_two h x0 else none).bind fun q1 =>
      (if pm_cl_ q1 x0 = some 14 then F_X16_isGood q1 x0 else none).bind fun q2 =>
      if q2 = 0 then
        L_X18_read_2 n x0 0 q1
      else
        (if pm_cl_ q1 x0 = some 14 then F_X16_isEnd q1 x0 else none).bind fun q3 =>
        if q3 = 0 then
          L_X18_read_2 n x0 1 q1
        else
          L_X18_read_2 n x0 0 q1
theorem ok_L_X18_read_2 {d : Nat} : ∀ (n : Nat) {x0 : Nat} {x1 : Int32} {h : pm_H} {q : pm_H} {res : Option Value × pm_H}, L_X18_read_2 n x0 x1 h = some q → (∀ z1 : Value, pm_nolong z1 = true → pm_E (d + 3) 18 cX18_read (some .int) 33 [.ref x0, z1] [] q res) → pm_E (d + 3) 18 cX18_read (some .int) 2 [.ref x0, .int x1] [] h res := by
  intro n
  induction n with
  | zero =>
    intro x0 x1 h q res hF hk
    rw [L_X18_read_2] at hF
    cases hF
  | succ n ih =>
    intro x0 x1 h q res hF hk
    rw [L_X18_read_2] at hF
    refine pr_iload_n dX18_read_2 rfl ?_
    refine po_i hF (fun hc hF => ?_) (fun hc hF => ?_)
    · refine pr_ifT (tgt := 33) dX18_read_3 (by decide) (pc_eqT hc) ?_
      cases hF
      exact hk _ rfl
    · refine pr_ifF (tgt := 33) dX18_read_3 (by decide) (pc_eqF hc) ?_
      refine pr_aload_n dX18_read_6 rfl ?_
      obtain ⟨q1, hq1, hF⟩ := po_b hF
      refine po_i hq1 (fun hcl hq => ?_) (fun _ hq => nomatch hq)
      refine pr_V (as := []) (rest := []) dX18_read_7 cv_18_73 hcl rfl rfl rfl rfl (lb rfl) (lb rfl) (lb rfl) (ok_F_X18_two hq) ?_
      refine pr_aload_n dX18_read_10 rfl ?_
      obtain ⟨q2, hq2, hF⟩ := po_b hF
      refine po_i hq2 (fun hcl hq => ?_) (fun _ hq => nomatch hq)
      refine pr_V (as := []) (rest := []) dX18_read_11 cv_18_35 hcl rfl rfl rfl rfl (lb rfl) (lb rfl) (lb rfl) (ok_F_X16_isGood hq) ?_
      refine po_i hF (fun hc hF => ?_) (fun hc hF => ?_)
      · refine pr_ifT (tgt := 28) dX18_read_14 (by decide) (pc_eqT hc) ?_
        refine pr_iconst (v := 0) dX18_read_28 (kc_0) ?_
        refine pr_istore_n (L' := [.ref x0, .int 0]) dX18_read_29 rfl ?_
        refine pr_goto (tgt := 2) dX18_read_30 (by decide) ?_
        exact ih hF hk
      · refine pr_ifF (tgt := 28) dX18_read_14 (by decide) (pc_eqF hc) ?_
        refine pr_aload_n dX18_read_17 rfl ?_
        obtain ⟨q3, hq3, hF⟩ := po_b hF
        refine po_i hq3 (fun hcl hq => ?_) (fun _ hq => nomatch hq)
        refine pr_V (as := []) (rest := []) dX18_read_18 cv_18_77 hcl rfl rfl rfl rfl (lb rfl) (lb rfl) (lb rfl) (ok_F_X16_isEnd hq) ?_
        refine po_i hF (fun hc hF => ?_) (fun hc hF => ?_)
        · refine pr_ifF (tgt := 28) dX18_read_21 (by decide) (pc_neF hc) ?_
          refine pr_iconst (v := 1) dX18_read_24 (kc_1) ?_
          refine pr_goto (tgt := 29) dX18_read_25 (by decide) ?_
          refine pr_istore_n (L' := [.ref x0, .int 1]) dX18_read_29 rfl ?_
          refine pr_goto (tgt := 2) dX18_read_30 (by decide) ?_
          exact ih hF hk
        · refine pr_ifT (tgt := 28) dX18_read_21 (by decide) (pc_neT hc) ?_
          refine pr_iconst (v := 0) dX18_read_28 (kc_0) ?_
          refine pr_istore_n (L' := [.ref x0, .int 0]) dX18_read_29 rfl ?_
          refine pr_goto (tgt := 2) dX18_read_30 (by decide) ?_
          exact ih hF hk
def F_X18_read (n : Nat) (h : pm_H) (a0 : Nat) : Option (Int32 × pm_H) :=
  (L_X18_read_2 n a0 1 h).bind fun q4 =>
  (pm_fI [(14, 7)] q4 a0).bind fun v5 =>
  (if pm_cl_ q4 a0 = some 14 then F_X16_answer q4 a0 v5 else none).bind fun q6 =>
  some (q6, q4)
theorem ok_F_X18_read {d n : Nat} {h : pm_H} {a0 : Nat} {q : Int32 × pm_H} (hF : F_X18_read n h a0 = some q) : pm_E (d + 3) 18 cX18_read (some .int) 0 [.ref a0, pm_D] [] h (some (.int q.1), q.2) := by
  unfold F_X18_read at hF
  refine pr_iconst (v := 1) dX18_read_0 (kc_1) ?_
  refine pr_istore_n (L' := [.ref a0, .int 1]) dX18_read_1 rfl ?_
  obtain ⟨q4, hq4, hF⟩ := po_b hF
  refine ok_L_X18_read_2 n hq4 (fun z1 hz1 => ?_)
  refine pr_aload_n dX18_read_33 rfl ?_
  refine pr_aload_n dX18_read_34 rfl ?_
  obtain ⟨v5, hv5, hF⟩ := po_b hF
  refine pr_getI dX18_read_35 tf_18_61 (hv5) ?_
  obtain ⟨q6, hq6, hF⟩ := po_b hF
  refine po_i hq6 (fun hcl hq => ?_) (fun _ hq => nomatch hq)
  refine pr_V (as := [.int v5]) (rest := []) dX18_read_38 cv_18_80 hcl rfl rfl rfl rfl (lb rfl) (lb rfl) (lb rfl) (ok_F_X16_answer hq) ?_
  cases hF
  exact pr_iret dX18_read_41 rfl rfl rfl

def F_X0_dance (n : Nat) (h : pm_H) (a0 : Nat) (x1 : Int32) (x2 : Int32) : Option (Int32 × pm_H) :=
  (F_X0_within x1 1 100).bind fun q1 =>
  if q1 = 0 then
    some ((-1), h)
  else
    (F_X0_in x2 3).bind fun q2 =>
    if q2 = 0 then
      some ((-1), h)
    else
      (pm_fI [(0, 8)] h a0).bind fun v3 =>
      if v3 < x1 then
        some ((-1), h)
      else
        (pm_put [(0, 8, 0)] h a0 (.int 0)).bind fun h4 =>
        (F_X18_init n (pm_nw h4 14) h4.2.1 a0 x1).bind fun q5 =>
        (if pm_cl_ q5 h4.2.1 = some 14 then F_X18_read n q5 h4.2.1 else none).bind fun q6 =>
        if q6.1 < 0 then
          some (q6.1, q6.2)
        else
        if x2 = 0 then
          some (q6.1, q6.2)
        else
        if x2 = 1 then
          (pm_fR [(0, 0)] q6.2 a0).bind fun v8 =>
          (pm_fI [(1, 3)] q6.2 v8).bind fun v9 =>
          (pm_fR [(0, 0)] q6.2 a0).bind fun v10 =>
          (pm_fI [(1, 2)] q6.2 v10).bind fun v11 =>
          (pm_fI [(14, 6)] q6.2 h4.2.1).bind fun v12 =>
          some ((v9 &&& v11) &&& (v12 ^^^ (-1)), q6.2)
        else
          (pm_fI [(14, 8)] q6.2 h4.2.1).bind fun v7 =>
          some (v7, q6.2)
theorem ok_F_X0_dance {d n : Nat} {h : pm_H} {a0 : Nat} {x1 : Int32} {x2 : Int32} {q : Int32 × pm_H} (hF : F_X0_dance n h a0 x1 x2 = some q) : pm_E (d + 4) 0 cX0_dance (some .int) 0 [.ref a0, .int x1, .int x2, pm_D, pm_D] [] h (some (.int q.1), q.2) := by
  unfold F_X0_dance at hF
  refine pr_iload_n dX0_dance_0 rfl ?_
  refine pr_iconst (v := 1) dX0_dance_1 (kc_1) ?_
  refine pr_bipush (v := 100) dX0_dance_2 (kb_100) ?_
  obtain ⟨q1, hq1, hF⟩ := po_b hF
  refine pr_S dX0_dance_4 cs_0_120 (as := [.int x1, .int 1, .int 100]) (rest := []) rfl rfl rfl (lb rfl) (lb rfl) (lb rfl) (ok_F_X0_within hq1) ?_
  refine po_i hF (fun hc hF => ?_) (fun hc hF => ?_)
  · refine pr_ifT (tgt := 26) dX0_dance_7 (by decide) (pc_eqT hc) ?_
    refine pr_iconst (v := (-1)) dX0_dance_26 (kc_m1) ?_
    cases hF
    exact pr_iret dX0_dance_27 rfl rfl rfl
  · refine pr_ifF (tgt := 26) dX0_dance_7 (by decide) (pc_eqF hc) ?_
    refine pr_iload_n dX0_dance_10 rfl ?_
    refine pr_iconst (v := 3) dX0_dance_11 (kc_3) ?_
    obtain ⟨q2, hq2, hF⟩ := po_b hF
    refine pr_S dX0_dance_12 cs_0_144 (as := [.int x2, .int 3]) (rest := []) rfl rfl rfl (lb rfl) (lb rfl) (lb rfl) (ok_F_X0_in hq2) ?_
    refine po_i hF (fun hc hF => ?_) (fun hc hF => ?_)
    · refine pr_ifT (tgt := 26) dX0_dance_15 (by decide) (pc_eqT hc) ?_
      refine pr_iconst (v := (-1)) dX0_dance_26 (kc_m1) ?_
      cases hF
      exact pr_iret dX0_dance_27 rfl rfl rfl
    · refine pr_ifF (tgt := 26) dX0_dance_15 (by decide) (pc_eqF hc) ?_
      refine pr_iload_n dX0_dance_18 rfl ?_
      refine pr_aload_n dX0_dance_19 rfl ?_
      obtain ⟨v3, hv3, hF⟩ := po_b hF
      refine pr_getI dX0_dance_20 tf_0_113 (hv3) ?_
      refine po_i hF (fun hc hF => ?_) (fun hc hF => ?_)
      · refine pr_icF (tgt := 28) dX0_dance_23 (by decide) (pc_leF hc) ?_
        refine pr_iconst (v := (-1)) dX0_dance_26 (kc_m1) ?_
        cases hF
        exact pr_iret dX0_dance_27 rfl rfl rfl
      · refine pr_icT (tgt := 28) dX0_dance_23 (by decide) (pc_leT hc) ?_
        refine pr_aload_n dX0_dance_28 rfl ?_
        refine pr_iconst (v := 0) dX0_dance_29 (kc_0) ?_
        obtain ⟨h4, hh4, hF⟩ := po_b hF
        refine pr_put dX0_dance_30 tp_0_113 (hh4) ?_
        refine pr_new (c := 14) dX0_dance_33 rfl ?_
        refine pr_dup dX0_dance_36 rfl ?_
        refine pr_aload_n dX0_dance_37 rfl ?_
        refine pr_iload_n dX0_dance_38 rfl ?_
        obtain ⟨q5, hq5, hF⟩ := po_b hF
        refine pr_I dX0_dance_39 ci_0_150 (as := [.ref a0, .int x1]) (rest := [.ref h4.2.1]) rfl rfl rfl (lb rfl) (lb rfl) (lb rfl) (ok_F_X18_init hq5) ?_
        refine pr_astore_n (L' := [.ref a0, .int x1, .int x2, .ref h4.2.1, pm_D]) dX0_dance_42 (Or.inr ⟨_, rfl⟩) rfl ?_
        refine pr_aload_n dX0_dance_43 rfl ?_
        obtain ⟨q6, hq6, hF⟩ := po_b hF
        refine po_i hq6 (fun hcl hq => ?_) (fun _ hq => nomatch hq)
        refine pr_V (as := []) (rest := []) dX0_dance_44 cv_0_151 hcl rfl rfl rfl rfl (lb rfl) (lb rfl) (lb rfl) (ok_F_X18_read hq) ?_
        refine pr_istore (L' := [.ref a0, .int x1, .int x2, .ref h4.2.1, .int q6.1]) dX0_dance_47 rfl ?_
        refine pr_iload dX0_dance_49 rfl ?_
        refine po_i hF (fun hc hF => ?_) (fun hc hF => ?_)
        · refine pr_ifT (tgt := 58) dX0_dance_51 (by decide) (pc_ltT hc) ?_
          refine pr_iload dX0_dance_58 rfl ?_
          refine pr_goto (tgt := 97) dX0_dance_60 (by decide) ?_
          cases hF
          exact pr_iret dX0_dance_97 rfl rfl rfl
        · refine pr_ifF (tgt := 58) dX0_dance_51 (by decide) (pc_ltF hc) ?_
          refine pr_iload_n dX0_dance_54 rfl ?_
          refine po_i hF (fun hc hF => ?_) (fun hc hF => ?_)
          · refine pr_ifF (tgt := 63) dX0_dance_55 (by decide) (pc_neF hc) ?_
            refine pr_iload dX0_dance_58 rfl ?_
            refine pr_goto (tgt := 97) dX0_dance_60 (by decide) ?_
            cases hF
            exact pr_iret dX0_dance_97 rfl rfl rfl
          · refine pr_ifT (tgt := 63) dX0_dance_55 (by decide) (pc_neT hc) ?_
            refine pr_iload_n dX0_dance_63 rfl ?_
            refine pr_iconst (v := 1) dX0_dance_64 (kc_1) ?_
            refine po_i hF (fun hc hF => ?_) (fun hc hF => ?_)
            · refine pr_icF (tgt := 93) dX0_dance_65 (by decide) (pc_neF hc) ?_
              refine pr_aload_n dX0_dance_68 rfl ?_
              obtain ⟨v8, hv8, hF⟩ := po_b hF
              refine pr_getR dX0_dance_69 tf_0_16 (hv8) ?_
              obtain ⟨v9, hv9, hF⟩ := po_b hF
              refine pr_getI dX0_dance_72 tf_0_152 (hv9) ?_
              refine pr_aload_n dX0_dance_75 rfl ?_
              obtain ⟨v10, hv10, hF⟩ := po_b hF
              refine pr_getR dX0_dance_76 tf_0_16 (hv10) ?_
              obtain ⟨v11, hv11, hF⟩ := po_b hF
              refine pr_getI dX0_dance_79 tf_0_22 (hv11) ?_
              refine pr_iand dX0_dance_82 ?_
              refine pr_aload_n dX0_dance_83 rfl ?_
              obtain ⟨v12, hv12, hF⟩ := po_b hF
              refine pr_getI dX0_dance_84 tf_0_155 (hv12) ?_
              refine pr_iconst (v := (-1)) dX0_dance_87 (kc_m1) ?_
              refine pr_ixor dX0_dance_88 ?_
              refine pr_iand dX0_dance_89 ?_
              refine pr_goto (tgt := 97) dX0_dance_90 (by decide) ?_
              cases hF
              exact pr_iret dX0_dance_97 rfl rfl rfl
            · refine pr_icT (tgt := 93) dX0_dance_65 (by decide) (pc_neT hc) ?_
              refine pr_aload_n dX0_dance_93 rfl ?_
              obtain ⟨v7, hv7, hF⟩ := po_b hF
              refine pr_getI dX0_dance_94 tf_0_158 (hv7) ?_
              cases hF
              exact pr_iret dX0_dance_97 rfl rfl rfl

def F_X4_draw (h : pm_H) (a0 : Nat) : Option (Int32 × pm_H) :=
  (pm_fI [(3, 4)] h a0).bind fun v1 =>
  (pm_put [(3, 4, 0)] h a0 (.int (pm_rem ((25173 * v1) + 13849) 65536))).bind fun h2 =>
  (pm_fI [(3, 4)] h2 a0).bind fun v3 =>
  some (pm_rem v3 10, h2)
theorem ok_F_X4_draw {d : Nat} {h : pm_H} {a0 : Nat} {q : Int32 × pm_H} (hF : F_X4_draw h a0 = some q) : pm_E (d + 0) 4 cX4_draw (some .int) 0 [.ref a0] [] h (some (.int q.1), q.2) := by
  unfold F_X4_draw at hF
  refine pr_aload_n dX4_draw_0 rfl ?_
  refine pr_sipush (v := 25173) dX4_draw_1 (ks_25173) ?_
  refine pr_aload_n dX4_draw_4 rfl ?_
  obtain ⟨v1, hv1, hF⟩ := po_b hF
  refine pr_getI dX4_draw_5 tf_4_34 (hv1) ?_
  refine pr_imul dX4_draw_8 ?_
  refine pr_sipush (v := 13849) dX4_draw_9 (ks_13849) ?_
  refine pr_iadd dX4_draw_12 ?_
  refine pr_ldc (v := 65536) dX4_draw_13 rfl ?_
  refine pr_irem dX4_draw_15 (by decide) ?_
  obtain ⟨h2, hh2, hF⟩ := po_b hF
  refine pr_put dX4_draw_16 tp_4_34 (hh2) ?_
  refine pr_aload_n dX4_draw_19 rfl ?_
  obtain ⟨v3, hv3, hF⟩ := po_b hF
  refine pr_getI dX4_draw_20 tf_4_34 (hv3) ?_
  refine pr_bipush (v := 10) dX4_draw_23 (kb_10) ?_
  refine pr_irem dX4_draw_25 (by decide) ?_
  cases hF
  exact pr_iret dX4_draw_26 rfl rfl rfl

def F_X3_of (h : pm_H) (a0 : Nat) (x1 : Int32) (x2 : Int32) (x3 : Int32) (x4 : Int32) (x5 : Int32) (x6 : Int32) : Option ((Option Nat) × pm_H) :=
  (pm_put [(2, 1, 0)] h a0 (.int x1)).bind fun h1 =>
  (pm_put [(2, 2, 0)] h1 a0 (.int 0)).bind fun h2 =>
  (pm_put [(2, 3, 0)] h2 a0 (.int x2)).bind fun h3 =>
  (pm_put [(2, 4, 0)] h3 a0 (.int 0)).bind fun h4 =>
  (pm_put [(2, 5, 0)] h4 a0 (.int 0)).bind fun h5 =>
  (pm_put [(2, 6, 0)] h5 a0 (.int 0)).bind fun h6 =>
  (pm_put [(2, 7, 0)] h6 a0 (.int x3)).bind fun h7 =>
  (pm_put [(2, 8, 0)] h7 a0 (.int x4)).bind fun h8 =>
  (pm_put [(2, 9, 0)] h8 a0 (.int (pm_rem x5 100))).bind fun h9 =>
  (pm_put [(2, 10, 0)] h9 a0 (.int x6)).bind fun h10 =>
  some ((some a0), h10)
theorem ok_F_X3_of {d : Nat} {h : pm_H} {a0 : Nat} {x1 : Int32} {x2 : Int32} {x3 : Int32} {x4 : Int32} {x5 : Int32} {x6 : Int32} {q : (Option Nat) × pm_H} (hF : F_X3_of h a0 x1 x2 x3 x4 x5 x6 = some q) : pm_E (d + 0) 3 cX3_of (some (.object "AnyKeyTown$Moment")) 0 [.ref a0, .int x1, .int x2, .int x3, .int x4, .int x5, .int x6] [] h (some (va_rf q.1), q.2) := by
  unfold F_X3_of at hF
  refine pr_aload_n dX3_of_0 rfl ?_
  refine pr_iload_n dX3_of_1 rfl ?_
  obtain ⟨h1, hh1, hF⟩ := po_b hF
  refine pr_put dX3_of_2 tp_3_9 (hh1) ?_
  refine pr_aload_n dX3_of_5 rfl ?_
  refine pr_iconst (v := 0) dX3_of_6 (kc_0) ?_
  obtain ⟨h2, hh2, hF⟩ := po_b hF
  refine pr_put dX3_of_7 tp_3_15 (hh2) ?_
  refine pr_aload_n dX3_of_10 rfl ?_
  refine pr_iload_n dX3_of_11 rfl ?_
  obtain ⟨h3, hh3, hF⟩ := po_b hF
  refine pr_put dX3_of_12 tp_3_18 (hh3) ?_
  refine pr_aload_n dX3_of_15 rfl ?_
  refine pr_iconst (v := 0) dX3_of_16 (kc_0) ?_
  obtain ⟨h4, hh4, hF⟩ := po_b hF
  refine pr_put dX3_of_17 tp_3_21 (hh4) ?_
  refine pr_aload_n dX3_of_20 rfl ?_
  refine pr_iconst (v := 0) dX3_of_21 (kc_0) ?_
  obtain ⟨h5, hh5, hF⟩ := po_b hF
  refine pr_put dX3_of_22 tp_3_24 (hh5) ?_
  refine pr_aload_n dX3_of_25 rfl ?_
  refine pr_iconst (v := 0) dX3_of_26 (kc_0) ?_
  obtain ⟨h6, hh6, hF⟩ := po_b hF
  refine pr_put dX3_of_27 tp_3_27 (hh6) ?_
  refine pr_aload_n dX3_of_30 rfl ?_
  refine pr_iload_n dX3_of_31 rfl ?_
  obtain ⟨h7, hh7, hF⟩ := po_b hF
  refine pr_put dX3_of_32 tp_3_30 (hh7) ?_
  refine pr_aload_n dX3_of_35 rfl ?_
  refine pr_iload dX3_of_36 rfl ?_
  obtain ⟨h8, hh8, hF⟩ := po_b hF
  refine pr_put dX3_of_38 tp_3_33 (hh8) ?_
  refine pr_aload_n dX3_of_41 rfl ?_
  refine pr_iload dX3_of_42 rfl ?_
  refine pr_bipush (v := 100) dX3_of_44 (kb_100) ?_
  refine pr_irem dX3_of_46 (by decide) ?_
  obtain ⟨h9, hh9, hF⟩ := po_b hF
  refine pr_put dX3_of_47 tp_3_36 (hh9) ?_
  refine pr_aload_n dX3_of_50 rfl ?_
  refine pr_iload dX3_of_51 rfl ?_
  obtain ⟨h10, hh10, hF⟩ := po_b hF
  refine pr_put dX3_of_53 tp_3_39 (hh10) ?_
  refine pr_aload_n dX3_of_56 rfl ?_
  cases hF
  exact pr_aret dX3_of_57 rfl (Or.inr ⟨_, rfl⟩) rfl

def F_X4_asked (h : pm_H) (a0 : Nat) (x1 : Int32) (x2 : Int32) : Option ((Option Nat) × pm_H) :=
  (pm_fR [(3, 9)] h a0).bind fun v1 =>
  (pm_fR [(0, 2)] h v1).bind fun v2 =>
  (pm_fR [(3, 9)] h a0).bind fun v3 =>
  (pm_fR [(0, 0)] h v3).bind fun v4 =>
  (pm_fR [(1, 0)] h v4).bind fun v5 =>
  (pm_ai 0 h v5 x1).bind fun v6 =>
  (pm_fR [(3, 1)] h a0).bind fun v7 =>
  (pm_ai 0 h v7 x1).bind fun v8 =>
  (pm_fI [(3, 7)] h a0).bind fun v9 =>
  (pm_fR [(3, 9)] h a0).bind fun v10 =>
  (pm_fR [(0, 0)] h v10).bind fun v11 =>
  (pm_fI [(1, 3)] h v11).bind fun v12 =>
  (F_J6_bitCount (v9 &&& v12)).bind fun q13 =>
  (pm_fI [(3, 3)] h a0).bind fun v14 =>
  (if pm_cl_ h v2 = some 2 then F_X3_of h v2 x1 v6 v8 q13 v14 x2 else none).bind fun q15 =>
  some (q15.1, q15.2)
theorem ok_F_X4_asked {d : Nat} {h : pm_H} {a0 : Nat} {x1 : Int32} {x2 : Int32} {q : (Option Nat) × pm_H} (hF : F_X4_asked h a0 x1 x2 = some q) : pm_E (d + 1) 4 cX4_asked (some (.object "AnyKeyTown$Moment")) 0 [.ref a0, .int x1, .int x2] [] h (some (va_rf q.1), q.2) := by
  unfold F_X4_asked at hF
  refine pr_aload_n dX4_asked_0 rfl ?_
  obtain ⟨v1, hv1, hF⟩ := po_b hF
  refine pr_getR dX4_asked_1 tf_4_3 (hv1) ?_
  obtain ⟨v2, hv2, hF⟩ := po_b hF
  refine pr_getR dX4_asked_4 tf_4_48 (hv2) ?_
  refine pr_iload_n dX4_asked_7 rfl ?_
  refine pr_aload_n dX4_asked_8 rfl ?_
  obtain ⟨v3, hv3, hF⟩ := po_b hF
  refine pr_getR dX4_asked_9 tf_4_3 (hv3) ?_
  obtain ⟨v4, hv4, hF⟩ := po_b hF
  refine pr_getR dX4_asked_12 tf_4_37 (hv4) ?_
  obtain ⟨v5, hv5, hF⟩ := po_b hF
  refine pr_getR dX4_asked_15 tf_4_52 (hv5) ?_
  refine pr_iload_n dX4_asked_18 rfl ?_
  obtain ⟨v6, hv6, hF⟩ := po_b hF
  refine pr_iald dX4_asked_19 (hv6) ?_
  refine pr_aload_n dX4_asked_20 rfl ?_
  obtain ⟨v7, hv7, hF⟩ := po_b hF
  refine pr_getR dX4_asked_21 tf_4_20 (hv7) ?_
  refine pr_iload_n dX4_asked_24 rfl ?_
  obtain ⟨v8, hv8, hF⟩ := po_b hF
  refine pr_iald dX4_asked_25 (hv8) ?_
  refine pr_aload_n dX4_asked_26 rfl ?_
  obtain ⟨v9, hv9, hF⟩ := po_b hF
  refine pr_getI dX4_asked_27 tf_4_55 (hv9) ?_
  refine pr_aload_n dX4_asked_30 rfl ?_
  obtain ⟨v10, hv10, hF⟩ := po_b hF
  refine pr_getR dX4_asked_31 tf_4_3 (hv10) ?_
  obtain ⟨v11, hv11, hF⟩ := po_b hF
  refine pr_getR dX4_asked_34 tf_4_37 (hv11) ?_
  obtain ⟨v12, hv12, hF⟩ := po_b hF
  refine pr_getI dX4_asked_37 tf_4_58 (hv12) ?_
  refine pr_iand dX4_asked_40 ?_
  obtain ⟨q13, hq13, hF⟩ := po_b hF
  refine pr_S dX4_asked_41 cs_4_61 (as := [.int (v9 &&& v12)]) (rest := [.int v8, .int v6, .int x1, .ref v2]) rfl rfl rfl (lb rfl) (lb rfl) (lb rfl) (ok_F_J6_bitCount hq13) ?_
  refine pr_aload_n dX4_asked_44 rfl ?_
  obtain ⟨v14, hv14, hF⟩ := po_b hF
  refine pr_getI dX4_asked_45 tf_4_31 (hv14) ?_
  refine pr_iload_n dX4_asked_48 rfl ?_
  obtain ⟨q15, hq15, hF⟩ := po_b hF
  refine po_i hq15 (fun hcl hq => ?_) (fun _ hq => nomatch hq)
  refine pr_V (as := [.int x1, .int v6, .int v8, .int q13, .int v14, .int x2]) (rest := []) dX4_asked_49 cv_4_67 hcl rfl rfl rfl rfl (lb rfl) (lb rfl) (lb rfl) (ok_F_X3_of hq) ?_
  cases hF
  exact pr_aret dX4_asked_52 rfl (pv_f _) rfl

def L_X5_says_2 (fH : pm_H → Nat → Nat → Option (Int32 × pm_H)) : Nat → Nat → Int32 → Nat → Int32 → pm_H → Option ((Int32 × pm_H) ⊕ (pm_H))
  | 0, _, _, _, _, _ => none
  | n + 1, x0, x1, x2, x3, h =>
    (pm_fI [(4, 3)] h x0).bind fun v1 =>
    if x3 < v1 then
      (pm_fR [(4, 0)] h x0).bind fun v2 =>
      (pm_ai 0 h v2 x3).bind fun v3 =>
      if v3 = x1 then
        (pm_fR [(4, 2)] h x0).bind fun v4 =>
        (pm_aR h v4 x3).bind fun v5 =>
        (fH h v5 x2).bind fun q6 =>
        if q6.1 = 1 then
          some (.inl (1, q6.2))
        else
          L_X5_says_2 fH n x0 x1 x2 (x3 + 1) q6.2
      else
        L_X5_says_2 fH n x0 x1 x2 (x3 + 1) h
    else
      some (.inr h)
theorem ok_L_X5_says_2 {d : Nat} {fH : pm_H → Nat → Nat → Option (Int32 × pm_H)} (hfH : ∀ {h : pm_H} {b a : Nat} {q : Int32 × pm_H}, fH h b a = some q → pm_Vok d pm_tgH h b [.ref a] (some (.int q.1)) q.2) : ∀ (n : Nat) {x0 : Nat} {x1 : Int32} {x2 : Nat} {x3 : Int32} {h : pm_H} {q : (Int32 × pm_H) ⊕ (pm_H)} {res : Option Value × pm_H}, L_X5_says_2 fH n x0 x1 x2 x3 h = some q → (∀ r, q = .inl r → res = (some (.int r.1), r.2)) → (∀ e, q = .inr e → ∀ z3 : Value, pm_nolong z3 = true → pm_E (d + 1) 5 cX5_says (some .boolean) 42 [.ref x0, .int x1, .ref x2, z3] [] e res) → pm_E (d + 1) 5 cX5_says (some .boolean) 2 [.ref x0, .int x1, .ref x2, .int x3] [] h res := by
  intro n
  induction n with
  | zero =>
    intro x0 x1 x2 x3 h q res hF hr hk
    rw [L_X5_says_2] at hF
    cases hF
  | succ n ih =>
    intro x0 x1 x2 x3 h q res hF hr hk
    rw [L_X5_says_2] at hF
    refine pr_iload_n dX5_says_2 rfl ?_
    refine pr_aload_n dX5_says_3 rfl ?_
    obtain ⟨v1, hv1, hF⟩ := po_b hF
    refine pr_getI dX5_says_4 tf_5_27 (hv1) ?_
    refine po_i hF (fun hc hF => ?_) (fun hc hF => ?_)
    · refine pr_icF (tgt := 42) dX5_says_7 (by decide) (pc_geF hc) ?_
      refine pr_aload_n dX5_says_10 rfl ?_
      obtain ⟨v2, hv2, hF⟩ := po_b hF
      refine pr_getR dX5_says_11 tf_5_9 (hv2) ?_
      refine pr_iload_n dX5_says_14 rfl ?_
      obtain ⟨v3, hv3, hF⟩ := po_b hF
      refine pr_iald dX5_says_15 (hv3) ?_
      refine pr_iload_n dX5_says_16 rfl ?_
      refine po_i hF (fun hc hF => ?_) (fun hc hF => ?_)
      · refine pr_icF (tgt := 36) dX5_says_17 (by decide) (pc_neF hc) ?_
        refine pr_aload_n dX5_says_20 rfl ?_
        obtain ⟨v4, hv4, hF⟩ := po_b hF
        refine pr_getR dX5_says_21 tf_5_23 (hv4) ?_
        refine pr_iload_n dX5_says_24 rfl ?_
        obtain ⟨v5, hv5, hF⟩ := po_b hF
        refine pr_aald dX5_says_25 (hv5) ?_
        refine pr_aload_n dX5_says_26 rfl ?_
        obtain ⟨q6, hq6, hF⟩ := po_b hF
        refine pr_VD (as := [.ref x2]) (rest := []) dX5_says_27 cv_5_31 (pm_Vok_up 0 (hfH hq6)) rfl rfl rfl (lb rfl) ?_
        refine pr_iconst (v := 1) dX5_says_30 (kc_1) ?_
        refine po_i hF (fun hc hF => ?_) (fun hc hF => ?_)
        · refine pr_icF (tgt := 36) dX5_says_31 (by decide) (pc_neF hc) ?_
          refine pr_iconst (v := 1) dX5_says_34 (kc_1) ?_
          cases hF
          exact pr_iret dX5_says_35 rfl nb_1 (hr _ rfl)
        · refine pr_icT (tgt := 36) dX5_says_31 (by decide) (pc_neT hc) ?_
          refine pr_iinc (v := 1) (L' := [.ref x0, .int x1, .ref x2, .int (x3 + 1)]) dX5_says_36 rfl (kc_1) rfl ?_
          refine pr_goto (tgt := 2) dX5_says_39 (by decide) ?_
          exact ih hF hr hk
      · refine pr_icT (tgt := 36) dX5_says_17 (by decide) (pc_neT hc) ?_
        refine pr_iinc (v := 1) (L' := [.ref x0, .int x1, .ref x2, .int (x3 + 1)]) dX5_says_36 rfl (kc_1) rfl ?_
        refine pr_goto (tgt := 2) dX5_says_39 (by decide) ?_
        exact ih hF hr hk
    · refine pr_icT (tgt := 42) dX5_says_7 (by decide) (pc_geT hc) ?_
      cases hF
      exact hk _ rfl _ rfl
def F_X5_says (fH : pm_H → Nat → Nat → Option (Int32 × pm_H)) (n : Nat) (h : pm_H) (a0 : Nat) (x1 : Int32) (a2 : Nat) : Option (Int32 × pm_H) :=
  (L_X5_says_2 fH n a0 x1 a2 0 h).bind fun q7 => po_s q7 (fun r => some r) fun e8 =>
  some (0, e8)
theorem ok_F_X5_says {d n : Nat} {h : pm_H} {a0 : Nat} {x1 : Int32} {a2 : Nat} {q : Int32 × pm_H} {fH : pm_H → Nat → Nat → Option (Int32 × pm_H)} (hfH : ∀ {h : pm_H} {b a : Nat} {q : Int32 × pm_H}, fH h b a = some q → pm_Vok d pm_tgH h b [.ref a] (some (.int q.1)) q.2) (hF : F_X5_says fH n h a0 x1 a2 = some q) : pm_E (d + 1) 5 cX5_says (some .boolean) 0 [.ref a0, .int x1, .ref a2, pm_D] [] h (some (.int q.1), q.2) := by
  unfold F_X5_says at hF
  refine pr_iconst (v := 0) dX5_says_0 (kc_0) ?_
  refine pr_istore_n (L' := [.ref a0, .int x1, .ref a2, .int 0]) dX5_says_1 rfl ?_
  obtain ⟨q7, hq7, hF⟩ := po_b hF
  refine ok_L_X5_says_2 hfH n hq7 (fun r hq => ?_) (fun e8 hq z3 hz3 => ?_)
  · subst hq
    replace hF := po_sl hF
    cases hF
    exact rfl
  subst hq
  replace hF := po_sr hF
  refine pr_iconst (v := 0) dX5_says_42 (kc_0) ?_
  cases hF
  exact pr_iret dX5_says_43 rfl nb_0 rfl
def K_X5_says (n : Nat) (h : pm_H) (a0 : Nat) (x1 : Int32) (a2 : Nat) : Option (Int32 × pm_H) := F_X5_says (K_holds 40 n) n h a0 x1 a2
theorem ok_K_X5_says {d n : Nat} {h : pm_H} {a0 : Nat} {x1 : Int32} {a2 : Nat} {q : Int32 × pm_H} (hF : K_X5_says n h a0 x1 a2 = some q) : pm_E (d + 81) 5 cX5_says (some .boolean) 0 [.ref a0, .int x1, .ref a2, pm_D] [] h (some (.int q.1), q.2) := ok_F_X5_says (d := d + 80) (fun e => ok_K_holds 40 e) hF

def F_X1_friends (h : pm_H) (a0 : Nat) (x1 : Int32) : Option (Int32) :=
  (pm_fI [(1, 2)] h a0).bind fun v1 =>
  (pm_fR [(1, 1)] h a0).bind fun v2 =>
  (pm_ai 0 h v2 x1).bind fun v3 =>
  some ((v1 &&& (v3 ^^^ (-1))) &&& ((pm_shl 1 x1) ^^^ (-1)))
theorem ok_F_X1_friends {d : Nat} {h : pm_H} {a0 : Nat} {x1 : Int32} {q : Int32} (hF : F_X1_friends h a0 x1 = some q) : pm_E (d + 0) 1 cX1_friends (some .int) 0 [.ref a0, .int x1] [] h (some (.int q), h) := by
  unfold F_X1_friends at hF
  refine pr_aload_n dX1_friends_0 rfl ?_
  obtain ⟨v1, hv1, hF⟩ := po_b hF
  refine pr_getI dX1_friends_1 tf_1_18 (hv1) ?_
  refine pr_aload_n dX1_friends_4 rfl ?_
  obtain ⟨v2, hv2, hF⟩ := po_b hF
  refine pr_getR dX1_friends_5 tf_1_15 (hv2) ?_
  refine pr_iload_n dX1_friends_8 rfl ?_
  obtain ⟨v3, hv3, hF⟩ := po_b hF
  refine pr_iald dX1_friends_9 (hv3) ?_
  refine pr_iconst (v := (-1)) dX1_friends_10 (kc_m1) ?_
  refine pr_ixor dX1_friends_11 ?_
  refine pr_iand dX1_friends_12 ?_
  refine pr_iconst (v := 1) dX1_friends_13 (kc_1) ?_
  refine pr_iload_n dX1_friends_14 rfl ?_
  refine pr_ishl dX1_friends_15 ?_
  refine pr_iconst (v := (-1)) dX1_friends_16 (kc_m1) ?_
  refine pr_ixor dX1_friends_17 ?_
  refine pr_iand dX1_friends_18 ?_
  cases hF
  exact pr_iret dX1_friends_19 rfl rfl rfl

def F_X3_by (h : pm_H) (a0 : Nat) (x1 : Int32) (x2 : Int32) (x3 : Int32) (x4 : Int32) : Option ((Option Nat) × pm_H) :=
  (pm_put [(2, 2, 0)] h a0 (.int x1)).bind fun h1 =>
  (pm_put [(2, 4, 0)] h1 a0 (.int x2)).bind fun h2 =>
  (pm_put [(2, 5, 0)] h2 a0 (.int x3)).bind fun h3 =>
  (pm_put [(2, 6, 0)] h3 a0 (.int x4)).bind fun h4 =>
  some ((some a0), h4)
theorem ok_F_X3_by {d : Nat} {h : pm_H} {a0 : Nat} {x1 : Int32} {x2 : Int32} {x3 : Int32} {x4 : Int32} {q : (Option Nat) × pm_H} (hF : F_X3_by h a0 x1 x2 x3 x4 = some q) : pm_E (d + 0) 3 cX3_by (some (.object "AnyKeyTown$Moment")) 0 [.ref a0, .int x1, .int x2, .int x3, .int x4] [] h (some (va_rf q.1), q.2) := by
  unfold F_X3_by at hF
  refine pr_aload_n dX3_by_0 rfl ?_
  refine pr_iload_n dX3_by_1 rfl ?_
  obtain ⟨h1, hh1, hF⟩ := po_b hF
  refine pr_put dX3_by_2 tp_3_15 (hh1) ?_
  refine pr_aload_n dX3_by_5 rfl ?_
  refine pr_iload_n dX3_by_6 rfl ?_
  obtain ⟨h2, hh2, hF⟩ := po_b hF
  refine pr_put dX3_by_7 tp_3_21 (hh2) ?_
  refine pr_aload_n dX3_by_10 rfl ?_
  refine pr_iload_n dX3_by_11 rfl ?_
  obtain ⟨h3, hh3, hF⟩ := po_b hF
  refine pr_put dX3_by_12 tp_3_24 (hh3) ?_
  refine pr_aload_n dX3_by_15 rfl ?_
  refine pr_iload dX3_by_16 rfl ?_
  obtain ⟨h4, hh4, hF⟩ := po_b hF
  refine pr_put dX3_by_18 tp_3_27 (hh4) ?_
  refine pr_aload_n dX3_by_21 rfl ?_
  cases hF
  exact pr_aret dX3_by_22 rfl (Or.inr ⟨_, rfl⟩) rfl

def L_X5_tells_2 (fH : pm_H → Nat → Nat → Option (Int32 × pm_H)) (fW : pm_H → Nat → Nat → Option (Int32 × pm_H)) : Nat → Nat → Int32 → Nat → Int32 → pm_H → Option ((Int32 × pm_H) ⊕ (pm_H))
  | 0, _, _, _, _, _ => none
  | n + 1, x0, x1, x2, x3, h =>
    (pm_fI [(4, 3)] h x0).bind fun v1 =>
    if x3 < v1 then
      (pm_fR [(4, 0)] h x0).bind fun v2 =>
      (pm_ai 0 h v2 x3).bind fun v3 =>
      if v3 = x1 then
        (pm_fR [(4, 2)] h x0).bind fun v4 =>
        (pm_aR h v4 x3).bind fun v5 =>
        (fH h v5 x2).bind fun q6 =>
        if q6.1 = 1 then
          (pm_fR [(4, 1)] q6.2 x0).bind fun v7 =>
          (pm_aR q6.2 v7 x3).bind fun v8 =>
          (if pm_cl_ q6.2 v8 = some 7 then F_X8_told fW q6.2 v8 x2 else (if pm_cl_ q6.2 v8 = some 8 then F_X8_told fW q6.2 v8 x2 else (if pm_cl_ q6.2 v8 = some 9 then F_X8_told fW q6.2 v8 x2 else none))).bind fun q9 =>
          some (.inl (q9.1, q9.2))
        else
          L_X5_tells_2 fH fW n x0 x1 x2 (x3 + 1) q6.2
      else
        L_X5_tells_2 fH fW n x0 x1 x2 (x3 + 1) h
    else
      some (.inr h)
theorem ok_L_X5_tells_2 {d : Nat} {fH : pm_H → Nat → Nat → Option (Int32 × pm_H)} (hfH : ∀ {h : pm_H} {b a : Nat} {q : Int32 × pm_H}, fH h b a = some q → pm_Vok d pm_tgH h b [.ref a] (some (.int q.1)) q.2) {fW : pm_H → Nat → Nat → Option (Int32 × pm_H)} (hfW : ∀ {h : pm_H} {b a : Nat} {q : Int32 × pm_H}, fW h b a = some q → pm_Vok d pm_tgW h b [.ref a] (some (.int q.1)) q.2) : ∀ (n : Nat) {x0 : Nat} {x1 : Int32} {x2 : Nat} {x3 : Int32} {h : pm_H} {q : (Int32 × pm_H) ⊕ (pm_H)} {res : Option Value × pm_H}, L_X5_tells_2 fH fW n x0 x1 x2 x3 h = some q → (∀ r, q = .inl r → res = (some (.int r.1), r.2)) → (∀ e, q = .inr e → ∀ z3 : Value, pm_nolong z3 = true → pm_E (d + 2) 5 cX5_tells (some .int) 51 [.ref x0, .int x1, .ref x2, z3] [] e res) → pm_E (d + 2) 5 cX5_tells (some .int) 2 [.ref x0, .int x1, .ref x2, .int x3] [] h res := by
  intro n
  induction n with
  | zero =>
    intro x0 x1 x2 x3 h q res hF hr hk
    rw [L_X5_tells_2] at hF
    cases hF
  | succ n ih =>
    intro x0 x1 x2 x3 h q res hF hr hk
    rw [L_X5_tells_2] at hF
    refine pr_iload_n dX5_tells_2 rfl ?_
    refine pr_aload_n dX5_tells_3 rfl ?_
    obtain ⟨v1, hv1, hF⟩ := po_b hF
    refine pr_getI dX5_tells_4 tf_5_27 (hv1) ?_
    refine po_i hF (fun hc hF => ?_) (fun hc hF => ?_)
    · refine pr_icF (tgt := 51) dX5_tells_7 (by decide) (pc_geF hc) ?_
      refine pr_aload_n dX5_tells_10 rfl ?_
      obtain ⟨v2, hv2, hF⟩ := po_b hF
      refine pr_getR dX5_tells_11 tf_5_9 (hv2) ?_
      refine pr_iload_n dX5_tells_14 rfl ?_
      obtain ⟨v3, hv3, hF⟩ := po_b hF
      refine pr_iald dX5_tells_15 (hv3) ?_
      refine pr_iload_n dX5_tells_16 rfl ?_
      refine po_i hF (fun hc hF => ?_) (fun hc hF => ?_)
      · refine pr_icF (tgt := 45) dX5_tells_17 (by decide) (pc_neF hc) ?_
        refine pr_aload_n dX5_tells_20 rfl ?_
        obtain ⟨v4, hv4, hF⟩ := po_b hF
        refine pr_getR dX5_tells_21 tf_5_23 (hv4) ?_
        refine pr_iload_n dX5_tells_24 rfl ?_
        obtain ⟨v5, hv5, hF⟩ := po_b hF
        refine pr_aald dX5_tells_25 (hv5) ?_
        refine pr_aload_n dX5_tells_26 rfl ?_
        obtain ⟨q6, hq6, hF⟩ := po_b hF
        refine pr_VD (as := [.ref x2]) (rest := []) dX5_tells_27 cv_5_31 (pm_Vok_up 1 (hfH hq6)) rfl rfl rfl (lb rfl) ?_
        refine pr_iconst (v := 1) dX5_tells_30 (kc_1) ?_
        refine po_i hF (fun hc hF => ?_) (fun hc hF => ?_)
        · refine pr_icF (tgt := 45) dX5_tells_31 (by decide) (pc_neF hc) ?_
          refine pr_aload_n dX5_tells_34 rfl ?_
          obtain ⟨v7, hv7, hF⟩ := po_b hF
          refine pr_getR dX5_tells_35 tf_5_17 (hv7) ?_
          refine pr_iload_n dX5_tells_38 rfl ?_
          obtain ⟨v8, hv8, hF⟩ := po_b hF
          refine pr_aald dX5_tells_39 (hv8) ?_
          refine pr_aload_n dX5_tells_40 rfl ?_
          obtain ⟨q9, hq9, hF⟩ := po_b hF
          refine pr_VD (as := [.ref x2]) (rest := []) (r := some (.int q9.1)) (h' := q9.2) dX5_tells_41 cv_5_35 (po_i hq9 (fun hcl hq => pm_vok 7 _ hcl rfl (lb rfl) (lb rfl) (ok_F_X8_told (fun e => pm_Vok_up 0 (hfW e)) hq)) (fun _ hq => po_i hq (fun hcl hq => pm_vok 8 _ hcl rfl (lb rfl) (lb rfl) (ok_F_X8_told (fun e => pm_Vok_up 0 (hfW e)) hq)) (fun _ hq => po_i hq (fun hcl hq => pm_vok 9 _ hcl rfl (lb rfl) (lb rfl) (ok_F_X8_told (fun e => pm_Vok_up 0 (hfW e)) hq)) (fun _ hq => nomatch hq)))) rfl rfl rfl (lb rfl) ?_
          cases hF
          exact pr_iret dX5_tells_44 rfl rfl (hr _ rfl)
        · refine pr_icT (tgt := 45) dX5_tells_31 (by decide) (pc_neT hc) ?_
          refine pr_iinc (v := 1) (L' := [.ref x0, .int x1, .ref x2, .int (x3 + 1)]) dX5_tells_45 rfl (kc_1) rfl ?_
          refine pr_goto (tgt := 2) dX5_tells_48 (by decide) ?_
          exact ih hF hr hk
      · refine pr_icT (tgt := 45) dX5_tells_17 (by decide) (pc_neT hc) ?_
        refine pr_iinc (v := 1) (L' := [.ref x0, .int x1, .ref x2, .int (x3 + 1)]) dX5_tells_45 rfl (kc_1) rfl ?_
        refine pr_goto (tgt := 2) dX5_tells_48 (by decide) ?_
        exact ih hF hr hk
    · refine pr_icT (tgt := 51) dX5_tells_7 (by decide) (pc_geT hc) ?_
      cases hF
      exact hk _ rfl _ rfl
def F_X5_tells (fH : pm_H → Nat → Nat → Option (Int32 × pm_H)) (fW : pm_H → Nat → Nat → Option (Int32 × pm_H)) (n : Nat) (h : pm_H) (a0 : Nat) (x1 : Int32) (a2 : Nat) : Option (Int32 × pm_H) :=
  (L_X5_tells_2 fH fW n a0 x1 a2 0 h).bind fun q10 => po_s q10 (fun r => some r) fun e11 =>
  some (0, e11)
theorem ok_F_X5_tells {d n : Nat} {h : pm_H} {a0 : Nat} {x1 : Int32} {a2 : Nat} {q : Int32 × pm_H} {fH : pm_H → Nat → Nat → Option (Int32 × pm_H)} (hfH : ∀ {h : pm_H} {b a : Nat} {q : Int32 × pm_H}, fH h b a = some q → pm_Vok d pm_tgH h b [.ref a] (some (.int q.1)) q.2) {fW : pm_H → Nat → Nat → Option (Int32 × pm_H)} (hfW : ∀ {h : pm_H} {b a : Nat} {q : Int32 × pm_H}, fW h b a = some q → pm_Vok d pm_tgW h b [.ref a] (some (.int q.1)) q.2) (hF : F_X5_tells fH fW n h a0 x1 a2 = some q) : pm_E (d + 2) 5 cX5_tells (some .int) 0 [.ref a0, .int x1, .ref a2, pm_D] [] h (some (.int q.1), q.2) := by
  unfold F_X5_tells at hF
  refine pr_iconst (v := 0) dX5_tells_0 (kc_0) ?_
  refine pr_istore_n (L' := [.ref a0, .int x1, .ref a2, .int 0]) dX5_tells_1 rfl ?_
  obtain ⟨q10, hq10, hF⟩ := po_b hF
  refine ok_L_X5_tells_2 hfH hfW n hq10 (fun r hq => ?_) (fun e11 hq z3 hz3 => ?_)
  · subst hq
    replace hF := po_sl hF
    cases hF
    exact rfl
  subst hq
  replace hF := po_sr hF
  refine pr_iconst (v := 0) dX5_tells_51 (kc_0) ?_
  cases hF
  exact pr_iret dX5_tells_52 rfl rfl rfl
def K_X5_tells (n : Nat) (h : pm_H) (a0 : Nat) (x1 : Int32) (a2 : Nat) : Option (Int32 × pm_H) := F_X5_tells (K_holds 40 n) (K_worth 40 n) n h a0 x1 a2
theorem ok_K_X5_tells {d n : Nat} {h : pm_H} {a0 : Nat} {x1 : Int32} {a2 : Nat} {q : Int32 × pm_H} (hF : K_X5_tells n h a0 x1 a2 = some q) : pm_E (d + 82) 5 cX5_tells (some .int) 0 [.ref a0, .int x1, .ref a2, pm_D] [] h (some (.int q.1), q.2) := ok_F_X5_tells (d := d + 80) (fun e => ok_K_holds 40 e) (fun e => pm_Vok_up (d := d + 40) 40 (ok_K_worth 40 e)) hF

def F_X0_held (x0 : Int32) (x1 : Int32) : Option (Int32) :=
  (F_J2_min x1 x0).bind fun q1 =>
  (F_J2_max 0 q1).bind fun q2 =>
  some q2
theorem ok_F_X0_held {d : Nat} {h : pm_H} {x0 : Int32} {x1 : Int32} {q : Int32} (hF : F_X0_held x0 x1 = some q) : pm_E (d + 1) 0 cX0_held (some .int) 0 [.int x0, .int x1] [] h (some (.int q), h) := by
  unfold F_X0_held at hF
  refine pr_iconst (v := 0) dX0_held_0 (kc_0) ?_
  refine pr_iload_n dX0_held_1 rfl ?_
  refine pr_iload_n dX0_held_2 rfl ?_
  obtain ⟨q1, hq1, hF⟩ := po_b hF
  refine pr_S dX0_held_3 cs_0_1 (as := [.int x1, .int x0]) (rest := [.int 0]) rfl rfl rfl (lb rfl) (lb rfl) (lb rfl) (ok_F_J2_min hq1) ?_
  obtain ⟨q2, hq2, hF⟩ := po_b hF
  refine pr_S dX0_held_6 cs_0_7 (as := [.int 0, .int q1]) (rest := []) rfl rfl rfl (lb rfl) (lb rfl) (lb rfl) (ok_F_J2_max hq2) ?_
  cases hF
  exact pr_iret dX0_held_9 rfl rfl rfl

def F_X0_tells (n : Nat) (h : pm_H) (a0 : Nat) (x1 : Int32) : Option (Int32 × pm_H) :=
  (pm_fR [(0, 7)] h a0).bind fun v1 =>
  (pm_fR [(0, 2)] h a0).bind fun v2 =>
  (if pm_cl_ h v1 = some 4 then K_X5_tells n h v1 x1 v2 else none).bind fun q3 =>
  (F_X0_held q3.1 9999).bind fun q4 =>
  some (q4, q3.2)
theorem ok_F_X0_tells {d n : Nat} {h : pm_H} {a0 : Nat} {x1 : Int32} {q : Int32 × pm_H} (hF : F_X0_tells n h a0 x1 = some q) : pm_E (d + 83) 0 cX0_tells (some .int) 0 [.ref a0, .int x1] [] h (some (.int q.1), q.2) := by
  unfold F_X0_tells at hF
  refine pr_aload_n dX0_tells_0 rfl ?_
  obtain ⟨v1, hv1, hF⟩ := po_b hF
  refine pr_getR dX0_tells_1 tf_0_28 (hv1) ?_
  refine pr_iload_n dX0_tells_4 rfl ?_
  refine pr_aload_n dX0_tells_5 rfl ?_
  obtain ⟨v2, hv2, hF⟩ := po_b hF
  refine pr_getR dX0_tells_6 tf_0_32 (hv2) ?_
  obtain ⟨q3, hq3, hF⟩ := po_b hF
  refine po_i hq3 (fun hcl hq => ?_) (fun _ hq => nomatch hq)
  refine pr_V (as := [.int x1, .ref v2]) (rest := []) dX0_tells_9 cv_0_36 hcl rfl rfl rfl rfl (lb rfl) (lb rfl) (lb rfl) (ok_K_X5_tells hq) ?_
  refine pr_sipush (v := 9999) dX0_tells_12 (ks_9999) ?_
  obtain ⟨q4, hq4, hF⟩ := po_b hF
  refine pr_S dX0_tells_15 cs_0_42 (as := [.int q3.1, .int 9999]) (rest := []) rfl rfl rfl (lb rfl) (lb rfl) (lb rfl) (ok_F_X0_held hq4) ?_
  cases hF
  exact pr_iret dX0_tells_18 rfl rfl rfl

def L_X4_chosen_40 : Nat → Nat → Int32 → Int32 → Int32 → Int32 → pm_H → Option (Int32 × Int32 × pm_H)
  | 0, _, _, _, _, _, _ => none
  | n + 1, x0, x1, x2, x3, x4, h =>
    if x4 < 16 then
      (pm_fI [(3, 7)] h x0).bind fun v6 =>
      (pm_fI [(3, 8)] h x0).bind fun v7 =>
      (pm_fR [(3, 9)] h x0).bind fun v8 =>
      (pm_fR [(0, 0)] h v8).bind fun v9 =>
      (if pm_cl_ h v9 = some 1 then F_X1_friends h v9 x3 else none).bind fun q10 =>
      (F_X0_has ((v6 &&& v7) &&& q10) x4).bind fun q11 =>
      if q11 = 0 then
        L_X4_chosen_40 n x0 x1 x2 x3 (x4 + 1) h
      else
        (pm_fR [(3, 2)] h x0).bind fun v12 =>
        (pm_ai 0 h v12 x4).bind fun v13 =>
        (if pm_cl_ h x0 = some 3 then F_X4_asked h x0 x3 v13 else none).bind fun q14 =>
        (pm_fR [(3, 9)] q14.2 x0).bind fun v15 =>
        (pm_fR [(0, 0)] q14.2 v15).bind fun v16 =>
        (pm_fR [(1, 0)] q14.2 v16).bind fun v17 =>
        (pm_ai 0 q14.2 v17 x3).bind fun v18 =>
        (pm_fR [(3, 9)] q14.2 x0).bind fun v19 =>
        (pm_fR [(0, 0)] q14.2 v19).bind fun v20 =>
        (pm_fR [(1, 0)] q14.2 v20).bind fun v21 =>
        (pm_ai 0 q14.2 v21 x4).bind fun v22 =>
        (F_J2_abs (v18 - v22)).bind fun q23 =>
        (pm_fR [(3, 0)] q14.2 x0).bind fun v24 =>
        (pm_aR q14.2 v24 x3).bind fun v25 =>
        (pm_ai 0 q14.2 v25 x4).bind fun v26 =>
        (pm_fR [(3, 0)] q14.2 x0).bind fun v27 =>
        (pm_aR q14.2 v27 x4).bind fun v28 =>
        (pm_ai 0 q14.2 v28 x3).bind fun v29 =>
        (q14.1).bind fun r30 =>
        (if pm_cl_ q14.2 r30 = some 2 then F_X3_by q14.2 r30 x4 q23 v26 v29 else none).bind fun q31 =>
        (pm_fR [(3, 9)] q31.2 x0).bind fun v32 =>
        (if pm_cl_ q31.2 v32 = some 0 then F_X0_tells n q31.2 v32 101 else none).bind fun q33 =>
        if x2 < q33.1 then
          L_X4_chosen_40 n x0 ((16 * x3) + x4) q33.1 x3 (x4 + 1) q33.2
        else
          L_X4_chosen_40 n x0 x1 x2 x3 (x4 + 1) q33.2
    else
      some (x1, x2, h)
theorem ok_L_X4_chosen_40 {d : Nat} : ∀ (n : Nat) {x0 : Nat} {x1 : Int32} {x2 : Int32} {x3 : Int32} {x4 : Int32} {w5 w6 : Value} {h : pm_H} {q : Int32 × Int32 × pm_H} {res : Option Value × pm_H}, L_X4_chosen_40 n x0 x1 x2 x3 x4 h = some q → pm_nolong w5 = true → pm_nolong w6 = true → (∀ z4 : Value, pm_nolong z4 = true → ∀ z5 : Value, pm_nolong z5 = true → ∀ z6 : Value, pm_nolong z6 = true → pm_E (d + 84) 4 cX4_chosen (some .int) 182 [.ref x0, .int q.1, .int q.2.1, .int x3, z4, z5, z6] [] q.2.2 res) → pm_E (d + 84) 4 cX4_chosen (some .int) 40 [.ref x0, .int x1, .int x2, .int x3, .int x4, w5, w6] [] h res := by
  intro n
  induction n with
  | zero =>
    intro x0 x1 x2 x3 x4 w5 w6 h q res hF hw5 hw6 hk
    rw [L_X4_chosen_40] at hF
    cases hF
  | succ n ih =>
    intro x0 x1 x2 x3 x4 w5 w6 h q res hF hw5 hw6 hk
    rw [L_X4_chosen_40] at hF
    refine pr_iload dX4_chosen_40 rfl ?_
    refine pr_bipush (v := 16) dX4_chosen_42 (kb_16) ?_
    refine po_i hF (fun hc hF => ?_) (fun hc hF => ?_)
    · refine pr_icF (tgt := 182) dX4_chosen_44 (by decide) (pc_geF hc) ?_
      refine pr_aload_n dX4_chosen_47 rfl ?_
      obtain ⟨v6, hv6, hF⟩ := po_b hF
      refine pr_getI dX4_chosen_48 tf_4_55 (hv6) ?_
      refine pr_aload_n dX4_chosen_51 rfl ?_
      obtain ⟨v7, hv7, hF⟩ := po_b hF
      refine pr_getI dX4_chosen_52 tf_4_77 (hv7) ?_
      refine pr_iand dX4_chosen_55 ?_
      refine pr_aload_n dX4_chosen_56 rfl ?_
      obtain ⟨v8, hv8, hF⟩ := po_b hF
      refine pr_getR dX4_chosen_57 tf_4_3 (hv8) ?_
      obtain ⟨v9, hv9, hF⟩ := po_b hF
      refine pr_getR dX4_chosen_60 tf_4_37 (hv9) ?_
      refine pr_iload_n dX4_chosen_63 rfl ?_
      obtain ⟨q10, hq10, hF⟩ := po_b hF
      refine po_i hq10 (fun hcl hq => ?_) (fun _ hq => nomatch hq)
      refine pr_V (as := [.int x3]) (rest := [.int (v6 &&& v7)]) dX4_chosen_64 cv_4_80 hcl rfl rfl rfl rfl (lb rfl) (lb rfl) (lb rfl) (ok_F_X1_friends hq) ?_
      refine pr_iand dX4_chosen_67 ?_
      refine pr_iload dX4_chosen_68 rfl ?_
      obtain ⟨q11, hq11, hF⟩ := po_b hF
      refine pr_S dX4_chosen_70 cs_4_73 (as := [.int ((v6 &&& v7) &&& q10), .int x4]) (rest := []) rfl rfl rfl (lb rfl) (lb rfl) (lb rfl) (ok_F_X0_has hq11) ?_
      refine po_i hF (fun hc hF => ?_) (fun hc hF => ?_)
      · refine pr_ifF (tgt := 79) dX4_chosen_73 (by decide) (pc_neF hc) ?_
        refine pr_goto (tgt := 176) dX4_chosen_76 (by decide) ?_
        refine pr_iinc (v := 1) (L' := [.ref x0, .int x1, .int x2, .int x3, .int (x4 + 1), w5, w6]) dX4_chosen_176 rfl (kc_1) rfl ?_
        refine pr_goto (tgt := 40) dX4_chosen_179 (by decide) ?_
        exact ih hF hw5 hw6 hk
      · refine pr_ifT (tgt := 79) dX4_chosen_73 (by decide) (pc_neT hc) ?_
        refine pr_aload_n dX4_chosen_79 rfl ?_
        refine pr_iload_n dX4_chosen_80 rfl ?_
        refine pr_aload_n dX4_chosen_81 rfl ?_
        obtain ⟨v12, hv12, hF⟩ := po_b hF
        refine pr_getR dX4_chosen_82 tf_4_24 (hv12) ?_
        refine pr_iload dX4_chosen_85 rfl ?_
        obtain ⟨v13, hv13, hF⟩ := po_b hF
        refine pr_iald dX4_chosen_87 (hv13) ?_
        obtain ⟨q14, hq14, hF⟩ := po_b hF
        refine po_i hq14 (fun hcl hq => ?_) (fun _ hq => nomatch hq)
        refine pr_V (as := [.int x3, .int v13]) (rest := []) dX4_chosen_88 cv_4_83 hcl rfl rfl rfl rfl (lb rfl) (lb rfl) (lb rfl) (ok_F_X4_asked hq) ?_
        refine pr_iload dX4_chosen_91 rfl ?_
        refine pr_aload_n dX4_chosen_93 rfl ?_
        obtain ⟨v15, hv15, hF⟩ := po_b hF
        refine pr_getR dX4_chosen_94 tf_4_3 (hv15) ?_
        obtain ⟨v16, hv16, hF⟩ := po_b hF
        refine pr_getR dX4_chosen_97 tf_4_37 (hv16) ?_
        obtain ⟨v17, hv17, hF⟩ := po_b hF
        refine pr_getR dX4_chosen_100 tf_4_52 (hv17) ?_
        refine pr_iload_n dX4_chosen_103 rfl ?_
        obtain ⟨v18, hv18, hF⟩ := po_b hF
        refine pr_iald dX4_chosen_104 (hv18) ?_
        refine pr_aload_n dX4_chosen_105 rfl ?_
        obtain ⟨v19, hv19, hF⟩ := po_b hF
        refine pr_getR dX4_chosen_106 tf_4_3 (hv19) ?_
        obtain ⟨v20, hv20, hF⟩ := po_b hF
        refine pr_getR dX4_chosen_109 tf_4_37 (hv20) ?_
        obtain ⟨v21, hv21, hF⟩ := po_b hF
        refine pr_getR dX4_chosen_112 tf_4_52 (hv21) ?_
        refine pr_iload dX4_chosen_115 rfl ?_
        obtain ⟨v22, hv22, hF⟩ := po_b hF
        refine pr_iald dX4_chosen_117 (hv22) ?_
        refine pr_isub dX4_chosen_118 ?_
        obtain ⟨q23, hq23, hF⟩ := po_b hF
        refine pr_S dX4_chosen_119 cs_4_87 (as := [.int (v18 - v22)]) (rest := [.int x4, va_rf q14.1]) rfl rfl rfl (lb rfl) (Nat.le_trans (ps_c (lb rfl) (ps_c (Nat.le_of_eq (pv_c _)) ps_0)) (lb rfl)) (lb rfl) (ok_F_J2_abs hq23) ?_
        refine pr_aload_n dX4_chosen_122 rfl ?_
        obtain ⟨v24, hv24, hF⟩ := po_b hF
        refine pr_getR dX4_chosen_123 tf_4_17 (hv24) ?_
        refine pr_iload_n dX4_chosen_126 rfl ?_
        obtain ⟨v25, hv25, hF⟩ := po_b hF
        refine pr_aald dX4_chosen_127 (hv25) ?_
        refine pr_iload dX4_chosen_128 rfl ?_
        obtain ⟨v26, hv26, hF⟩ := po_b hF
        refine pr_iald dX4_chosen_130 (hv26) ?_
        refine pr_aload_n dX4_chosen_131 rfl ?_
        obtain ⟨v27, hv27, hF⟩ := po_b hF
        refine pr_getR dX4_chosen_132 tf_4_17 (hv27) ?_
        refine pr_iload dX4_chosen_135 rfl ?_
        obtain ⟨v28, hv28, hF⟩ := po_b hF
        refine pr_aald dX4_chosen_137 (hv28) ?_
        refine pr_iload_n dX4_chosen_138 rfl ?_
        obtain ⟨v29, hv29, hF⟩ := po_b hF
        refine pr_iald dX4_chosen_139 (hv29) ?_
        obtain ⟨r30, hr30, hF⟩ := po_b hF
        rw [pv_s hr30]
        obtain ⟨q31, hq31, hF⟩ := po_b hF
        refine po_i hq31 (fun hcl hq => ?_) (fun _ hq => nomatch hq)
        refine pr_V (as := [.int x4, .int q23, .int v26, .int v29]) (rest := []) dX4_chosen_140 cv_4_92 hcl rfl rfl rfl rfl (lb rfl) (lb rfl) (lb rfl) (ok_F_X3_by hq) ?_
        refine pr_astore (L' := [.ref x0, .int x1, .int x2, .int x3, .int x4, va_rf q31.1, w6]) dX4_chosen_143 (pv_f _) rfl ?_
        refine pr_aload_n dX4_chosen_145 rfl ?_
        obtain ⟨v32, hv32, hF⟩ := po_b hF
        refine pr_getR dX4_chosen_146 tf_4_3 (hv32) ?_
        refine pr_bipush (v := 101) dX4_chosen_149 (kb_101) ?_
        obtain ⟨q33, hq33, hF⟩ := po_b hF
        refine po_i hq33 (fun hcl hq => ?_) (fun _ hq => nomatch hq)
        refine pr_V (as := [.int 101]) (rest := []) dX4_chosen_151 cv_4_96 hcl rfl rfl rfl rfl (lb rfl) (lb rfl) (lb rfl) (ok_F_X0_tells hq) ?_
        refine pr_istore (L' := [.ref x0, .int x1, .int x2, .int x3, .int x4, va_rf q31.1, .int q33.1]) dX4_chosen_154 (pm_st_w (i := 5) rfl rfl (pv_nl _) rfl) ?_
        refine pr_iload dX4_chosen_156 rfl ?_
        refine pr_iload_n dX4_chosen_158 rfl ?_
        refine po_i hF (fun hc hF => ?_) (fun hc hF => ?_)
        · refine pr_icT (tgt := 165) dX4_chosen_159 (by decide) (pc_gtT hc) ?_
          refine pr_bipush (v := 16) dX4_chosen_165 (kb_16) ?_
          refine pr_iload_n dX4_chosen_167 rfl ?_
          refine pr_imul dX4_chosen_168 ?_
          refine pr_iload dX4_chosen_169 rfl ?_
          refine pr_iadd dX4_chosen_171 ?_
          refine pr_istore_n (L' := [.ref x0, .int ((16 * x3) + x4), .int x2, .int x3, .int x4, va_rf q31.1, .int q33.1]) dX4_chosen_172 rfl ?_
          refine pr_iload dX4_chosen_173 rfl ?_
          refine pr_istore_n (L' := [.ref x0, .int ((16 * x3) + x4), .int q33.1, .int x3, .int x4, va_rf q31.1, .int q33.1]) dX4_chosen_175 rfl ?_
          refine pr_iinc (v := 1) (L' := [.ref x0, .int ((16 * x3) + x4), .int q33.1, .int x3, .int (x4 + 1), va_rf q31.1, .int q33.1]) dX4_chosen_176 rfl (kc_1) rfl ?_
          refine pr_goto (tgt := 40) dX4_chosen_179 (by decide) ?_
          exact ih hF (pv_nl _) rfl hk
        · refine pr_icF (tgt := 165) dX4_chosen_159 (by decide) (pc_gtF hc) ?_
          refine pr_goto (tgt := 176) dX4_chosen_162 (by decide) ?_
          refine pr_iinc (v := 1) (L' := [.ref x0, .int x1, .int x2, .int x3, .int (x4 + 1), va_rf q31.1, .int q33.1]) dX4_chosen_176 rfl (kc_1) rfl ?_
          refine pr_goto (tgt := 40) dX4_chosen_179 (by decide) ?_
          exact ih hF (pv_nl _) rfl hk
    · refine pr_icT (tgt := 182) dX4_chosen_44 (by decide) (pc_geT hc) ?_
      cases hF
      exact hk _ rfl _ hw5 _ hw6
def L_X4_chosen_6 : Nat → Nat → Int32 → Int32 → Int32 → pm_H → Option (Int32 × pm_H)
  | 0, _, _, _, _, _ => none
  | n + 1, x0, x1, x2, x3, h =>
    if x3 < 16 then
      (pm_fI [(3, 7)] h x0).bind fun v1 =>
      (pm_fR [(3, 9)] h x0).bind fun v2 =>
      (pm_fR [(0, 0)] h v2).bind fun v3 =>
      (pm_fI [(1, 3)] h v3).bind fun v4 =>
      (F_X0_has (v1 &&& v4) x3).bind fun q5 =>
      if q5 = 0 then
        L_X4_chosen_6 n x0 x1 x2 (x3 + 1) h
      else
        (L_X4_chosen_40 n x0 x1 x2 x3 0 h).bind fun q34 =>
        L_X4_chosen_6 n x0 q34.1 q34.2.1 (x3 + 1) q34.2.2
    else
      some (x1, h)
theorem ok_L_X4_chosen_6 {d : Nat} : ∀ (n : Nat) {x0 : Nat} {x1 : Int32} {x2 : Int32} {x3 : Int32} {w4 w5 w6 : Value} {h : pm_H} {q : Int32 × pm_H} {res : Option Value × pm_H}, L_X4_chosen_6 n x0 x1 x2 x3 h = some q → pm_nolong w4 = true → pm_nolong w5 = true → pm_nolong w6 = true → (∀ z2 : Value, pm_nolong z2 = true → ∀ z3 : Value, pm_nolong z3 = true → ∀ z4 : Value, pm_nolong z4 = true → ∀ z5 : Value, pm_nolong z5 = true → ∀ z6 : Value, pm_nolong z6 = true → pm_E (d + 84) 4 cX4_chosen (some .int) 188 [.ref x0, .int q.1, z2, z3, z4, z5, z6] [] q.2 res) → pm_E (d + 84) 4 cX4_chosen (some .int) 6 [.ref x0, .int x1, .int x2, .int x3, w4, w5, w6] [] h res := by
  intro n
  induction n with
  | zero =>
    intro x0 x1 x2 x3 w4 w5 w6 h q res hF hw4 hw5 hw6 hk
    rw [L_X4_chosen_6] at hF
    cases hF
  | succ n ih =>
    intro x0 x1 x2 x3 w4 w5 w6 h q res hF hw4 hw5 hw6 hk
    rw [L_X4_chosen_6] at hF
    refine pr_iload_n dX4_chosen_6 rfl ?_
    refine pr_bipush (v := 16) dX4_chosen_7 (kb_16) ?_
    refine po_i hF (fun hc hF => ?_) (fun hc hF => ?_)
    · refine pr_icF (tgt := 188) dX4_chosen_9 (by decide) (pc_geF hc) ?_
      refine pr_aload_n dX4_chosen_12 rfl ?_
      obtain ⟨v1, hv1, hF⟩ := po_b hF
      refine pr_getI dX4_chosen_13 tf_4_55 (hv1) ?_
      refine pr_aload_n dX4_chosen_16 rfl ?_
      obtain ⟨v2, hv2, hF⟩ := po_b hF
      refine pr_getR dX4_chosen_17 tf_4_3 (hv2) ?_
      obtain ⟨v3, hv3, hF⟩ := po_b hF
      refine pr_getR dX4_chosen_20 tf_4_37 (hv3) ?_
      obtain ⟨v4, hv4, hF⟩ := po_b hF
      refine pr_getI dX4_chosen_23 tf_4_58 (hv4) ?_
      refine pr_iand dX4_chosen_26 ?_
      refine pr_iload_n dX4_chosen_27 rfl ?_
      obtain ⟨q5, hq5, hF⟩ := po_b hF
      refine pr_S dX4_chosen_28 cs_4_73 (as := [.int (v1 &&& v4), .int x3]) (rest := []) rfl rfl rfl (lb rfl) (lb rfl) (lb rfl) (ok_F_X0_has hq5) ?_
      refine po_i hF (fun hc hF => ?_) (fun hc hF => ?_)
      · refine pr_ifF (tgt := 37) dX4_chosen_31 (by decide) (pc_neF hc) ?_
        refine pr_goto (tgt := 182) dX4_chosen_34 (by decide) ?_
        refine pr_iinc (v := 1) (L' := [.ref x0, .int x1, .int x2, .int (x3 + 1), w4, w5, w6]) dX4_chosen_182 rfl (kc_1) rfl ?_
        refine pr_goto (tgt := 6) dX4_chosen_185 (by decide) ?_
        exact ih hF hw4 hw5 hw6 hk
      · refine pr_ifT (tgt := 37) dX4_chosen_31 (by decide) (pc_neT hc) ?_
        refine pr_iconst (v := 0) dX4_chosen_37 (kc_0) ?_
        refine pr_istore (L' := [.ref x0, .int x1, .int x2, .int x3, .int 0, w5, w6]) dX4_chosen_38 rfl ?_
        obtain ⟨q34, hq34, hF⟩ := po_b hF
        refine ok_L_X4_chosen_40 n hq34 hw5 hw6 (fun z4 hz4 z5 hz5 z6 hz6 => ?_)
        refine pr_iinc (v := 1) (L' := [.ref x0, .int q34.1, .int q34.2.1, .int (x3 + 1), z4, z5, z6]) dX4_chosen_182 rfl (kc_1) rfl ?_
        refine pr_goto (tgt := 6) dX4_chosen_185 (by decide) ?_
        exact ih hF hz4 hz5 hz6 hk
    · refine pr_icT (tgt := 188) dX4_chosen_9 (by decide) (pc_geT hc) ?_
      cases hF
      exact hk _ rfl _ rfl _ hw4 _ hw5 _ hw6
def F_X4_chosen (n : Nat) (h : pm_H) (a0 : Nat) : Option (Int32 × pm_H) :=
  (L_X4_chosen_6 n a0 (-1) 0 0 h).bind fun q35 =>
  some (q35.1, q35.2)
theorem ok_F_X4_chosen {d n : Nat} {h : pm_H} {a0 : Nat} {q : Int32 × pm_H} (hF : F_X4_chosen n h a0 = some q) : pm_E (d + 84) 4 cX4_chosen (some .int) 0 [.ref a0, pm_D, pm_D, pm_D, pm_D, pm_D, pm_D] [] h (some (.int q.1), q.2) := by
  unfold F_X4_chosen at hF
  refine pr_iconst (v := (-1)) dX4_chosen_0 (kc_m1) ?_
  refine pr_istore_n (L' := [.ref a0, .int (-1), pm_D, pm_D, pm_D, pm_D, pm_D]) dX4_chosen_1 rfl ?_
  refine pr_iconst (v := 0) dX4_chosen_2 (kc_0) ?_
  refine pr_istore_n (L' := [.ref a0, .int (-1), .int 0, pm_D, pm_D, pm_D, pm_D]) dX4_chosen_3 rfl ?_
  refine pr_iconst (v := 0) dX4_chosen_4 (kc_0) ?_
  refine pr_istore_n (L' := [.ref a0, .int (-1), .int 0, .int 0, pm_D, pm_D, pm_D]) dX4_chosen_5 rfl ?_
  obtain ⟨q35, hq35, hF⟩ := po_b hF
  refine ok_L_X4_chosen_6 n hq35 rfl rfl rfl (fun z2 hz2 z3 hz3 z4 hz4 z5 hz5 z6 hz6 => ?_)
  refine pr_iload_n dX4_chosen_188 rfl ?_
  cases hF
  exact pr_iret dX4_chosen_189 rfl rfl rfl

def L_X4_beds_6 : Nat → Nat → Int32 → Int32 → Int32 → pm_H → Option (Int32 × pm_H)
  | 0, _, _, _, _, _ => none
  | n + 1, x0, x1, x2, x3, h =>
    if x3 < 16 then
      (pm_fI [(3, 7)] h x0).bind fun v1 =>
      (pm_fR [(3, 9)] h x0).bind fun v2 =>
      (pm_fR [(0, 0)] h v2).bind fun v3 =>
      (pm_fI [(1, 3)] h v3).bind fun v4 =>
      (F_X0_has (v1 &&& v4) x3).bind fun q5 =>
      if q5 = 0 then
        L_X4_beds_6 n x0 x1 x2 (x3 + 1) h
      else
        (pm_fR [(3, 2)] h x0).bind fun v6 =>
        (pm_ai 0 h v6 x3).bind fun v7 =>
        (if pm_cl_ h x0 = some 3 then F_X4_asked h x0 x3 v7 else none).bind fun q8 =>
        (pm_fR [(3, 9)] q8.2 x0).bind fun v9 =>
        (if pm_cl_ q8.2 v9 = some 0 then F_X0_tells n q8.2 v9 98 else none).bind fun q10 =>
        if x2 < q10.1 then
          L_X4_beds_6 n x0 x3 q10.1 (x3 + 1) q10.2
        else
          L_X4_beds_6 n x0 x1 x2 (x3 + 1) q10.2
    else
      some (x1, h)
theorem ok_L_X4_beds_6 {d : Nat} : ∀ (n : Nat) {x0 : Nat} {x1 : Int32} {x2 : Int32} {x3 : Int32} {w4 w5 : Value} {h : pm_H} {q : Int32 × pm_H} {res : Option Value × pm_H}, L_X4_beds_6 n x0 x1 x2 x3 h = some q → pm_nolong w4 = true → pm_nolong w5 = true → (∀ z2 : Value, pm_nolong z2 = true → ∀ z3 : Value, pm_nolong z3 = true → ∀ z4 : Value, pm_nolong z4 = true → ∀ z5 : Value, pm_nolong z5 = true → pm_E (d + 84) 4 cX4_beds (some .int) 81 [.ref x0, .int q.1, z2, z3, z4, z5] [] q.2 res) → pm_E (d + 84) 4 cX4_beds (some .int) 6 [.ref x0, .int x1, .int x2, .int x3, w4, w5] [] h res := by
  intro n
  induction n with
  | zero =>
    intro x0 x1 x2 x3 w4 w5 h q res hF hw4 hw5 hk
    rw [L_X4_beds_6] at hF
    cases hF
  | succ n ih =>
    intro x0 x1 x2 x3 w4 w5 h q res hF hw4 hw5 hk
    rw [L_X4_beds_6] at hF
    refine pr_iload_n dX4_beds_6 rfl ?_
    refine pr_bipush (v := 16) dX4_beds_7 (kb_16) ?_
    refine po_i hF (fun hc hF => ?_) (fun hc hF => ?_)
    · refine pr_icF (tgt := 81) dX4_beds_9 (by decide) (pc_geF hc) ?_
      refine pr_aload_n dX4_beds_12 rfl ?_
      obtain ⟨v1, hv1, hF⟩ := po_b hF
      refine pr_getI dX4_beds_13 tf_4_55 (hv1) ?_
      refine pr_aload_n dX4_beds_16 rfl ?_
      obtain ⟨v2, hv2, hF⟩ := po_b hF
      refine pr_getR dX4_beds_17 tf_4_3 (hv2) ?_
      obtain ⟨v3, hv3, hF⟩ := po_b hF
      refine pr_getR dX4_beds_20 tf_4_37 (hv3) ?_
      obtain ⟨v4, hv4, hF⟩ := po_b hF
      refine pr_getI dX4_beds_23 tf_4_58 (hv4) ?_
      refine pr_iand dX4_beds_26 ?_
      refine pr_iload_n dX4_beds_27 rfl ?_
      obtain ⟨q5, hq5, hF⟩ := po_b hF
      refine pr_S dX4_beds_28 cs_4_73 (as := [.int (v1 &&& v4), .int x3]) (rest := []) rfl rfl rfl (lb rfl) (lb rfl) (lb rfl) (ok_F_X0_has hq5) ?_
      refine po_i hF (fun hc hF => ?_) (fun hc hF => ?_)
      · refine pr_ifF (tgt := 37) dX4_beds_31 (by decide) (pc_neF hc) ?_
        refine pr_goto (tgt := 75) dX4_beds_34 (by decide) ?_
        refine pr_iinc (v := 1) (L' := [.ref x0, .int x1, .int x2, .int (x3 + 1), w4, w5]) dX4_beds_75 rfl (kc_1) rfl ?_
        refine pr_goto (tgt := 6) dX4_beds_78 (by decide) ?_
        exact ih hF hw4 hw5 hk
      · refine pr_ifT (tgt := 37) dX4_beds_31 (by decide) (pc_neT hc) ?_
        refine pr_aload_n dX4_beds_37 rfl ?_
        refine pr_iload_n dX4_beds_38 rfl ?_
        refine pr_aload_n dX4_beds_39 rfl ?_
        obtain ⟨v6, hv6, hF⟩ := po_b hF
        refine pr_getR dX4_beds_40 tf_4_24 (hv6) ?_
        refine pr_iload_n dX4_beds_43 rfl ?_
        obtain ⟨v7, hv7, hF⟩ := po_b hF
        refine pr_iald dX4_beds_44 (hv7) ?_
        obtain ⟨q8, hq8, hF⟩ := po_b hF
        refine po_i hq8 (fun hcl hq => ?_) (fun _ hq => nomatch hq)
        refine pr_V (as := [.int x3, .int v7]) (rest := []) dX4_beds_45 cv_4_83 hcl rfl rfl rfl rfl (lb rfl) (lb rfl) (lb rfl) (ok_F_X4_asked hq) ?_
        refine pr_astore (L' := [.ref x0, .int x1, .int x2, .int x3, va_rf q8.1, w5]) dX4_beds_48 (pv_f _) rfl ?_
        refine pr_aload_n dX4_beds_50 rfl ?_
        obtain ⟨v9, hv9, hF⟩ := po_b hF
        refine pr_getR dX4_beds_51 tf_4_3 (hv9) ?_
        refine pr_bipush (v := 98) dX4_beds_54 (kb_98) ?_
        obtain ⟨q10, hq10, hF⟩ := po_b hF
        refine po_i hq10 (fun hcl hq => ?_) (fun _ hq => nomatch hq)
        refine pr_V (as := [.int 98]) (rest := []) dX4_beds_56 cv_4_96 hcl rfl rfl rfl rfl (lb rfl) (lb rfl) (lb rfl) (ok_F_X0_tells hq) ?_
        refine pr_istore (L' := [.ref x0, .int x1, .int x2, .int x3, va_rf q8.1, .int q10.1]) dX4_beds_59 (pm_st_w (i := 4) rfl rfl (pv_nl _) rfl) ?_
        refine pr_iload dX4_beds_61 rfl ?_
        refine pr_iload_n dX4_beds_63 rfl ?_
        refine po_i hF (fun hc hF => ?_) (fun hc hF => ?_)
        · refine pr_icT (tgt := 70) dX4_beds_64 (by decide) (pc_gtT hc) ?_
          refine pr_iload_n dX4_beds_70 rfl ?_
          refine pr_istore_n (L' := [.ref x0, .int x3, .int x2, .int x3, va_rf q8.1, .int q10.1]) dX4_beds_71 rfl ?_
          refine pr_iload dX4_beds_72 rfl ?_
          refine pr_istore_n (L' := [.ref x0, .int x3, .int q10.1, .int x3, va_rf q8.1, .int q10.1]) dX4_beds_74 rfl ?_
          refine pr_iinc (v := 1) (L' := [.ref x0, .int x3, .int q10.1, .int (x3 + 1), va_rf q8.1, .int q10.1]) dX4_beds_75 rfl (kc_1) rfl ?_
          refine pr_goto (tgt := 6) dX4_beds_78 (by decide) ?_
          exact ih hF (pv_nl _) rfl hk
        · refine pr_icF (tgt := 70) dX4_beds_64 (by decide) (pc_gtF hc) ?_
          refine pr_goto (tgt := 75) dX4_beds_67 (by decide) ?_
          refine pr_iinc (v := 1) (L' := [.ref x0, .int x1, .int x2, .int (x3 + 1), va_rf q8.1, .int q10.1]) dX4_beds_75 rfl (kc_1) rfl ?_
          refine pr_goto (tgt := 6) dX4_beds_78 (by decide) ?_
          exact ih hF (pv_nl _) rfl hk
    · refine pr_icT (tgt := 81) dX4_beds_9 (by decide) (pc_geT hc) ?_
      cases hF
      exact hk _ rfl _ rfl _ hw4 _ hw5
def F_X4_beds (n : Nat) (h : pm_H) (a0 : Nat) : Option (Int32 × pm_H) :=
  (L_X4_beds_6 n a0 (-1) (-1) 0 h).bind fun q11 =>
  some (q11.1, q11.2)
theorem ok_F_X4_beds {d n : Nat} {h : pm_H} {a0 : Nat} {q : Int32 × pm_H} (hF : F_X4_beds n h a0 = some q) : pm_E (d + 84) 4 cX4_beds (some .int) 0 [.ref a0, pm_D, pm_D, pm_D, pm_D, pm_D] [] h (some (.int q.1), q.2) := by
  unfold F_X4_beds at hF
  refine pr_iconst (v := (-1)) dX4_beds_0 (kc_m1) ?_
  refine pr_istore_n (L' := [.ref a0, .int (-1), pm_D, pm_D, pm_D, pm_D]) dX4_beds_1 rfl ?_
  refine pr_iconst (v := (-1)) dX4_beds_2 (kc_m1) ?_
  refine pr_istore_n (L' := [.ref a0, .int (-1), .int (-1), pm_D, pm_D, pm_D]) dX4_beds_3 rfl ?_
  refine pr_iconst (v := 0) dX4_beds_4 (kc_0) ?_
  refine pr_istore_n (L' := [.ref a0, .int (-1), .int (-1), .int 0, pm_D, pm_D]) dX4_beds_5 rfl ?_
  obtain ⟨q11, hq11, hF⟩ := po_b hF
  refine ok_L_X4_beds_6 n hq11 rfl rfl (fun z2 hz2 z3 hz3 z4 hz4 z5 hz5 => ?_)
  refine pr_iload_n dX4_beds_81 rfl ?_
  cases hF
  exact pr_iret dX4_beds_82 rfl rfl rfl

def L_X4_eveningGoes_21 : Nat → Nat → Int32 → pm_H → Option (pm_H)
  | 0, _, _, _ => none
  | n + 1, x0, x1, h =>
    if x1 < 16 then
      (pm_fR [(3, 9)] h x0).bind fun v6 =>
      (pm_fR [(0, 0)] h v6).bind fun v7 =>
      (if pm_cl_ h v7 = some 1 then F_X1_isTold h v7 x1 else none).bind fun q8 =>
      if q8 = 0 then
        L_X4_eveningGoes_21 n x0 (x1 + 1) h
      else
        (pm_fR [(3, 2)] h x0).bind fun v9 =>
        (if pm_cl_ h x0 = some 3 then F_X4_draw h x0 else none).bind fun q10 =>
        (pm_si 0 q10.2 v9 x1 q10.1).bind fun h11 =>
        (pm_fI [(3, 8)] h11 x0).bind fun v12 =>
        (pm_fR [(3, 9)] h11 x0).bind fun v13 =>
        (pm_fR [(0, 7)] h11 v13).bind fun v14 =>
        (pm_fR [(3, 2)] h11 x0).bind fun v15 =>
        (pm_ai 0 h11 v15 x1).bind fun v16 =>
        (if pm_cl_ h11 x0 = some 3 then F_X4_asked h11 x0 x1 v16 else none).bind fun q17 =>
        (q17.1).bind fun r18 =>
        (if pm_cl_ q17.2 v14 = some 4 then K_X5_says n q17.2 v14 120 r18 else none).bind fun q19 =>
        if q19.1 = 0 then
          (pm_put [(3, 8, 0)] q19.2 x0 (.int (v12 ||| (pm_shl 1 x1)))).bind fun h20 =>
          L_X4_eveningGoes_21 n x0 (x1 + 1) h20
        else
          (pm_put [(3, 8, 0)] q19.2 x0 (.int (v12 ||| 0))).bind fun h21 =>
          L_X4_eveningGoes_21 n x0 (x1 + 1) h21
    else
      some h
theorem ok_L_X4_eveningGoes_21 {d : Nat} : ∀ (n : Nat) {x0 : Nat} {x1 : Int32} {h : pm_H} {q : pm_H} {res : Option Value × pm_H}, L_X4_eveningGoes_21 n x0 x1 h = some q → (∀ z1 : Value, pm_nolong z1 = true → pm_E (d + 85) 4 cX4_eveningGoes (none) 102 [.ref x0, z1, pm_D, pm_D] [] q res) → pm_E (d + 85) 4 cX4_eveningGoes (none) 21 [.ref x0, .int x1, pm_D, pm_D] [] h res := by
  intro n
  induction n with
  | zero =>
    intro x0 x1 h q res hF hk
    rw [L_X4_eveningGoes_21] at hF
    cases hF
  | succ n ih =>
    intro x0 x1 h q res hF hk
    rw [L_X4_eveningGoes_21] at hF
    refine pr_iload_n dX4_eveningGoes_21 rfl ?_
    refine pr_bipush (v := 16) dX4_eveningGoes_22 (kb_16) ?_
    refine po_i hF (fun hc hF => ?_) (fun hc hF => ?_)
    · refine pr_icF (tgt := 102) dX4_eveningGoes_24 (by decide) (pc_geF hc) ?_
      refine pr_aload_n dX4_eveningGoes_27 rfl ?_
      obtain ⟨v6, hv6, hF⟩ := po_b hF
      refine pr_getR dX4_eveningGoes_28 tf_4_3 (hv6) ?_
      obtain ⟨v7, hv7, hF⟩ := po_b hF
      refine pr_getR dX4_eveningGoes_31 tf_4_37 (hv7) ?_
      refine pr_iload_n dX4_eveningGoes_34 rfl ?_
      obtain ⟨q8, hq8, hF⟩ := po_b hF
      refine po_i hq8 (fun hcl hq => ?_) (fun _ hq => nomatch hq)
      refine pr_V (as := [.int x1]) (rest := []) dX4_eveningGoes_35 cv_4_41 hcl rfl rfl rfl rfl (lb rfl) (lb rfl) (lb rfl) (ok_F_X1_isTold hq) ?_
      refine po_i hF (fun hc hF => ?_) (fun hc hF => ?_)
      · refine pr_ifF (tgt := 44) dX4_eveningGoes_38 (by decide) (pc_neF hc) ?_
        refine pr_goto (tgt := 96) dX4_eveningGoes_41 (by decide) ?_
        refine pr_iinc (v := 1) (L' := [.ref x0, .int (x1 + 1), pm_D, pm_D]) dX4_eveningGoes_96 rfl (kc_1) rfl ?_
        refine pr_goto (tgt := 21) dX4_eveningGoes_99 (by decide) ?_
        exact ih hF hk
      · refine pr_ifT (tgt := 44) dX4_eveningGoes_38 (by decide) (pc_neT hc) ?_
        refine pr_aload_n dX4_eveningGoes_44 rfl ?_
        obtain ⟨v9, hv9, hF⟩ := po_b hF
        refine pr_getR dX4_eveningGoes_45 tf_4_24 (hv9) ?_
        refine pr_iload_n dX4_eveningGoes_48 rfl ?_
        refine pr_aload_n dX4_eveningGoes_49 rfl ?_
        obtain ⟨q10, hq10, hF⟩ := po_b hF
        refine po_i hq10 (fun hcl hq => ?_) (fun _ hq => nomatch hq)
        refine pr_V (as := []) (rest := [.int x1, .ref v9]) dX4_eveningGoes_50 cv_4_102 hcl rfl rfl rfl rfl (lb rfl) (lb rfl) (lb rfl) (ok_F_X4_draw hq) ?_
        obtain ⟨h11, hh11, hF⟩ := po_b hF
        refine pr_iast dX4_eveningGoes_53 (hh11) ?_
        refine pr_aload_n dX4_eveningGoes_54 rfl ?_
        refine pr_dup dX4_eveningGoes_55 rfl ?_
        obtain ⟨v12, hv12, hF⟩ := po_b hF
        refine pr_getI dX4_eveningGoes_56 tf_4_77 (hv12) ?_
        refine pr_aload_n dX4_eveningGoes_59 rfl ?_
        obtain ⟨v13, hv13, hF⟩ := po_b hF
        refine pr_getR dX4_eveningGoes_60 tf_4_3 (hv13) ?_
        obtain ⟨v14, hv14, hF⟩ := po_b hF
        refine pr_getR dX4_eveningGoes_63 tf_4_106 (hv14) ?_
        refine pr_bipush (v := 120) dX4_eveningGoes_66 (kb_120) ?_
        refine pr_aload_n dX4_eveningGoes_68 rfl ?_
        refine pr_iload_n dX4_eveningGoes_69 rfl ?_
        refine pr_aload_n dX4_eveningGoes_70 rfl ?_
        obtain ⟨v15, hv15, hF⟩ := po_b hF
        refine pr_getR dX4_eveningGoes_71 tf_4_24 (hv15) ?_
        refine pr_iload_n dX4_eveningGoes_74 rfl ?_
        obtain ⟨v16, hv16, hF⟩ := po_b hF
        refine pr_iald dX4_eveningGoes_75 (hv16) ?_
        obtain ⟨q17, hq17, hF⟩ := po_b hF
        refine po_i hq17 (fun hcl hq => ?_) (fun _ hq => nomatch hq)
        refine pr_V (as := [.int x1, .int v16]) (rest := [.int 120, .ref v14, .int v12, .ref x0]) dX4_eveningGoes_76 cv_4_83 hcl rfl rfl rfl rfl (lb rfl) (lb rfl) (lb rfl) (ok_F_X4_asked hq) ?_
        obtain ⟨r18, hr18, hF⟩ := po_b hF
        rw [pv_s hr18]
        obtain ⟨q19, hq19, hF⟩ := po_b hF
        refine po_i hq19 (fun hcl hq => ?_) (fun _ hq => nomatch hq)
        refine pr_V (as := [.int 120, .ref r18]) (rest := [.int v12, .ref x0]) dX4_eveningGoes_79 cv_4_110 hcl rfl rfl rfl rfl (lb rfl) (lb rfl) (lb rfl) (ok_K_X5_says hq) ?_
        refine po_i hF (fun hc hF => ?_) (fun hc hF => ?_)
        · refine pr_ifT (tgt := 89) dX4_eveningGoes_82 (by decide) (pc_eqT hc) ?_
          refine pr_iconst (v := 1) dX4_eveningGoes_89 (kc_1) ?_
          refine pr_iload_n dX4_eveningGoes_90 rfl ?_
          refine pr_ishl dX4_eveningGoes_91 ?_
          refine pr_ior dX4_eveningGoes_92 ?_
          obtain ⟨h20, hh20, hF⟩ := po_b hF
          refine pr_put dX4_eveningGoes_93 tp_4_77 (hh20) ?_
          refine pr_iinc (v := 1) (L' := [.ref x0, .int (x1 + 1), pm_D, pm_D]) dX4_eveningGoes_96 rfl (kc_1) rfl ?_
          refine pr_goto (tgt := 21) dX4_eveningGoes_99 (by decide) ?_
          exact ih hF hk
        · refine pr_ifF (tgt := 89) dX4_eveningGoes_82 (by decide) (pc_eqF hc) ?_
          refine pr_iconst (v := 0) dX4_eveningGoes_85 (kc_0) ?_
          refine pr_goto (tgt := 92) dX4_eveningGoes_86 (by decide) ?_
          refine pr_ior dX4_eveningGoes_92 ?_
          obtain ⟨h21, hh21, hF⟩ := po_b hF
          refine pr_put dX4_eveningGoes_93 tp_4_77 (hh21) ?_
          refine pr_iinc (v := 1) (L' := [.ref x0, .int (x1 + 1), pm_D, pm_D]) dX4_eveningGoes_96 rfl (kc_1) rfl ?_
          refine pr_goto (tgt := 21) dX4_eveningGoes_99 (by decide) ?_
          exact ih hF hk
    · refine pr_icT (tgt := 102) dX4_eveningGoes_24 (by decide) (pc_geT hc) ?_
      cases hF
      exact hk _ rfl
def L_X4_eveningGoes_107 : Nat → Nat → Int32 → pm_H → Option (pm_H)
  | 0, _, _, _ => none
  | n + 1, x0, x1, h =>
    if x1 = (-1) then
      some h
    else
      (pm_fI [(3, 7)] h x0).bind fun v24 =>
      (pm_put [(3, 7, 0)] h x0 (.int (v24 &&& ((pm_shl 1 (x1 / 16)) ^^^ (-1))))).bind fun h25 =>
      (pm_fR [(3, 0)] h25 x0).bind fun v26 =>
      (pm_aR h25 v26 (pm_rem x1 16)).bind fun v27 =>
      (pm_fR [(3, 0)] h25 x0).bind fun v28 =>
      (pm_aR h25 v28 (pm_rem x1 16)).bind fun v29 =>
      (pm_ai 0 h25 v29 (x1 / 16)).bind fun v30 =>
      (F_J2_min 9999 (v30 + 1)).bind fun q31 =>
      (pm_si 0 h25 v27 (x1 / 16) q31).bind fun h32 =>
      (pm_fI [(3, 5)] h32 x0).bind fun v33 =>
      (pm_put [(3, 5, 0)] h32 x0 (.int (v33 + 1))).bind fun h34 =>
      (if pm_cl_ h34 x0 = some 3 then F_X4_chosen n h34 x0 else none).bind fun q35 =>
      L_X4_eveningGoes_107 n x0 q35.1 q35.2
theorem ok_L_X4_eveningGoes_107 {d : Nat} : ∀ (n : Nat) {x0 : Nat} {x1 : Int32} {w2 w3 : Value} {h : pm_H} {q : pm_H} {res : Option Value × pm_H}, L_X4_eveningGoes_107 n x0 x1 h = some q → pm_nolong w2 = true → pm_nolong w3 = true → (∀ z1 : Value, pm_nolong z1 = true → ∀ z2 : Value, pm_nolong z2 = true → ∀ z3 : Value, pm_nolong z3 = true → pm_E (d + 85) 4 cX4_eveningGoes (none) 178 [.ref x0, z1, z2, z3] [] q res) → pm_E (d + 85) 4 cX4_eveningGoes (none) 107 [.ref x0, .int x1, w2, w3] [] h res := by
  intro n
  induction n with
  | zero =>
    intro x0 x1 w2 w3 h q res hF hw2 hw3 hk
    rw [L_X4_eveningGoes_107] at hF
    cases hF
  | succ n ih =>
    intro x0 x1 w2 w3 h q res hF hw2 hw3 hk
    rw [L_X4_eveningGoes_107] at hF
    refine pr_iload_n dX4_eveningGoes_107 rfl ?_
    refine pr_iconst (v := (-1)) dX4_eveningGoes_108 (kc_m1) ?_
    refine po_i hF (fun hc hF => ?_) (fun hc hF => ?_)
    · refine pr_icT (tgt := 178) dX4_eveningGoes_109 (by decide) (pc_eqT hc) ?_
      cases hF
      exact hk _ rfl _ hw2 _ hw3
    · refine pr_icF (tgt := 178) dX4_eveningGoes_109 (by decide) (pc_eqF hc) ?_
      refine pr_iload_n dX4_eveningGoes_112 rfl ?_
      refine pr_bipush (v := 16) dX4_eveningGoes_113 (kb_16) ?_
      refine pr_idiv dX4_eveningGoes_115 (by decide) ?_
      refine pr_istore_n (L' := [.ref x0, .int x1, .int (x1 / 16), w3]) dX4_eveningGoes_116 rfl ?_
      refine pr_iload_n dX4_eveningGoes_117 rfl ?_
      refine pr_bipush (v := 16) dX4_eveningGoes_118 (kb_16) ?_
      refine pr_irem dX4_eveningGoes_120 (by decide) ?_
      refine pr_istore_n (L' := [.ref x0, .int x1, .int (x1 / 16), .int (pm_rem x1 16)]) dX4_eveningGoes_121 rfl ?_
      refine pr_aload_n dX4_eveningGoes_122 rfl ?_
      refine pr_dup dX4_eveningGoes_123 rfl ?_
      obtain ⟨v24, hv24, hF⟩ := po_b hF
      refine pr_getI dX4_eveningGoes_124 tf_4_55 (hv24) ?_
      refine pr_iconst (v := 1) dX4_eveningGoes_127 (kc_1) ?_
      refine pr_iload_n dX4_eveningGoes_128 rfl ?_
      refine pr_ishl dX4_eveningGoes_129 ?_
      refine pr_iconst (v := (-1)) dX4_eveningGoes_130 (kc_m1) ?_
      refine pr_ixor dX4_eveningGoes_131 ?_
      refine pr_iand dX4_eveningGoes_132 ?_
      obtain ⟨h25, hh25, hF⟩ := po_b hF
      refine pr_put dX4_eveningGoes_133 tp_4_55 (hh25) ?_
      refine pr_aload_n dX4_eveningGoes_136 rfl ?_
      obtain ⟨v26, hv26, hF⟩ := po_b hF
      refine pr_getR dX4_eveningGoes_137 tf_4_17 (hv26) ?_
      refine pr_iload_n dX4_eveningGoes_140 rfl ?_
      obtain ⟨v27, hv27, hF⟩ := po_b hF
      refine pr_aald dX4_eveningGoes_141 (hv27) ?_
      refine pr_iload_n dX4_eveningGoes_142 rfl ?_
      refine pr_sipush (v := 9999) dX4_eveningGoes_143 (ks_9999) ?_
      refine pr_aload_n dX4_eveningGoes_146 rfl ?_
      obtain ⟨v28, hv28, hF⟩ := po_b hF
      refine pr_getR dX4_eveningGoes_147 tf_4_17 (hv28) ?_
      refine pr_iload_n dX4_eveningGoes_150 rfl ?_
      obtain ⟨v29, hv29, hF⟩ := po_b hF
      refine pr_aald dX4_eveningGoes_151 (hv29) ?_
      refine pr_iload_n dX4_eveningGoes_152 rfl ?_
      obtain ⟨v30, hv30, hF⟩ := po_b hF
      refine pr_iald dX4_eveningGoes_153 (hv30) ?_
      refine pr_iconst (v := 1) dX4_eveningGoes_154 (kc_1) ?_
      refine pr_iadd dX4_eveningGoes_155 ?_
      obtain ⟨q31, hq31, hF⟩ := po_b hF
      refine pr_S dX4_eveningGoes_156 cs_4_119 (as := [.int 9999, .int (v30 + 1)]) (rest := [.int (x1 / 16), .ref v27]) rfl rfl rfl (lb rfl) (lb rfl) (lb rfl) (ok_F_J2_min hq31) ?_
      obtain ⟨h32, hh32, hF⟩ := po_b hF
      refine pr_iast dX4_eveningGoes_159 (hh32) ?_
      refine pr_aload_n dX4_eveningGoes_160 rfl ?_
      refine pr_dup dX4_eveningGoes_161 rfl ?_
      obtain ⟨v33, hv33, hF⟩ := po_b hF
      refine pr_getI dX4_eveningGoes_162 tf_4_123 (hv33) ?_
      refine pr_iconst (v := 1) dX4_eveningGoes_165 (kc_1) ?_
      refine pr_iadd dX4_eveningGoes_166 ?_
      obtain ⟨h34, hh34, hF⟩ := po_b hF
      refine pr_put dX4_eveningGoes_167 tp_4_123 (hh34) ?_
      refine pr_aload_n dX4_eveningGoes_170 rfl ?_
      obtain ⟨q35, hq35, hF⟩ := po_b hF
      refine po_i hq35 (fun hcl hq => ?_) (fun _ hq => nomatch hq)
      refine pr_V (as := []) (rest := []) dX4_eveningGoes_171 cv_4_116 hcl rfl rfl rfl rfl (lb rfl) (lb rfl) (lb rfl) (ok_F_X4_chosen hq) ?_
      refine pr_istore_n (L' := [.ref x0, .int q35.1, .int (x1 / 16), .int (pm_rem x1 16)]) dX4_eveningGoes_174 rfl ?_
      refine pr_goto (tgt := 107) dX4_eveningGoes_175 (by decide) ?_
      exact ih hF rfl rfl hk
def L_X4_eveningGoes_200 : Nat → Nat → Int32 → Int32 → pm_H → Option (pm_H)
  | 0, _, _, _, _ => none
  | n + 1, x0, x1, x2, h =>
    if x2 < 16 then
      if x2 = x1 then
        L_X4_eveningGoes_200 n x0 x1 (x2 + 1) h
      else
        (pm_fI [(3, 7)] h x0).bind fun v40 =>
        (pm_fR [(3, 9)] h x0).bind fun v41 =>
        (pm_fR [(0, 0)] h v41).bind fun v42 =>
        (pm_fI [(1, 3)] h v42).bind fun v43 =>
        (F_X0_has (v40 &&& v43) x2).bind fun q44 =>
        if q44 = 0 then
          L_X4_eveningGoes_200 n x0 x1 (x2 + 1) h
        else
          (pm_fR [(3, 1)] h x0).bind fun v45 =>
          (pm_fR [(3, 1)] h x0).bind fun v46 =>
          (pm_ai 0 h v46 x2).bind fun v47 =>
          (F_J2_min 9999 (v47 + 1)).bind fun q48 =>
          (pm_si 0 h v45 x2 q48).bind fun h49 =>
          L_X4_eveningGoes_200 n x0 x1 (x2 + 1) h49
    else
      some h
theorem ok_L_X4_eveningGoes_200 {d : Nat} : ∀ (n : Nat) {x0 : Nat} {x1 : Int32} {x2 : Int32} {w3 : Value} {h : pm_H} {q : pm_H} {res : Option Value × pm_H}, L_X4_eveningGoes_200 n x0 x1 x2 h = some q → pm_nolong w3 = true → (∀ z2 : Value, pm_nolong z2 = true → pm_E (d + 85) 4 cX4_eveningGoes (none) 259 [.ref x0, .int x1, z2, w3] [] q res) → pm_E (d + 85) 4 cX4_eveningGoes (none) 200 [.ref x0, .int x1, .int x2, w3] [] h res := by
  intro n
  induction n with
  | zero =>
    intro x0 x1 x2 w3 h q res hF hw3 hk
    rw [L_X4_eveningGoes_200] at hF
    cases hF
  | succ n ih =>
    intro x0 x1 x2 w3 h q res hF hw3 hk
    rw [L_X4_eveningGoes_200] at hF
    refine pr_iload_n dX4_eveningGoes_200 rfl ?_
    refine pr_bipush (v := 16) dX4_eveningGoes_201 (kb_16) ?_
    refine po_i hF (fun hc hF => ?_) (fun hc hF => ?_)
    · refine pr_icF (tgt := 259) dX4_eveningGoes_203 (by decide) (pc_geF hc) ?_
      refine pr_iload_n dX4_eveningGoes_206 rfl ?_
      refine pr_iload_n dX4_eveningGoes_207 rfl ?_
      refine po_i hF (fun hc hF => ?_) (fun hc hF => ?_)
      · refine pr_icT (tgt := 253) dX4_eveningGoes_208 (by decide) (pc_eqT hc) ?_
        refine pr_iinc (v := 1) (L' := [.ref x0, .int x1, .int (x2 + 1), w3]) dX4_eveningGoes_253 rfl (kc_1) rfl ?_
        refine pr_goto (tgt := 200) dX4_eveningGoes_256 (by decide) ?_
        exact ih hF hw3 hk
      · refine pr_icF (tgt := 253) dX4_eveningGoes_208 (by decide) (pc_eqF hc) ?_
        refine pr_aload_n dX4_eveningGoes_211 rfl ?_
        obtain ⟨v40, hv40, hF⟩ := po_b hF
        refine pr_getI dX4_eveningGoes_212 tf_4_55 (hv40) ?_
        refine pr_aload_n dX4_eveningGoes_215 rfl ?_
        obtain ⟨v41, hv41, hF⟩ := po_b hF
        refine pr_getR dX4_eveningGoes_216 tf_4_3 (hv41) ?_
        obtain ⟨v42, hv42, hF⟩ := po_b hF
        refine pr_getR dX4_eveningGoes_219 tf_4_37 (hv42) ?_
        obtain ⟨v43, hv43, hF⟩ := po_b hF
        refine pr_getI dX4_eveningGoes_222 tf_4_58 (hv43) ?_
        refine pr_iand dX4_eveningGoes_225 ?_
        refine pr_iload_n dX4_eveningGoes_226 rfl ?_
        obtain ⟨q44, hq44, hF⟩ := po_b hF
        refine pr_S dX4_eveningGoes_227 cs_4_73 (as := [.int (v40 &&& v43), .int x2]) (rest := []) rfl rfl rfl (lb rfl) (lb rfl) (lb rfl) (ok_F_X0_has hq44) ?_
        refine po_i hF (fun hc hF => ?_) (fun hc hF => ?_)
        · refine pr_ifT (tgt := 253) dX4_eveningGoes_230 (by decide) (pc_eqT hc) ?_
          refine pr_iinc (v := 1) (L' := [.ref x0, .int x1, .int (x2 + 1), w3]) dX4_eveningGoes_253 rfl (kc_1) rfl ?_
          refine pr_goto (tgt := 200) dX4_eveningGoes_256 (by decide) ?_
          exact ih hF hw3 hk
        · refine pr_ifF (tgt := 253) dX4_eveningGoes_230 (by decide) (pc_eqF hc) ?_
          refine pr_aload_n dX4_eveningGoes_233 rfl ?_
          obtain ⟨v45, hv45, hF⟩ := po_b hF
          refine pr_getR dX4_eveningGoes_234 tf_4_20 (hv45) ?_
          refine pr_iload_n dX4_eveningGoes_237 rfl ?_
          refine pr_sipush (v := 9999) dX4_eveningGoes_238 (ks_9999) ?_
          refine pr_aload_n dX4_eveningGoes_241 rfl ?_
          obtain ⟨v46, hv46, hF⟩ := po_b hF
          refine pr_getR dX4_eveningGoes_242 tf_4_20 (hv46) ?_
          refine pr_iload_n dX4_eveningGoes_245 rfl ?_
          obtain ⟨v47, hv47, hF⟩ := po_b hF
          refine pr_iald dX4_eveningGoes_246 (hv47) ?_
          refine pr_iconst (v := 1) dX4_eveningGoes_247 (kc_1) ?_
          refine pr_iadd dX4_eveningGoes_248 ?_
          obtain ⟨q48, hq48, hF⟩ := po_b hF
          refine pr_S dX4_eveningGoes_249 cs_4_119 (as := [.int 9999, .int (v47 + 1)]) (rest := [.int x2, .ref v45]) rfl rfl rfl (lb rfl) (lb rfl) (lb rfl) (ok_F_J2_min hq48) ?_
          obtain ⟨h49, hh49, hF⟩ := po_b hF
          refine pr_iast dX4_eveningGoes_252 (hh49) ?_
          refine pr_iinc (v := 1) (L' := [.ref x0, .int x1, .int (x2 + 1), w3]) dX4_eveningGoes_253 rfl (kc_1) rfl ?_
          refine pr_goto (tgt := 200) dX4_eveningGoes_256 (by decide) ?_
          exact ih hF hw3 hk
    · refine pr_icT (tgt := 259) dX4_eveningGoes_203 (by decide) (pc_geT hc) ?_
      cases hF
      exact hk _ rfl
def F_X4_eveningGoes (n : Nat) (h : pm_H) (a0 : Nat) : Option (pm_H) :=
  (pm_fR [(3, 9)] h a0).bind fun v1 =>
  (pm_fR [(0, 0)] h v1).bind fun v2 =>
  (pm_fI [(1, 2)] h v2).bind fun v3 =>
  (pm_put [(3, 7, 0)] h a0 (.int v3)).bind fun h4 =>
  (pm_put [(3, 8, 0)] h4 a0 (.int 0)).bind fun h5 =>
  (L_X4_eveningGoes_21 n a0 0 h5).bind fun q22 =>
  (if pm_cl_ q22 a0 = some 3 then F_X4_chosen n q22 a0 else none).bind fun q23 =>
  (L_X4_eveningGoes_107 n a0 q23.1 q23.2).bind fun q36 =>
  (if pm_cl_ q36 a0 = some 3 then F_X4_beds n q36 a0 else none).bind fun q37 =>
  ((
    if q37.1 = (-1) then
      some (-2)
    else
      some q37.1
  ) : Option (Int32)).bind fun q38 =>
  (pm_put [(3, 6, 0)] q37.2 a0 (.int q38)).bind fun h39 =>
  (L_X4_eveningGoes_200 n a0 q37.1 0 h39).bind fun q50 =>
  (pm_fI [(3, 3)] q50 a0).bind fun v51 =>
  (pm_put [(3, 3, 0)] q50 a0 (.int (v51 + 1))).bind fun h52 =>
  some h52
theorem ok_F_X4_eveningGoes {d n : Nat} {h : pm_H} {a0 : Nat} {q : pm_H} (hF : F_X4_eveningGoes n h a0 = some q) : pm_E (d + 85) 4 cX4_eveningGoes (none) 0 [.ref a0, pm_D, pm_D, pm_D] [] h (none, q) := by
  unfold F_X4_eveningGoes at hF
  refine pr_aload_n dX4_eveningGoes_0 rfl ?_
  refine pr_aload_n dX4_eveningGoes_1 rfl ?_
  obtain ⟨v1, hv1, hF⟩ := po_b hF
  refine pr_getR dX4_eveningGoes_2 tf_4_3 (hv1) ?_
  obtain ⟨v2, hv2, hF⟩ := po_b hF
  refine pr_getR dX4_eveningGoes_5 tf_4_37 (hv2) ?_
  obtain ⟨v3, hv3, hF⟩ := po_b hF
  refine pr_getI dX4_eveningGoes_8 tf_4_99 (hv3) ?_
  obtain ⟨h4, hh4, hF⟩ := po_b hF
  refine pr_put dX4_eveningGoes_11 tp_4_55 (hh4) ?_
  refine pr_aload_n dX4_eveningGoes_14 rfl ?_
  refine pr_iconst (v := 0) dX4_eveningGoes_15 (kc_0) ?_
  obtain ⟨h5, hh5, hF⟩ := po_b hF
  refine pr_put dX4_eveningGoes_16 tp_4_77 (hh5) ?_
  refine pr_iconst (v := 0) dX4_eveningGoes_19 (kc_0) ?_
  refine pr_istore_n (L' := [.ref a0, .int 0, pm_D, pm_D]) dX4_eveningGoes_20 rfl ?_
  obtain ⟨q22, hq22, hF⟩ := po_b hF
  refine ok_L_X4_eveningGoes_21 n hq22 (fun z1 hz1 => ?_)
  refine pr_aload_n dX4_eveningGoes_102 rfl ?_
  obtain ⟨q23, hq23, hF⟩ := po_b hF
  refine po_i hq23 (fun hcl hq => ?_) (fun _ hq => nomatch hq)
  refine pr_V (as := []) (rest := []) dX4_eveningGoes_103 cv_4_116 hcl rfl rfl rfl rfl (lb rfl) (lb rfl) (lb rfl) (ok_F_X4_chosen hq) ?_
  refine pr_istore_n (L' := [.ref a0, .int q23.1, pm_D, pm_D]) dX4_eveningGoes_106 rfl ?_
  obtain ⟨q36, hq36, hF⟩ := po_b hF
  refine ok_L_X4_eveningGoes_107 n hq36 rfl rfl (fun z1 hz1 z2 hz2 z3 hz3 => ?_)
  refine pr_aload_n dX4_eveningGoes_178 rfl ?_
  obtain ⟨q37, hq37, hF⟩ := po_b hF
  refine po_i hq37 (fun hcl hq => ?_) (fun _ hq => nomatch hq)
  refine pr_V (as := []) (rest := []) dX4_eveningGoes_179 cv_4_126 hcl rfl rfl rfl rfl (lb rfl) (lb rfl) (lb rfl) (ok_F_X4_beds hq) ?_
  refine pr_istore_n (L' := [.ref a0, .int q37.1, z2, z3]) dX4_eveningGoes_182 rfl ?_
  refine pr_aload_n dX4_eveningGoes_183 rfl ?_
  refine pr_iload_n dX4_eveningGoes_184 rfl ?_
  refine pr_iconst (v := (-1)) dX4_eveningGoes_185 (kc_m1) ?_
  obtain ⟨q38, hq38, hF⟩ := po_b hF
  have J195 : pm_E (d + 85) 4 cX4_eveningGoes (none) 195 [.ref a0, .int q37.1, z2, z3] [.int q38, .ref a0] q37.2 (none, q) := by
    obtain ⟨h39, hh39, hF⟩ := po_b hF
    refine pr_put dX4_eveningGoes_195 tp_4_27 (hh39) ?_
    refine pr_iconst (v := 0) dX4_eveningGoes_198 (kc_0) ?_
    refine pr_istore_n (L' := [.ref a0, .int q37.1, .int 0, z3]) dX4_eveningGoes_199 rfl ?_
    obtain ⟨q50, hq50, hF⟩ := po_b hF
    refine ok_L_X4_eveningGoes_200 n hq50 hz3 (fun z2 hz2 => ?_)
    refine pr_aload_n dX4_eveningGoes_259 rfl ?_
    refine pr_dup dX4_eveningGoes_260 rfl ?_
    obtain ⟨v51, hv51, hF⟩ := po_b hF
    refine pr_getI dX4_eveningGoes_261 tf_4_31 (hv51) ?_
    refine pr_iconst (v := 1) dX4_eveningGoes_264 (kc_1) ?_
    refine pr_iadd dX4_eveningGoes_265 ?_
    obtain ⟨h52, hh52, hF⟩ := po_b hF
    refine pr_put dX4_eveningGoes_266 tp_4_31 (hh52) ?_
    cases hF
    exact pr_vret dX4_eveningGoes_269 rfl rfl
  clear hF
  have hF := hq38
  refine po_i hF (fun hc hF => ?_) (fun hc hF => ?_)
  · refine pr_icF (tgt := 194) dX4_eveningGoes_186 (by decide) (pc_neF hc) ?_
    refine pr_bipush (v := (-2)) dX4_eveningGoes_189 (kb_m2) ?_
    refine pr_goto (tgt := 195) dX4_eveningGoes_191 (by decide) ?_
    cases hF
    exact J195
  · refine pr_icT (tgt := 194) dX4_eveningGoes_186 (by decide) (pc_neT hc) ?_
    refine pr_iload_n dX4_eveningGoes_194 rfl ?_
    cases hF
    exact J195

def L_X4_goes_13 : Nat → Nat → Int32 → Int32 → pm_H → Option (pm_H)
  | 0, _, _, _, _ => none
  | n + 1, x0, x1, x2, h =>
    if x2 < x1 then
      (pm_fI [(3, 3)] h x0).bind fun v3 =>
      if v3 < 9999 then
        (if pm_cl_ h x0 = some 3 then F_X4_eveningGoes n h x0 else none).bind fun q4 =>
        L_X4_goes_13 n x0 x1 (x2 + 1) q4
      else
        some h
    else
      some h
theorem ok_L_X4_goes_13 {d : Nat} : ∀ (n : Nat) {x0 : Nat} {x1 : Int32} {x2 : Int32} {h : pm_H} {q : pm_H} {res : Option Value × pm_H}, L_X4_goes_13 n x0 x1 x2 h = some q → (∀ z2 : Value, pm_nolong z2 = true → pm_E (d + 86) 4 cX4_goes (some (.object "AnyKeyTown$Town")) 38 [.ref x0, .int x1, z2] [] q res) → pm_E (d + 86) 4 cX4_goes (some (.object "AnyKeyTown$Town")) 13 [.ref x0, .int x1, .int x2] [] h res := by
  intro n
  induction n with
  | zero =>
    intro x0 x1 x2 h q res hF hk
    rw [L_X4_goes_13] at hF
    cases hF
  | succ n ih =>
    intro x0 x1 x2 h q res hF hk
    rw [L_X4_goes_13] at hF
    refine pr_iload_n dX4_goes_13 rfl ?_
    refine pr_iload_n dX4_goes_14 rfl ?_
    refine po_i hF (fun hc hF => ?_) (fun hc hF => ?_)
    · refine pr_icF (tgt := 38) dX4_goes_15 (by decide) (pc_geF hc) ?_
      refine pr_aload_n dX4_goes_18 rfl ?_
      obtain ⟨v3, hv3, hF⟩ := po_b hF
      refine pr_getI dX4_goes_19 tf_4_31 (hv3) ?_
      refine pr_sipush (v := 9999) dX4_goes_22 (ks_9999) ?_
      refine po_i hF (fun hc hF => ?_) (fun hc hF => ?_)
      · refine pr_icF (tgt := 38) dX4_goes_25 (by decide) (pc_geF hc) ?_
        refine pr_aload_n dX4_goes_28 rfl ?_
        obtain ⟨q4, hq4, hF⟩ := po_b hF
        refine po_i hq4 (fun hcl hq => ?_) (fun _ hq => nomatch hq)
        refine pr_V (as := []) (rest := []) dX4_goes_29 cv_4_129 hcl rfl rfl rfl rfl (lb rfl) (lb rfl) (lb rfl) (ok_F_X4_eveningGoes hq) ?_
        refine pr_iinc (v := 1) (L' := [.ref x0, .int x1, .int (x2 + 1)]) dX4_goes_32 rfl (kc_1) rfl ?_
        refine pr_goto (tgt := 13) dX4_goes_35 (by decide) ?_
        exact ih hF hk
      · refine pr_icT (tgt := 38) dX4_goes_25 (by decide) (pc_geT hc) ?_
        cases hF
        exact hk _ rfl
    · refine pr_icT (tgt := 38) dX4_goes_15 (by decide) (pc_geT hc) ?_
      cases hF
      exact hk _ rfl
def F_X4_goes (n : Nat) (h : pm_H) (a0 : Nat) (x1 : Int32) : Option ((Option Nat) × pm_H) :=
  (pm_put [(3, 5, 0)] h a0 (.int 0)).bind fun h1 =>
  (pm_put [(3, 6, 0)] h1 a0 (.int (-2))).bind fun h2 =>
  (L_X4_goes_13 n a0 x1 0 h2).bind fun q5 =>
  some ((some a0), q5)
theorem ok_F_X4_goes {d n : Nat} {h : pm_H} {a0 : Nat} {x1 : Int32} {q : (Option Nat) × pm_H} (hF : F_X4_goes n h a0 x1 = some q) : pm_E (d + 86) 4 cX4_goes (some (.object "AnyKeyTown$Town")) 0 [.ref a0, .int x1, pm_D] [] h (some (va_rf q.1), q.2) := by
  unfold F_X4_goes at hF
  refine pr_aload_n dX4_goes_0 rfl ?_
  refine pr_iconst (v := 0) dX4_goes_1 (kc_0) ?_
  obtain ⟨h1, hh1, hF⟩ := po_b hF
  refine pr_put dX4_goes_2 tp_4_123 (hh1) ?_
  refine pr_aload_n dX4_goes_5 rfl ?_
  refine pr_bipush (v := (-2)) dX4_goes_6 (kb_m2) ?_
  obtain ⟨h2, hh2, hF⟩ := po_b hF
  refine pr_put dX4_goes_8 tp_4_27 (hh2) ?_
  refine pr_iconst (v := 0) dX4_goes_11 (kc_0) ?_
  refine pr_istore_n (L' := [.ref a0, .int x1, .int 0]) dX4_goes_12 rfl ?_
  obtain ⟨q5, hq5, hF⟩ := po_b hF
  refine ok_L_X4_goes_13 n hq5 (fun z2 hz2 => ?_)
  refine pr_aload_n dX4_goes_38 rfl ?_
  cases hF
  exact pr_aret dX4_goes_39 rfl (Or.inr ⟨_, rfl⟩) rfl

def F_X0_evenings (n : Nat) (h : pm_H) (a0 : Nat) (x1 : Int32) : Option (Int32 × pm_H) :=
  (F_X0_within x1 1 100).bind fun q1 =>
  if q1 = 0 then
    some ((-1), h)
  else
    (pm_fR [(0, 3)] h a0).bind fun v2 =>
    (if pm_cl_ h v2 = some 3 then F_X4_goes n h v2 x1 else none).bind fun q3 =>
    (q3.1).bind fun r4 =>
    (pm_fI [(3, 5)] q3.2 r4).bind fun v5 =>
    some (v5, q3.2)
theorem ok_F_X0_evenings {d n : Nat} {h : pm_H} {a0 : Nat} {x1 : Int32} {q : Int32 × pm_H} (hF : F_X0_evenings n h a0 x1 = some q) : pm_E (d + 87) 0 cX0_evenings (some .int) 0 [.ref a0, .int x1] [] h (some (.int q.1), q.2) := by
  unfold F_X0_evenings at hF
  refine pr_iload_n dX0_evenings_0 rfl ?_
  refine pr_iconst (v := 1) dX0_evenings_1 (kc_1) ?_
  refine pr_bipush (v := 100) dX0_evenings_2 (kb_100) ?_
  obtain ⟨q1, hq1, hF⟩ := po_b hF
  refine pr_S dX0_evenings_4 cs_0_120 (as := [.int x1, .int 1, .int 100]) (rest := []) rfl rfl rfl (lb rfl) (lb rfl) (lb rfl) (ok_F_X0_within hq1) ?_
  refine po_i hF (fun hc hF => ?_) (fun hc hF => ?_)
  · refine pr_ifT (tgt := 24) dX0_evenings_7 (by decide) (pc_eqT hc) ?_
    refine pr_iconst (v := (-1)) dX0_evenings_24 (kc_m1) ?_
    cases hF
    exact pr_iret dX0_evenings_25 rfl rfl rfl
  · refine pr_ifF (tgt := 24) dX0_evenings_7 (by decide) (pc_eqF hc) ?_
    refine pr_aload_n dX0_evenings_10 rfl ?_
    obtain ⟨v2, hv2, hF⟩ := po_b hF
    refine pr_getR dX0_evenings_11 tf_0_63 (hv2) ?_
    refine pr_iload_n dX0_evenings_14 rfl ?_
    obtain ⟨q3, hq3, hF⟩ := po_b hF
    refine po_i hq3 (fun hcl hq => ?_) (fun _ hq => nomatch hq)
    refine pr_V (as := [.int x1]) (rest := []) dX0_evenings_15 cv_0_161 hcl rfl rfl rfl rfl (lb rfl) (lb rfl) (lb rfl) (ok_F_X4_goes hq) ?_
    obtain ⟨r4, hr4, hF⟩ := po_b hF
    rw [pv_s hr4]
    obtain ⟨v5, hv5, hF⟩ := po_b hF
    refine pr_getI dX0_evenings_18 tf_0_165 (hv5) ?_
    refine pr_goto (tgt := 25) dX0_evenings_21 (by decide) ?_
    cases hF
    exact pr_iret dX0_evenings_25 rfl rfl rfl

def L_X4_takes_10 : Nat → Nat → Nat → Int32 → Int32 → pm_H → Option (pm_H)
  | 0, _, _, _, _, _ => none
  | n + 1, x0, x1, x2, x3, h =>
    if x3 < 16 then
      (pm_fR [(3, 0)] h x0).bind fun v1 =>
      (pm_aR h v1 x2).bind fun v2 =>
      (pm_fR [(3, 0)] h x1).bind fun v3 =>
      (pm_aR h v3 x2).bind fun v4 =>
      (pm_ai 0 h v4 x3).bind fun v5 =>
      (pm_si 0 h v2 x3 v5).bind fun h6 =>
      L_X4_takes_10 n x0 x1 x2 (x3 + 1) h6
    else
      some h
theorem ok_L_X4_takes_10 {d : Nat} : ∀ (n : Nat) {x0 : Nat} {x1 : Nat} {x2 : Int32} {x3 : Int32} {h : pm_H} {q : pm_H} {res : Option Value × pm_H}, L_X4_takes_10 n x0 x1 x2 x3 h = some q → (∀ z3 : Value, pm_nolong z3 = true → pm_E (d + 0) 4 cX4_takes (some (.object "AnyKeyTown$Town")) 38 [.ref x0, .ref x1, .int x2, z3] [] q res) → pm_E (d + 0) 4 cX4_takes (some (.object "AnyKeyTown$Town")) 10 [.ref x0, .ref x1, .int x2, .int x3] [] h res := by
  intro n
  induction n with
  | zero =>
    intro x0 x1 x2 x3 h q res hF hk
    rw [L_X4_takes_10] at hF
    cases hF
  | succ n ih =>
    intro x0 x1 x2 x3 h q res hF hk
    rw [L_X4_takes_10] at hF
    refine pr_iload_n dX4_takes_10 rfl ?_
    refine pr_bipush (v := 16) dX4_takes_11 (kb_16) ?_
    refine po_i hF (fun hc hF => ?_) (fun hc hF => ?_)
    · refine pr_icF (tgt := 38) dX4_takes_13 (by decide) (pc_geF hc) ?_
      refine pr_aload_n dX4_takes_16 rfl ?_
      obtain ⟨v1, hv1, hF⟩ := po_b hF
      refine pr_getR dX4_takes_17 tf_4_17 (hv1) ?_
      refine pr_iload_n dX4_takes_20 rfl ?_
      obtain ⟨v2, hv2, hF⟩ := po_b hF
      refine pr_aald dX4_takes_21 (hv2) ?_
      refine pr_iload_n dX4_takes_22 rfl ?_
      refine pr_aload_n dX4_takes_23 rfl ?_
      obtain ⟨v3, hv3, hF⟩ := po_b hF
      refine pr_getR dX4_takes_24 tf_4_17 (hv3) ?_
      refine pr_iload_n dX4_takes_27 rfl ?_
      obtain ⟨v4, hv4, hF⟩ := po_b hF
      refine pr_aald dX4_takes_28 (hv4) ?_
      refine pr_iload_n dX4_takes_29 rfl ?_
      obtain ⟨v5, hv5, hF⟩ := po_b hF
      refine pr_iald dX4_takes_30 (hv5) ?_
      obtain ⟨h6, hh6, hF⟩ := po_b hF
      refine pr_iast dX4_takes_31 (hh6) ?_
      refine pr_iinc (v := 1) (L' := [.ref x0, .ref x1, .int x2, .int (x3 + 1)]) dX4_takes_32 rfl (kc_1) rfl ?_
      refine pr_goto (tgt := 10) dX4_takes_35 (by decide) ?_
      exact ih hF hk
    · refine pr_icT (tgt := 38) dX4_takes_13 (by decide) (pc_geT hc) ?_
      cases hF
      exact hk _ rfl
def L_X4_takes_2 : Nat → Nat → Nat → Int32 → pm_H → Option (pm_H)
  | 0, _, _, _, _ => none
  | n + 1, x0, x1, x2, h =>
    if x2 < 16 then
      (L_X4_takes_10 n x0 x1 x2 0 h).bind fun q7 =>
      (pm_fR [(3, 1)] q7 x0).bind fun v8 =>
      (pm_fR [(3, 1)] q7 x1).bind fun v9 =>
      (pm_ai 0 q7 v9 x2).bind fun v10 =>
      (pm_si 0 q7 v8 x2 v10).bind fun h11 =>
      L_X4_takes_2 n x0 x1 (x2 + 1) h11
    else
      some h
theorem ok_L_X4_takes_2 {d : Nat} : ∀ (n : Nat) {x0 : Nat} {x1 : Nat} {x2 : Int32} {w3 : Value} {h : pm_H} {q : pm_H} {res : Option Value × pm_H}, L_X4_takes_2 n x0 x1 x2 h = some q → pm_nolong w3 = true → (∀ z2 : Value, pm_nolong z2 = true → ∀ z3 : Value, pm_nolong z3 = true → pm_E (d + 0) 4 cX4_takes (some (.object "AnyKeyTown$Town")) 56 [.ref x0, .ref x1, z2, z3] [] q res) → pm_E (d + 0) 4 cX4_takes (some (.object "AnyKeyTown$Town")) 2 [.ref x0, .ref x1, .int x2, w3] [] h res := by
  intro n
  induction n with
  | zero =>
    intro x0 x1 x2 w3 h q res hF hw3 hk
    rw [L_X4_takes_2] at hF
    cases hF
  | succ n ih =>
    intro x0 x1 x2 w3 h q res hF hw3 hk
    rw [L_X4_takes_2] at hF
    refine pr_iload_n dX4_takes_2 rfl ?_
    refine pr_bipush (v := 16) dX4_takes_3 (kb_16) ?_
    refine po_i hF (fun hc hF => ?_) (fun hc hF => ?_)
    · refine pr_icF (tgt := 56) dX4_takes_5 (by decide) (pc_geF hc) ?_
      refine pr_iconst (v := 0) dX4_takes_8 (kc_0) ?_
      refine pr_istore_n (L' := [.ref x0, .ref x1, .int x2, .int 0]) dX4_takes_9 rfl ?_
      obtain ⟨q7, hq7, hF⟩ := po_b hF
      refine ok_L_X4_takes_10 n hq7 (fun z3 hz3 => ?_)
      refine pr_aload_n dX4_takes_38 rfl ?_
      obtain ⟨v8, hv8, hF⟩ := po_b hF
      refine pr_getR dX4_takes_39 tf_4_20 (hv8) ?_
      refine pr_iload_n dX4_takes_42 rfl ?_
      refine pr_aload_n dX4_takes_43 rfl ?_
      obtain ⟨v9, hv9, hF⟩ := po_b hF
      refine pr_getR dX4_takes_44 tf_4_20 (hv9) ?_
      refine pr_iload_n dX4_takes_47 rfl ?_
      obtain ⟨v10, hv10, hF⟩ := po_b hF
      refine pr_iald dX4_takes_48 (hv10) ?_
      obtain ⟨h11, hh11, hF⟩ := po_b hF
      refine pr_iast dX4_takes_49 (hh11) ?_
      refine pr_iinc (v := 1) (L' := [.ref x0, .ref x1, .int (x2 + 1), z3]) dX4_takes_50 rfl (kc_1) rfl ?_
      refine pr_goto (tgt := 2) dX4_takes_53 (by decide) ?_
      exact ih hF hz3 hk
    · refine pr_icT (tgt := 56) dX4_takes_5 (by decide) (pc_geT hc) ?_
      cases hF
      exact hk _ rfl _ hw3
def F_X4_takes (n : Nat) (h : pm_H) (a0 : Nat) (a1 : Nat) : Option ((Option Nat) × pm_H) :=
  (L_X4_takes_2 n a0 a1 0 h).bind fun q12 =>
  (pm_fI [(3, 3)] q12 a1).bind fun v13 =>
  (pm_put [(3, 3, 0)] q12 a0 (.int v13)).bind fun h14 =>
  (pm_fI [(3, 4)] h14 a1).bind fun v15 =>
  (pm_put [(3, 4, 0)] h14 a0 (.int v15)).bind fun h16 =>
  some ((some a0), h16)
theorem ok_F_X4_takes {d n : Nat} {h : pm_H} {a0 : Nat} {a1 : Nat} {q : (Option Nat) × pm_H} (hF : F_X4_takes n h a0 a1 = some q) : pm_E (d + 0) 4 cX4_takes (some (.object "AnyKeyTown$Town")) 0 [.ref a0, .ref a1, pm_D, pm_D] [] h (some (va_rf q.1), q.2) := by
  unfold F_X4_takes at hF
  refine pr_iconst (v := 0) dX4_takes_0 (kc_0) ?_
  refine pr_istore_n (L' := [.ref a0, .ref a1, .int 0, pm_D]) dX4_takes_1 rfl ?_
  obtain ⟨q12, hq12, hF⟩ := po_b hF
  refine ok_L_X4_takes_2 n hq12 rfl (fun z2 hz2 z3 hz3 => ?_)
  refine pr_aload_n dX4_takes_56 rfl ?_
  refine pr_aload_n dX4_takes_57 rfl ?_
  obtain ⟨v13, hv13, hF⟩ := po_b hF
  refine pr_getI dX4_takes_58 tf_4_31 (hv13) ?_
  obtain ⟨h14, hh14, hF⟩ := po_b hF
  refine pr_put dX4_takes_61 tp_4_31 (hh14) ?_
  refine pr_aload_n dX4_takes_64 rfl ?_
  refine pr_aload_n dX4_takes_65 rfl ?_
  obtain ⟨v15, hv15, hF⟩ := po_b hF
  refine pr_getI dX4_takes_66 tf_4_34 (hv15) ?_
  obtain ⟨h16, hh16, hF⟩ := po_b hF
  refine pr_put dX4_takes_69 tp_4_34 (hh16) ?_
  refine pr_aload_n dX4_takes_72 rfl ?_
  cases hF
  exact pr_aret dX4_takes_73 rfl (Or.inr ⟨_, rfl⟩) rfl

def L_X4_nightsOfAll_4 : Nat → Nat → Int32 → Int32 → pm_H → Option (Int32)
  | 0, _, _, _, _ => none
  | n + 1, x0, x1, x2, h =>
    if x2 < 16 then
      (pm_fR [(3, 9)] h x0).bind fun v1 =>
      (pm_fR [(0, 0)] h v1).bind fun v2 =>
      (if pm_cl_ h v2 = some 1 then F_X1_isTold h v2 x2 else none).bind fun q3 =>
      if q3 = 0 then
        L_X4_nightsOfAll_4 n x0 (x1 + 0) (x2 + 1) h
      else
        (pm_fR [(3, 1)] h x0).bind fun v4 =>
        (pm_ai 0 h v4 x2).bind fun v5 =>
        L_X4_nightsOfAll_4 n x0 (x1 + v5) (x2 + 1) h
    else
      some x1
theorem ok_L_X4_nightsOfAll_4 {d : Nat} : ∀ (n : Nat) {x0 : Nat} {x1 : Int32} {x2 : Int32} {h : pm_H} {q : Int32} {res : Option Value × pm_H}, L_X4_nightsOfAll_4 n x0 x1 x2 h = some q → (∀ z2 : Value, pm_nolong z2 = true → pm_E (d + 1) 4 cX4_nightsOfAll (some .int) 43 [.ref x0, .int q, z2] [] h res) → pm_E (d + 1) 4 cX4_nightsOfAll (some .int) 4 [.ref x0, .int x1, .int x2] [] h res := by
  intro n
  induction n with
  | zero =>
    intro x0 x1 x2 h q res hF hk
    rw [L_X4_nightsOfAll_4] at hF
    cases hF
  | succ n ih =>
    intro x0 x1 x2 h q res hF hk
    rw [L_X4_nightsOfAll_4] at hF
    refine pr_iload_n dX4_nightsOfAll_4 rfl ?_
    refine pr_bipush (v := 16) dX4_nightsOfAll_5 (kb_16) ?_
    refine po_i hF (fun hc hF => ?_) (fun hc hF => ?_)
    · refine pr_icF (tgt := 43) dX4_nightsOfAll_7 (by decide) (pc_geF hc) ?_
      refine pr_iload_n dX4_nightsOfAll_10 rfl ?_
      refine pr_aload_n dX4_nightsOfAll_11 rfl ?_
      obtain ⟨v1, hv1, hF⟩ := po_b hF
      refine pr_getR dX4_nightsOfAll_12 tf_4_3 (hv1) ?_
      obtain ⟨v2, hv2, hF⟩ := po_b hF
      refine pr_getR dX4_nightsOfAll_15 tf_4_37 (hv2) ?_
      refine pr_iload_n dX4_nightsOfAll_18 rfl ?_
      obtain ⟨q3, hq3, hF⟩ := po_b hF
      refine po_i hq3 (fun hcl hq => ?_) (fun _ hq => nomatch hq)
      refine pr_V (as := [.int x2]) (rest := [.int x1]) dX4_nightsOfAll_19 cv_4_41 hcl rfl rfl rfl rfl (lb rfl) (lb rfl) (lb rfl) (ok_F_X1_isTold hq) ?_
      refine po_i hF (fun hc hF => ?_) (fun hc hF => ?_)
      · refine pr_ifT (tgt := 34) dX4_nightsOfAll_22 (by decide) (pc_eqT hc) ?_
        refine pr_iconst (v := 0) dX4_nightsOfAll_34 (kc_0) ?_
        refine pr_iadd dX4_nightsOfAll_35 ?_
        refine pr_istore_n (L' := [.ref x0, .int (x1 + 0), .int x2]) dX4_nightsOfAll_36 rfl ?_
        refine pr_iinc (v := 1) (L' := [.ref x0, .int (x1 + 0), .int (x2 + 1)]) dX4_nightsOfAll_37 rfl (kc_1) rfl ?_
        refine pr_goto (tgt := 4) dX4_nightsOfAll_40 (by decide) ?_
        exact ih hF hk
      · refine pr_ifF (tgt := 34) dX4_nightsOfAll_22 (by decide) (pc_eqF hc) ?_
        refine pr_aload_n dX4_nightsOfAll_25 rfl ?_
        obtain ⟨v4, hv4, hF⟩ := po_b hF
        refine pr_getR dX4_nightsOfAll_26 tf_4_20 (hv4) ?_
        refine pr_iload_n dX4_nightsOfAll_29 rfl ?_
        obtain ⟨v5, hv5, hF⟩ := po_b hF
        refine pr_iald dX4_nightsOfAll_30 (hv5) ?_
        refine pr_goto (tgt := 35) dX4_nightsOfAll_31 (by decide) ?_
        refine pr_iadd dX4_nightsOfAll_35 ?_
        refine pr_istore_n (L' := [.ref x0, .int (x1 + v5), .int x2]) dX4_nightsOfAll_36 rfl ?_
        refine pr_iinc (v := 1) (L' := [.ref x0, .int (x1 + v5), .int (x2 + 1)]) dX4_nightsOfAll_37 rfl (kc_1) rfl ?_
        refine pr_goto (tgt := 4) dX4_nightsOfAll_40 (by decide) ?_
        exact ih hF hk
    · refine pr_icT (tgt := 43) dX4_nightsOfAll_7 (by decide) (pc_geT hc) ?_
      cases hF
      exact hk _ rfl
def F_X4_nightsOfAll (n : Nat) (h : pm_H) (a0 : Nat) : Option (Int32) :=
  (L_X4_nightsOfAll_4 n a0 0 0 h).bind fun q6 =>
  some q6
theorem ok_F_X4_nightsOfAll {d n : Nat} {h : pm_H} {a0 : Nat} {q : Int32} (hF : F_X4_nightsOfAll n h a0 = some q) : pm_E (d + 1) 4 cX4_nightsOfAll (some .int) 0 [.ref a0, pm_D, pm_D] [] h (some (.int q), h) := by
  unfold F_X4_nightsOfAll at hF
  refine pr_iconst (v := 0) dX4_nightsOfAll_0 (kc_0) ?_
  refine pr_istore_n (L' := [.ref a0, .int 0, pm_D]) dX4_nightsOfAll_1 rfl ?_
  refine pr_iconst (v := 0) dX4_nightsOfAll_2 (kc_0) ?_
  refine pr_istore_n (L' := [.ref a0, .int 0, .int 0]) dX4_nightsOfAll_3 rfl ?_
  obtain ⟨q6, hq6, hF⟩ := po_b hF
  refine ok_L_X4_nightsOfAll_4 n hq6 (fun z2 hz2 => ?_)
  refine pr_iload_n dX4_nightsOfAll_43 rfl ?_
  cases hF
  exact pr_iret dX4_nightsOfAll_44 rfl rfl rfl

def L_X4_favoursOf_5 : Nat → Nat → Int32 → Int32 → Int32 → Int32 → pm_H → Option (Int32)
  | 0, _, _, _, _, _, _ => none
  | n + 1, x0, x1, x2, x3, x4, h =>
    if x4 < 16 then
      if x2 = 0 then
        (pm_fR [(3, 0)] h x0).bind fun v1 =>
        (pm_aR h v1 x1).bind fun v2 =>
        (pm_ai 0 h v2 x4).bind fun v3 =>
        L_X4_favoursOf_5 n x0 x1 x2 (x3 + v3) (x4 + 1) h
      else
        (pm_fR [(3, 0)] h x0).bind fun v4 =>
        (pm_aR h v4 x4).bind fun v5 =>
        (pm_ai 0 h v5 x1).bind fun v6 =>
        L_X4_favoursOf_5 n x0 x1 x2 (x3 + v6) (x4 + 1) h
    else
      some x3
theorem ok_L_X4_favoursOf_5 {d : Nat} : ∀ (n : Nat) {x0 : Nat} {x1 : Int32} {x2 : Int32} {x3 : Int32} {x4 : Int32} {h : pm_H} {q : Int32} {res : Option Value × pm_H}, L_X4_favoursOf_5 n x0 x1 x2 x3 x4 h = some q → (∀ z4 : Value, pm_nolong z4 = true → pm_E (d + 0) 4 cX4_favoursOf (some .int) 46 [.ref x0, .int x1, .int x2, .int q, z4] [] h res) → pm_E (d + 0) 4 cX4_favoursOf (some .int) 5 [.ref x0, .int x1, .int x2, .int x3, .int x4] [] h res := by
  intro n
  induction n with
  | zero =>
    intro x0 x1 x2 x3 x4 h q res hF hk
    rw [L_X4_favoursOf_5] at hF
    cases hF
  | succ n ih =>
    intro x0 x1 x2 x3 x4 h q res hF hk
    rw [L_X4_favoursOf_5] at hF
    refine pr_iload dX4_favoursOf_5 rfl ?_
    refine pr_bipush (v := 16) dX4_favoursOf_7 (kb_16) ?_
    refine po_i hF (fun hc hF => ?_) (fun hc hF => ?_)
    · refine pr_icF (tgt := 46) dX4_favoursOf_9 (by decide) (pc_geF hc) ?_
      refine pr_iload_n dX4_favoursOf_12 rfl ?_
      refine pr_iload_n dX4_favoursOf_13 rfl ?_
      refine po_i hF (fun hc hF => ?_) (fun hc hF => ?_)
      · refine pr_ifT (tgt := 29) dX4_favoursOf_14 (by decide) (pc_eqT hc) ?_
        refine pr_aload_n dX4_favoursOf_29 rfl ?_
        obtain ⟨v1, hv1, hF⟩ := po_b hF
        refine pr_getR dX4_favoursOf_30 tf_4_17 (hv1) ?_
        refine pr_iload_n dX4_favoursOf_33 rfl ?_
        obtain ⟨v2, hv2, hF⟩ := po_b hF
        refine pr_aald dX4_favoursOf_34 (hv2) ?_
        refine pr_iload dX4_favoursOf_35 rfl ?_
        obtain ⟨v3, hv3, hF⟩ := po_b hF
        refine pr_iald dX4_favoursOf_37 (hv3) ?_
        refine pr_iadd dX4_favoursOf_38 ?_
        refine pr_istore_n (L' := [.ref x0, .int x1, .int x2, .int (x3 + v3), .int x4]) dX4_favoursOf_39 rfl ?_
        refine pr_iinc (v := 1) (L' := [.ref x0, .int x1, .int x2, .int (x3 + v3), .int (x4 + 1)]) dX4_favoursOf_40 rfl (kc_1) rfl ?_
        refine pr_goto (tgt := 5) dX4_favoursOf_43 (by decide) ?_
        exact ih hF hk
      · refine pr_ifF (tgt := 29) dX4_favoursOf_14 (by decide) (pc_eqF hc) ?_
        refine pr_aload_n dX4_favoursOf_17 rfl ?_
        obtain ⟨v4, hv4, hF⟩ := po_b hF
        refine pr_getR dX4_favoursOf_18 tf_4_17 (hv4) ?_
        refine pr_iload dX4_favoursOf_21 rfl ?_
        obtain ⟨v5, hv5, hF⟩ := po_b hF
        refine pr_aald dX4_favoursOf_23 (hv5) ?_
        refine pr_iload_n dX4_favoursOf_24 rfl ?_
        obtain ⟨v6, hv6, hF⟩ := po_b hF
        refine pr_iald dX4_favoursOf_25 (hv6) ?_
        refine pr_goto (tgt := 38) dX4_favoursOf_26 (by decide) ?_
        refine pr_iadd dX4_favoursOf_38 ?_
        refine pr_istore_n (L' := [.ref x0, .int x1, .int x2, .int (x3 + v6), .int x4]) dX4_favoursOf_39 rfl ?_
        refine pr_iinc (v := 1) (L' := [.ref x0, .int x1, .int x2, .int (x3 + v6), .int (x4 + 1)]) dX4_favoursOf_40 rfl (kc_1) rfl ?_
        refine pr_goto (tgt := 5) dX4_favoursOf_43 (by decide) ?_
        exact ih hF hk
    · refine pr_icT (tgt := 46) dX4_favoursOf_9 (by decide) (pc_geT hc) ?_
      cases hF
      exact hk _ rfl
def F_X4_favoursOf (n : Nat) (h : pm_H) (a0 : Nat) (x1 : Int32) (x2 : Int32) : Option (Int32) :=
  (L_X4_favoursOf_5 n a0 x1 x2 0 0 h).bind fun q7 =>
  some q7
theorem ok_F_X4_favoursOf {d n : Nat} {h : pm_H} {a0 : Nat} {x1 : Int32} {x2 : Int32} {q : Int32} (hF : F_X4_favoursOf n h a0 x1 x2 = some q) : pm_E (d + 0) 4 cX4_favoursOf (some .int) 0 [.ref a0, .int x1, .int x2, pm_D, pm_D] [] h (some (.int q), h) := by
  unfold F_X4_favoursOf at hF
  refine pr_iconst (v := 0) dX4_favoursOf_0 (kc_0) ?_
  refine pr_istore_n (L' := [.ref a0, .int x1, .int x2, .int 0, pm_D]) dX4_favoursOf_1 rfl ?_
  refine pr_iconst (v := 0) dX4_favoursOf_2 (kc_0) ?_
  refine pr_istore (L' := [.ref a0, .int x1, .int x2, .int 0, .int 0]) dX4_favoursOf_3 rfl ?_
  obtain ⟨q7, hq7, hF⟩ := po_b hF
  refine ok_L_X4_favoursOf_5 n hq7 (fun z4 hz4 => ?_)
  refine pr_iload_n dX4_favoursOf_46 rfl ?_
  cases hF
  exact pr_iret dX4_favoursOf_47 rfl rfl rfl

def F_X0_tried (n : Nat) (h : pm_H) (a0 : Nat) (x1 : Int32) (x2 : Int32) : Option (Int32 × pm_H) :=
  (F_X0_within x1 1 100).bind fun q1 =>
  if q1 = 0 then
    some ((-1), h)
  else
    (F_X0_in x2 3).bind fun q2 =>
    if q2 = 0 then
      (pm_fR [(0, 0)] h a0).bind fun v19 =>
      (if pm_cl_ h v19 = some 1 then F_X1_isTold h v19 (x2 - 10) else none).bind fun q20 =>
      if q20 = 0 then
        (pm_fR [(0, 0)] h a0).bind fun v37 =>
        (if pm_cl_ h v37 = some 1 then F_X1_isTold h v37 (x2 - 30) else none).bind fun q38 =>
        if q38 = 0 then
          some ((-1), h)
        else
          (pm_fR [(0, 4)] h a0).bind fun v39 =>
          (pm_fR [(0, 3)] h a0).bind fun v40 =>
          (if pm_cl_ h v39 = some 3 then F_X4_takes n h v39 v40 else none).bind fun q41 =>
          (q41.1).bind fun r42 =>
          (if pm_cl_ q41.2 r42 = some 3 then F_X4_goes n q41.2 r42 x1 else none).bind fun q43 =>
          if x2.toInt < 0 ∨ 2 < x2.toInt then
            if x2 < 30 then
              (pm_fR [(0, 4)] q43.2 a0).bind fun v46 =>
              (pm_fR [(3, 1)] q43.2 v46).bind fun v47 =>
              (pm_ai 0 q43.2 v47 (x2 - 10)).bind fun v48 =>
              some (v48, q43.2)
            else
              (pm_fR [(0, 4)] q43.2 a0).bind fun v44 =>
              (if pm_cl_ q43.2 v44 = some 3 then F_X4_favoursOf n q43.2 v44 (x2 - 30) 0 else none).bind fun q45 =>
              some (q45, q43.2)
          else if x2 = 0 then
            (pm_fR [(0, 4)] q43.2 a0).bind fun v49 =>
            (pm_fI [(3, 5)] q43.2 v49).bind fun v50 =>
            some (v50, q43.2)
          else if x2 = 1 then
            (pm_fR [(0, 4)] q43.2 a0).bind fun v51 =>
            (pm_fI [(3, 6)] q43.2 v51).bind fun v52 =>
            some (v52, q43.2)
          else if x2 = 2 then
            (pm_fR [(0, 4)] q43.2 a0).bind fun v53 =>
            (if pm_cl_ q43.2 v53 = some 3 then F_X4_nightsOfAll n q43.2 v53 else none).bind fun q54 =>
            some (q54, q43.2)
          else none
      else
        (pm_fR [(0, 4)] h a0).bind fun v21 =>
        (pm_fR [(0, 3)] h a0).bind fun v22 =>
        (if pm_cl_ h v21 = some 3 then F_X4_takes n h v21 v22 else none).bind fun q23 =>
        (q23.1).bind fun r24 =>
        (if pm_cl_ q23.2 r24 = some 3 then F_X4_goes n q23.2 r24 x1 else none).bind fun q25 =>
        if x2.toInt < 0 ∨ 2 < x2.toInt then
          if x2 < 30 then
            (pm_fR [(0, 4)] q25.2 a0).bind fun v28 =>
            (pm_fR [(3, 1)] q25.2 v28).bind fun v29 =>
            (pm_ai 0 q25.2 v29 (x2 - 10)).bind fun v30 =>
            some (v30, q25.2)
          else
            (pm_fR [(0, 4)] q25.2 a0).bind fun v26 =>
            (if pm_cl_ q25.2 v26 = some 3 then F_X4_favoursOf n q25.2 v26 (x2 - 30) 0 else none).bind fun q27 =>
            some (q27, q25.2)
        else if x2 = 0 then
          (pm_fR [(0, 4)] q25.2 a0).bind fun v31 =>
          (pm_fI [(3, 5)] q25.2 v31).bind fun v32 =>
          some (v32, q25.2)
        else if x2 = 1 then
          (pm_fR [(0, 4)] q25.2 a0).bind fun v33 =>
          (pm_fI [(3, 6)] q25.2 v33).bind fun v34 =>
          some (v34, q25.2)
        else if x2 = 2 then
          (pm_fR [(0, 4)] q25.2 a0).bind fun v35 =>
          (if pm_cl_ q25.2 v35 = some 3 then F_X4_nightsOfAll n q25.2 v35 else none).bind fun q36 =>
          some (q36, q25.2)
        else none
    else
      (pm_fR [(0, 4)] h a0).bind fun v3 =>
      (pm_fR [(0, 3)] h a0).bind fun v4 =>
      (if pm_cl_ h v3 = some 3 then F_X4_takes n h v3 v4 else none).bind fun q5 =>
      (q5.1).bind fun r6 =>
      (if pm_cl_ q5.2 r6 = some 3 then F_X4_goes n q5.2 r6 x1 else none).bind fun q7 =>
      if x2.toInt < 0 ∨ 2 < x2.toInt then
        if x2 < 30 then
          (pm_fR [(0, 4)] q7.2 a0).bind fun v10 =>
          (pm_fR [(3, 1)] q7.2 v10).bind fun v11 =>
          (pm_ai 0 q7.2 v11 (x2 - 10)).bind fun v12 =>
          some (v12, q7.2)
        else
          (pm_fR [(0, 4)] q7.2 a0).bind fun v8 =>
          (if pm_cl_ q7.2 v8 = some 3 then F_X4_favoursOf n q7.2 v8 (x2 - 30) 0 else none).bind fun q9 =>
          some (q9, q7.2)
      else if x2 = 0 then
        (pm_fR [(0, 4)] q7.2 a0).bind fun v13 =>
        (pm_fI [(3, 5)] q7.2 v13).bind fun v14 =>
        some (v14, q7.2)
      else if x2 = 1 then
        (pm_fR [(0, 4)] q7.2 a0).bind fun v15 =>
        (pm_fI [(3, 6)] q7.2 v15).bind fun v16 =>
        some (v16, q7.2)
      else if x2 = 2 then
        (pm_fR [(0, 4)] q7.2 a0).bind fun v17 =>
        (if pm_cl_ q7.2 v17 = some 3 then F_X4_nightsOfAll n q7.2 v17 else none).bind fun q18 =>
        some (q18, q7.2)
      else none
theorem ok_F_X0_tried {d n : Nat} {h : pm_H} {a0 : Nat} {x1 : Int32} {x2 : Int32} {q : Int32 × pm_H} (hF : F_X0_tried n h a0 x1 x2 = some q) : pm_E (d + 87) 0 cX0_tried (some .int) 0 [.ref a0, .int x1, .int x2] [] h (some (.int q.1), q.2) := by
  unfold F_X0_tried at hF
  refine pr_iload_n dX0_tried_0 rfl ?_
  refine pr_iconst (v := 1) dX0_tried_1 (kc_1) ?_
  refine pr_bipush (v := 100) dX0_tried_2 (kb_100) ?_
  obtain ⟨q1, hq1, hF⟩ := po_b hF
  refine pr_S dX0_tried_4 cs_0_120 (as := [.int x1, .int 1, .int 100]) (rest := []) rfl rfl rfl (lb rfl) (lb rfl) (lb rfl) (ok_F_X0_within hq1) ?_
  refine po_i hF (fun hc hF => ?_) (fun hc hF => ?_)
  · refine pr_ifT (tgt := 46) dX0_tried_7 (by decide) (pc_eqT hc) ?_
    refine pr_iconst (v := (-1)) dX0_tried_46 (kc_m1) ?_
    cases hF
    exact pr_iret dX0_tried_47 rfl rfl rfl
  · refine pr_ifF (tgt := 46) dX0_tried_7 (by decide) (pc_eqF hc) ?_
    refine pr_iload_n dX0_tried_10 rfl ?_
    refine pr_iconst (v := 3) dX0_tried_11 (kc_3) ?_
    obtain ⟨q2, hq2, hF⟩ := po_b hF
    refine pr_S dX0_tried_12 cs_0_144 (as := [.int x2, .int 3]) (rest := []) rfl rfl rfl (lb rfl) (lb rfl) (lb rfl) (ok_F_X0_in hq2) ?_
    refine po_i hF (fun hc hF => ?_) (fun hc hF => ?_)
    · refine pr_ifF (tgt := 48) dX0_tried_15 (by decide) (pc_neF hc) ?_
      refine pr_aload_n dX0_tried_18 rfl ?_
      obtain ⟨v19, hv19, hF⟩ := po_b hF
      refine pr_getR dX0_tried_19 tf_0_16 (hv19) ?_
      refine pr_iload_n dX0_tried_22 rfl ?_
      refine pr_bipush (v := 10) dX0_tried_23 (kb_10) ?_
      refine pr_isub dX0_tried_25 ?_
      obtain ⟨q20, hq20, hF⟩ := po_b hF
      refine po_i hq20 (fun hcl hq => ?_) (fun _ hq => nomatch hq)
      refine pr_V (as := [.int (x2 - 10)]) (rest := []) dX0_tried_26 cv_0_168 hcl rfl rfl rfl rfl (lb rfl) (lb rfl) (lb rfl) (ok_F_X1_isTold hq) ?_
      refine po_i hF (fun hc hF => ?_) (fun hc hF => ?_)
      · refine pr_ifF (tgt := 48) dX0_tried_29 (by decide) (pc_neF hc) ?_
        refine pr_aload_n dX0_tried_32 rfl ?_
        obtain ⟨v37, hv37, hF⟩ := po_b hF
        refine pr_getR dX0_tried_33 tf_0_16 (hv37) ?_
        refine pr_iload_n dX0_tried_36 rfl ?_
        refine pr_bipush (v := 30) dX0_tried_37 (kb_30) ?_
        refine pr_isub dX0_tried_39 ?_
        obtain ⟨q38, hq38, hF⟩ := po_b hF
        refine po_i hq38 (fun hcl hq => ?_) (fun _ hq => nomatch hq)
        refine pr_V (as := [.int (x2 - 30)]) (rest := []) dX0_tried_40 cv_0_168 hcl rfl rfl rfl rfl (lb rfl) (lb rfl) (lb rfl) (ok_F_X1_isTold hq) ?_
        refine po_i hF (fun hc hF => ?_) (fun hc hF => ?_)
        · refine pr_ifF (tgt := 48) dX0_tried_43 (by decide) (pc_neF hc) ?_
          refine pr_iconst (v := (-1)) dX0_tried_46 (kc_m1) ?_
          cases hF
          exact pr_iret dX0_tried_47 rfl rfl rfl
        · refine pr_ifT (tgt := 48) dX0_tried_43 (by decide) (pc_neT hc) ?_
          refine pr_aload_n dX0_tried_48 rfl ?_
          obtain ⟨v39, hv39, hF⟩ := po_b hF
          refine pr_getR dX0_tried_49 tf_0_67 (hv39) ?_
          refine pr_aload_n dX0_tried_52 rfl ?_
          obtain ⟨v40, hv40, hF⟩ := po_b hF
          refine pr_getR dX0_tried_53 tf_0_63 (hv40) ?_
          obtain ⟨q41, hq41, hF⟩ := po_b hF
          refine po_i hq41 (fun hcl hq => ?_) (fun _ hq => nomatch hq)
          refine pr_V (as := [.ref v40]) (rest := []) dX0_tried_56 cv_0_172 hcl rfl rfl rfl rfl (lb rfl) (lb rfl) (lb rfl) (ok_F_X4_takes hq) ?_
          refine pr_iload_n dX0_tried_59 rfl ?_
          obtain ⟨r42, hr42, hF⟩ := po_b hF
          rw [pv_s hr42]
          obtain ⟨q43, hq43, hF⟩ := po_b hF
          refine po_i hq43 (fun hcl hq => ?_) (fun _ hq => nomatch hq)
          refine pr_V (as := [.int x1]) (rest := []) dX0_tried_60 cv_0_161 hcl rfl rfl rfl rfl (lb rfl) (lb rfl) (lb rfl) (ok_F_X4_goes hq) ?_
          refine pr_pop dX0_tried_63 (pv_c _) ?_
          refine pr_iload_n dX0_tried_64 rfl ?_
          refine po_i hF (fun hc hF => ?_) (fun hc hF => ?_)
          · refine pr_tabO (tgt := 116) dX0_tried_65 hc (by decide) ?_
            refine pr_iload_n dX0_tried_116 rfl ?_
            refine pr_bipush (v := 30) dX0_tried_117 (kb_30) ?_
            refine po_i hF (fun hc hF => ?_) (fun hc hF => ?_)
            · refine pr_icF (tgt := 137) dX0_tried_119 (by decide) (pc_geF hc) ?_
              refine pr_aload_n dX0_tried_122 rfl ?_
              obtain ⟨v46, hv46, hF⟩ := po_b hF
              refine pr_getR dX0_tried_123 tf_0_67 (hv46) ?_
              obtain ⟨v47, hv47, hF⟩ := po_b hF
              refine pr_getR dX0_tried_126 tf_0_181 (hv47) ?_
              refine pr_iload_n dX0_tried_129 rfl ?_
              refine pr_bipush (v := 10) dX0_tried_130 (kb_10) ?_
              refine pr_isub dX0_tried_132 ?_
              obtain ⟨v48, hv48, hF⟩ := po_b hF
              refine pr_iald dX0_tried_133 (hv48) ?_
              refine pr_goto (tgt := 149) dX0_tried_134 (by decide) ?_
              cases hF
              exact pr_iret dX0_tried_149 rfl rfl rfl
            · refine pr_icT (tgt := 137) dX0_tried_119 (by decide) (pc_geT hc) ?_
              refine pr_aload_n dX0_tried_137 rfl ?_
              obtain ⟨v44, hv44, hF⟩ := po_b hF
              refine pr_getR dX0_tried_138 tf_0_67 (hv44) ?_
              refine pr_iload_n dX0_tried_141 rfl ?_
              refine pr_bipush (v := 30) dX0_tried_142 (kb_30) ?_
              refine pr_isub dX0_tried_144 ?_
              refine pr_iconst (v := 0) dX0_tried_145 (kc_0) ?_
              obtain ⟨q45, hq45, hF⟩ := po_b hF
              refine po_i hq45 (fun hcl hq => ?_) (fun _ hq => nomatch hq)
              refine pr_V (as := [.int (x2 - 30), .int 0]) (rest := []) dX0_tried_146 cv_0_184 hcl rfl rfl rfl rfl (lb rfl) (lb rfl) (lb rfl) (ok_F_X4_favoursOf hq) ?_
              cases hF
              exact pr_iret dX0_tried_149 rfl rfl rfl
          refine po_i hF (fun he hF => ?_) (fun he0 hF => ?_)
          · refine pr_tabI (off := 27) (tgt := 92) dX0_tried_65 hc (by rw [he]; rfl) (by decide) ?_
            refine pr_aload_n dX0_tried_92 rfl ?_
            obtain ⟨v49, hv49, hF⟩ := po_b hF
            refine pr_getR dX0_tried_93 tf_0_67 (hv49) ?_
            obtain ⟨v50, hv50, hF⟩ := po_b hF
            refine pr_getI dX0_tried_96 tf_0_165 (hv50) ?_
            cases hF
            exact pr_iret dX0_tried_99 rfl rfl rfl
          refine po_i hF (fun he hF => ?_) (fun he1 hF => ?_)
          · refine pr_tabI (off := 35) (tgt := 100) dX0_tried_65 hc (by rw [he]; rfl) (by decide) ?_
            refine pr_aload_n dX0_tried_100 rfl ?_
            obtain ⟨v51, hv51, hF⟩ := po_b hF
            refine pr_getR dX0_tried_101 tf_0_67 (hv51) ?_
            obtain ⟨v52, hv52, hF⟩ := po_b hF
            refine pr_getI dX0_tried_104 tf_0_175 (hv52) ?_
            cases hF
            exact pr_iret dX0_tried_107 rfl rfl rfl
          refine po_i hF (fun he hF => ?_) (fun he2 hF => ?_)
          · refine pr_tabI (off := 43) (tgt := 108) dX0_tried_65 hc (by rw [he]; rfl) (by decide) ?_
            refine pr_aload_n dX0_tried_108 rfl ?_
            obtain ⟨v53, hv53, hF⟩ := po_b hF
            refine pr_getR dX0_tried_109 tf_0_67 (hv53) ?_
            obtain ⟨q54, hq54, hF⟩ := po_b hF
            refine po_i hq54 (fun hcl hq => ?_) (fun _ hq => nomatch hq)
            refine pr_V (as := []) (rest := []) dX0_tried_112 cv_0_178 hcl rfl rfl rfl rfl (lb rfl) (lb rfl) (lb rfl) (ok_F_X4_nightsOfAll hq) ?_
            cases hF
            exact pr_iret dX0_tried_115 rfl rfl rfl
          cases hF
      · refine pr_ifT (tgt := 48) dX0_tried_29 (by decide) (pc_neT hc) ?_
        refine pr_aload_n dX0_tried_48 rfl ?_
        obtain ⟨v21, hv21, hF⟩ := po_b hF
        refine pr_getR dX0_tried_49 tf_0_67 (hv21) ?_
        refine pr_aload_n dX0_tried_52 rfl ?_
        obtain ⟨v22, hv22, hF⟩ := po_b hF
        refine pr_getR dX0_tried_53 tf_0_63 (hv22) ?_
        obtain ⟨q23, hq23, hF⟩ := po_b hF
        refine po_i hq23 (fun hcl hq => ?_) (fun _ hq => nomatch hq)
        refine pr_V (as := [.ref v22]) (rest := []) dX0_tried_56 cv_0_172 hcl rfl rfl rfl rfl (lb rfl) (lb rfl) (lb rfl) (ok_F_X4_takes hq) ?_
        refine pr_iload_n dX0_tried_59 rfl ?_
        obtain ⟨r24, hr24, hF⟩ := po_b hF
        rw [pv_s hr24]
        obtain ⟨q25, hq25, hF⟩ := po_b hF
        refine po_i hq25 (fun hcl hq => ?_) (fun _ hq => nomatch hq)
        refine pr_V (as := [.int x1]) (rest := []) dX0_tried_60 cv_0_161 hcl rfl rfl rfl rfl (lb rfl) (lb rfl) (lb rfl) (ok_F_X4_goes hq) ?_
        refine pr_pop dX0_tried_63 (pv_c _) ?_
        refine pr_iload_n dX0_tried_64 rfl ?_
        refine po_i hF (fun hc hF => ?_) (fun hc hF => ?_)
        · refine pr_tabO (tgt := 116) dX0_tried_65 hc (by decide) ?_
          refine pr_iload_n dX0_tried_116 rfl ?_
          refine pr_bipush (v := 30) dX0_tried_117 (kb_30) ?_
          refine po_i hF (fun hc hF => ?_) (fun hc hF => ?_)
          · refine pr_icF (tgt := 137) dX0_tried_119 (by decide) (pc_geF hc) ?_
            refine pr_aload_n dX0_tried_122 rfl ?_
            obtain ⟨v28, hv28, hF⟩ := po_b hF
            refine pr_getR dX0_tried_123 tf_0_67 (hv28) ?_
            obtain ⟨v29, hv29, hF⟩ := po_b hF
            refine pr_getR dX0_tried_126 tf_0_181 (hv29) ?_
            refine pr_iload_n dX0_tried_129 rfl ?_
            refine pr_bipush (v := 10) dX0_tried_130 (kb_10) ?_
            refine pr_isub dX0_tried_132 ?_
            obtain ⟨v30, hv30, hF⟩ := po_b hF
            refine pr_iald dX0_tried_133 (hv30) ?_
            refine pr_goto (tgt := 149) dX0_tried_134 (by decide) ?_
            cases hF
            exact pr_iret dX0_tried_149 rfl rfl rfl
          · refine pr_icT (tgt := 137) dX0_tried_119 (by decide) (pc_geT hc) ?_
            refine pr_aload_n dX0_tried_137 rfl ?_
            obtain ⟨v26, hv26, hF⟩ := po_b hF
            refine pr_getR dX0_tried_138 tf_0_67 (hv26) ?_
            refine pr_iload_n dX0_tried_141 rfl ?_
            refine pr_bipush (v := 30) dX0_tried_142 (kb_30) ?_
            refine pr_isub dX0_tried_144 ?_
            refine pr_iconst (v := 0) dX0_tried_145 (kc_0) ?_
            obtain ⟨q27, hq27, hF⟩ := po_b hF
            refine po_i hq27 (fun hcl hq => ?_) (fun _ hq => nomatch hq)
            refine pr_V (as := [.int (x2 - 30), .int 0]) (rest := []) dX0_tried_146 cv_0_184 hcl rfl rfl rfl rfl (lb rfl) (lb rfl) (lb rfl) (ok_F_X4_favoursOf hq) ?_
            cases hF
            exact pr_iret dX0_tried_149 rfl rfl rfl
        refine po_i hF (fun he hF => ?_) (fun he0 hF => ?_)
        · refine pr_tabI (off := 27) (tgt := 92) dX0_tried_65 hc (by rw [he]; rfl) (by decide) ?_
          refine pr_aload_n dX0_tried_92 rfl ?_
          obtain ⟨v31, hv31, hF⟩ := po_b hF
          refine pr_getR dX0_tried_93 tf_0_67 (hv31) ?_
          obtain ⟨v32, hv32, hF⟩ := po_b hF
          refine pr_getI dX0_tried_96 tf_0_165 (hv32) ?_
          cases hF
          exact pr_iret dX0_tried_99 rfl rfl rfl
        refine po_i hF (fun he hF => ?_) (fun he1 hF => ?_)
        · refine pr_tabI (off := 35) (tgt := 100) dX0_tried_65 hc (by rw [he]; rfl) (by decide) ?_
          refine pr_aload_n dX0_tried_100 rfl ?_
          obtain ⟨v33, hv33, hF⟩ := po_b hF
          refine pr_getR dX0_tried_101 tf_0_67 (hv33) ?_
          obtain ⟨v34, hv34, hF⟩ := po_b hF
          refine pr_getI dX0_tried_104 tf_0_175 (hv34) ?_
          cases hF
          exact pr_iret dX0_tried_107 rfl rfl rfl
        refine po_i hF (fun he hF => ?_) (fun he2 hF => ?_)
        · refine pr_tabI (off := 43) (tgt := 108) dX0_tried_65 hc (by rw [he]; rfl) (by decide) ?_
          refine pr_aload_n dX0_tried_108 rfl ?_
          obtain ⟨v35, hv35, hF⟩ := po_b hF
          refine pr_getR dX0_tried_109 tf_0_67 (hv35) ?_
          obtain ⟨q36, hq36, hF⟩ := po_b hF
          refine po_i hq36 (fun hcl hq => ?_) (fun _ hq => nomatch hq)
          refine pr_V (as := []) (rest := []) dX0_tried_112 cv_0_178 hcl rfl rfl rfl rfl (lb rfl) (lb rfl) (lb rfl) (ok_F_X4_nightsOfAll hq) ?_
          cases hF
          exact pr_iret dX0_tried_115 rfl rfl rfl
        cases hF
    · refine pr_ifT (tgt := 48) dX0_tried_15 (by decide) (pc_neT hc) ?_
      refine pr_aload_n dX0_tried_48 rfl ?_
      obtain ⟨v3, hv3, hF⟩ := po_b hF
      refine pr_getR dX0_tried_49 tf_0_67 (hv3) ?_
      refine pr_aload_n dX0_tried_52 rfl ?_
      obtain ⟨v4, hv4, hF⟩ := po_b hF
      refine pr_getR dX0_tried_53 tf_0_63 (hv4) ?_
      obtain ⟨q5, hq5, hF⟩ := po_b hF
      refine po_i hq5 (fun hcl hq => ?_) (fun _ hq => nomatch hq)
      refine pr_V (as := [.ref v4]) (rest := []) dX0_tried_56 cv_0_172 hcl rfl rfl rfl rfl (lb rfl) (lb rfl) (lb rfl) (ok_F_X4_takes hq) ?_
      refine pr_iload_n dX0_tried_59 rfl ?_
      obtain ⟨r6, hr6, hF⟩ := po_b hF
      rw [pv_s hr6]
      obtain ⟨q7, hq7, hF⟩ := po_b hF
      refine po_i hq7 (fun hcl hq => ?_) (fun _ hq => nomatch hq)
      refine pr_V (as := [.int x1]) (rest := []) dX0_tried_60 cv_0_161 hcl rfl rfl rfl rfl (lb rfl) (lb rfl) (lb rfl) (ok_F_X4_goes hq) ?_
      refine pr_pop dX0_tried_63 (pv_c _) ?_
      refine pr_iload_n dX0_tried_64 rfl ?_
      refine po_i hF (fun hc hF => ?_) (fun hc hF => ?_)
      · refine pr_tabO (tgt := 116) dX0_tried_65 hc (by decide) ?_
        refine pr_iload_n dX0_tried_116 rfl ?_
        refine pr_bipush (v := 30) dX0_tried_117 (kb_30) ?_
        refine po_i hF (fun hc hF => ?_) (fun hc hF => ?_)
        · refine pr_icF (tgt := 137) dX0_tried_119 (by decide) (pc_geF hc) ?_
          refine pr_aload_n dX0_tried_122 rfl ?_
          obtain ⟨v10, hv10, hF⟩ := po_b hF
          refine pr_getR dX0_tried_123 tf_0_67 (hv10) ?_
          obtain ⟨v11, hv11, hF⟩ := po_b hF
          refine pr_getR dX0_tried_126 tf_0_181 (hv11) ?_
          refine pr_iload_n dX0_tried_129 rfl ?_
          refine pr_bipush (v := 10) dX0_tried_130 (kb_10) ?_
          refine pr_isub dX0_tried_132 ?_
          obtain ⟨v12, hv12, hF⟩ := po_b hF
          refine pr_iald dX0_tried_133 (hv12) ?_
          refine pr_goto (tgt := 149) dX0_tried_134 (by decide) ?_
          cases hF
          exact pr_iret dX0_tried_149 rfl rfl rfl
        · refine pr_icT (tgt := 137) dX0_tried_119 (by decide) (pc_geT hc) ?_
          refine pr_aload_n dX0_tried_137 rfl ?_
          obtain ⟨v8, hv8, hF⟩ := po_b hF
          refine pr_getR dX0_tried_138 tf_0_67 (hv8) ?_
          refine pr_iload_n dX0_tried_141 rfl ?_
          refine pr_bipush (v := 30) dX0_tried_142 (kb_30) ?_
          refine pr_isub dX0_tried_144 ?_
          refine pr_iconst (v := 0) dX0_tried_145 (kc_0) ?_
          obtain ⟨q9, hq9, hF⟩ := po_b hF
          refine po_i hq9 (fun hcl hq => ?_) (fun _ hq => nomatch hq)
          refine pr_V (as := [.int (x2 - 30), .int 0]) (rest := []) dX0_tried_146 cv_0_184 hcl rfl rfl rfl rfl (lb rfl) (lb rfl) (lb rfl) (ok_F_X4_favoursOf hq) ?_
          cases hF
          exact pr_iret dX0_tried_149 rfl rfl rfl
      refine po_i hF (fun he hF => ?_) (fun he0 hF => ?_)
      · refine pr_tabI (off := 27) (tgt := 92) dX0_tried_65 hc (by rw [he]; rfl) (by decide) ?_
        refine pr_aload_n dX0_tried_92 rfl ?_
        obtain ⟨v13, hv13, hF⟩ := po_b hF
        refine pr_getR dX0_tried_93 tf_0_67 (hv13) ?_
        obtain ⟨v14, hv14, hF⟩ := po_b hF
        refine pr_getI dX0_tried_96 tf_0_165 (hv14) ?_
        cases hF
        exact pr_iret dX0_tried_99 rfl rfl rfl
      refine po_i hF (fun he hF => ?_) (fun he1 hF => ?_)
      · refine pr_tabI (off := 35) (tgt := 100) dX0_tried_65 hc (by rw [he]; rfl) (by decide) ?_
        refine pr_aload_n dX0_tried_100 rfl ?_
        obtain ⟨v15, hv15, hF⟩ := po_b hF
        refine pr_getR dX0_tried_101 tf_0_67 (hv15) ?_
        obtain ⟨v16, hv16, hF⟩ := po_b hF
        refine pr_getI dX0_tried_104 tf_0_175 (hv16) ?_
        cases hF
        exact pr_iret dX0_tried_107 rfl rfl rfl
      refine po_i hF (fun he hF => ?_) (fun he2 hF => ?_)
      · refine pr_tabI (off := 43) (tgt := 108) dX0_tried_65 hc (by rw [he]; rfl) (by decide) ?_
        refine pr_aload_n dX0_tried_108 rfl ?_
        obtain ⟨v17, hv17, hF⟩ := po_b hF
        refine pr_getR dX0_tried_109 tf_0_67 (hv17) ?_
        obtain ⟨q18, hq18, hF⟩ := po_b hF
        refine po_i hq18 (fun hcl hq => ?_) (fun _ hq => nomatch hq)
        refine pr_V (as := []) (rest := []) dX0_tried_112 cv_0_178 hcl rfl rfl rfl rfl (lb rfl) (lb rfl) (lb rfl) (ok_F_X4_nightsOfAll hq) ?_
        cases hF
        exact pr_iret dX0_tried_115 rfl rfl rfl
      cases hF

def F_X0_personIs (n : Nat) (h : pm_H) (a0 : Nat) (x1 : Int32) (x2 : Int32) : Option (Int32) :=
  (pm_fR [(0, 0)] h a0).bind fun v1 =>
  (if pm_cl_ h v1 = some 1 then F_X1_isTold h v1 x1 else none).bind fun q2 =>
  if q2 = 0 then
    some (-1)
  else
  if x2.toInt < 0 ∨ 5 < x2.toInt then
    some (-1)
  else if x2 = 0 then
    (pm_fR [(0, 0)] h a0).bind fun v3 =>
    (pm_fR [(1, 0)] h v3).bind fun v4 =>
    (pm_ai 0 h v4 x1).bind fun v5 =>
    some v5
  else if x2 = 1 then
    (pm_fR [(0, 0)] h a0).bind fun v6 =>
    (pm_fI [(1, 3)] h v6).bind fun v7 =>
    (F_X0_has v7 x1).bind fun q8 =>
    if q8 = 0 then
      some 0
    else
      some 1
  else if x2 = 2 then
    (pm_fR [(0, 3)] h a0).bind fun v9 =>
    (pm_fR [(3, 1)] h v9).bind fun v10 =>
    (pm_ai 0 h v10 x1).bind fun v11 =>
    some v11
  else if x2 = 3 then
    (pm_fR [(0, 0)] h a0).bind fun v12 =>
    (pm_fR [(1, 1)] h v12).bind fun v13 =>
    (pm_ai 0 h v13 x1).bind fun v14 =>
    some v14
  else if x2 = 4 then
    (pm_fR [(0, 3)] h a0).bind fun v15 =>
    (if pm_cl_ h v15 = some 3 then F_X4_favoursOf n h v15 x1 0 else none).bind fun q16 =>
    some q16
  else if x2 = 5 then
    (pm_fR [(0, 3)] h a0).bind fun v17 =>
    (if pm_cl_ h v17 = some 3 then F_X4_favoursOf n h v17 x1 1 else none).bind fun q18 =>
    some q18
  else none
theorem ok_F_X0_personIs {d n : Nat} {h : pm_H} {a0 : Nat} {x1 : Int32} {x2 : Int32} {q : Int32} (hF : F_X0_personIs n h a0 x1 x2 = some q) : pm_E (d + 1) 0 cX0_personIs (some .int) 0 [.ref a0, .int x1, .int x2] [] h (some (.int q), h) := by
  unfold F_X0_personIs at hF
  refine pr_aload_n dX0_personIs_0 rfl ?_
  obtain ⟨v1, hv1, hF⟩ := po_b hF
  refine pr_getR dX0_personIs_1 tf_0_16 (hv1) ?_
  refine pr_iload_n dX0_personIs_4 rfl ?_
  obtain ⟨q2, hq2, hF⟩ := po_b hF
  refine po_i hq2 (fun hcl hq => ?_) (fun _ hq => nomatch hq)
  refine pr_V (as := [.int x1]) (rest := []) dX0_personIs_5 cv_0_168 hcl rfl rfl rfl rfl (lb rfl) (lb rfl) (lb rfl) (ok_F_X1_isTold hq) ?_
  refine po_i hF (fun hc hF => ?_) (fun hc hF => ?_)
  · refine pr_ifF (tgt := 13) dX0_personIs_8 (by decide) (pc_neF hc) ?_
    refine pr_iconst (v := (-1)) dX0_personIs_11 (kc_m1) ?_
    cases hF
    exact pr_iret dX0_personIs_12 rfl rfl rfl
  · refine pr_ifT (tgt := 13) dX0_personIs_8 (by decide) (pc_neT hc) ?_
    refine pr_iload_n dX0_personIs_13 rfl ?_
    refine po_i hF (fun hc hF => ?_) (fun hc hF => ?_)
    · refine pr_tabO (tgt := 122) dX0_personIs_14 hc (by decide) ?_
      refine pr_iconst (v := (-1)) dX0_personIs_122 (kc_m1) ?_
      cases hF
      exact pr_iret dX0_personIs_123 rfl rfl rfl
    refine po_i hF (fun he hF => ?_) (fun he0 hF => ?_)
    · refine pr_tabI (off := 38) (tgt := 52) dX0_personIs_14 hc (by rw [he]; rfl) (by decide) ?_
      refine pr_aload_n dX0_personIs_52 rfl ?_
      obtain ⟨v3, hv3, hF⟩ := po_b hF
      refine pr_getR dX0_personIs_53 tf_0_16 (hv3) ?_
      obtain ⟨v4, hv4, hF⟩ := po_b hF
      refine pr_getR dX0_personIs_56 tf_0_188 (hv4) ?_
      refine pr_iload_n dX0_personIs_59 rfl ?_
      obtain ⟨v5, hv5, hF⟩ := po_b hF
      refine pr_iald dX0_personIs_60 (hv5) ?_
      cases hF
      exact pr_iret dX0_personIs_61 rfl rfl rfl
    refine po_i hF (fun he hF => ?_) (fun he1 hF => ?_)
    · refine pr_tabI (off := 48) (tgt := 62) dX0_personIs_14 hc (by rw [he]; rfl) (by decide) ?_
      refine pr_aload_n dX0_personIs_62 rfl ?_
      obtain ⟨v6, hv6, hF⟩ := po_b hF
      refine pr_getR dX0_personIs_63 tf_0_16 (hv6) ?_
      obtain ⟨v7, hv7, hF⟩ := po_b hF
      refine pr_getI dX0_personIs_66 tf_0_152 (hv7) ?_
      refine pr_iload_n dX0_personIs_69 rfl ?_
      obtain ⟨q8, hq8, hF⟩ := po_b hF
      refine pr_S dX0_personIs_70 cs_0_191 (as := [.int v7, .int x1]) (rest := []) rfl rfl rfl (lb rfl) (lb rfl) (lb rfl) (ok_F_X0_has hq8) ?_
      refine po_i hF (fun hc hF => ?_) (fun hc hF => ?_)
      · refine pr_ifT (tgt := 80) dX0_personIs_73 (by decide) (pc_eqT hc) ?_
        refine pr_iconst (v := 0) dX0_personIs_80 (kc_0) ?_
        cases hF
        exact pr_iret dX0_personIs_81 rfl rfl rfl
      · refine pr_ifF (tgt := 80) dX0_personIs_73 (by decide) (pc_eqF hc) ?_
        refine pr_iconst (v := 1) dX0_personIs_76 (kc_1) ?_
        refine pr_goto (tgt := 81) dX0_personIs_77 (by decide) ?_
        cases hF
        exact pr_iret dX0_personIs_81 rfl rfl rfl
    refine po_i hF (fun he hF => ?_) (fun he2 hF => ?_)
    · refine pr_tabI (off := 68) (tgt := 82) dX0_personIs_14 hc (by rw [he]; rfl) (by decide) ?_
      refine pr_aload_n dX0_personIs_82 rfl ?_
      obtain ⟨v9, hv9, hF⟩ := po_b hF
      refine pr_getR dX0_personIs_83 tf_0_63 (hv9) ?_
      obtain ⟨v10, hv10, hF⟩ := po_b hF
      refine pr_getR dX0_personIs_86 tf_0_181 (hv10) ?_
      refine pr_iload_n dX0_personIs_89 rfl ?_
      obtain ⟨v11, hv11, hF⟩ := po_b hF
      refine pr_iald dX0_personIs_90 (hv11) ?_
      cases hF
      exact pr_iret dX0_personIs_91 rfl rfl rfl
    refine po_i hF (fun he hF => ?_) (fun he3 hF => ?_)
    · refine pr_tabI (off := 78) (tgt := 92) dX0_personIs_14 hc (by rw [he]; rfl) (by decide) ?_
      refine pr_aload_n dX0_personIs_92 rfl ?_
      obtain ⟨v12, hv12, hF⟩ := po_b hF
      refine pr_getR dX0_personIs_93 tf_0_16 (hv12) ?_
      obtain ⟨v13, hv13, hF⟩ := po_b hF
      refine pr_getR dX0_personIs_96 tf_0_194 (hv13) ?_
      refine pr_iload_n dX0_personIs_99 rfl ?_
      obtain ⟨v14, hv14, hF⟩ := po_b hF
      refine pr_iald dX0_personIs_100 (hv14) ?_
      cases hF
      exact pr_iret dX0_personIs_101 rfl rfl rfl
    refine po_i hF (fun he hF => ?_) (fun he4 hF => ?_)
    · refine pr_tabI (off := 88) (tgt := 102) dX0_personIs_14 hc (by rw [he]; rfl) (by decide) ?_
      refine pr_aload_n dX0_personIs_102 rfl ?_
      obtain ⟨v15, hv15, hF⟩ := po_b hF
      refine pr_getR dX0_personIs_103 tf_0_63 (hv15) ?_
      refine pr_iload_n dX0_personIs_106 rfl ?_
      refine pr_iconst (v := 0) dX0_personIs_107 (kc_0) ?_
      obtain ⟨q16, hq16, hF⟩ := po_b hF
      refine po_i hq16 (fun hcl hq => ?_) (fun _ hq => nomatch hq)
      refine pr_V (as := [.int x1, .int 0]) (rest := []) dX0_personIs_108 cv_0_184 hcl rfl rfl rfl rfl (lb rfl) (lb rfl) (lb rfl) (ok_F_X4_favoursOf hq) ?_
      cases hF
      exact pr_iret dX0_personIs_111 rfl rfl rfl
    refine po_i hF (fun he hF => ?_) (fun he5 hF => ?_)
    · refine pr_tabI (off := 98) (tgt := 112) dX0_personIs_14 hc (by rw [he]; rfl) (by decide) ?_
      refine pr_aload_n dX0_personIs_112 rfl ?_
      obtain ⟨v17, hv17, hF⟩ := po_b hF
      refine pr_getR dX0_personIs_113 tf_0_63 (hv17) ?_
      refine pr_iload_n dX0_personIs_116 rfl ?_
      refine pr_iconst (v := 1) dX0_personIs_117 (kc_1) ?_
      obtain ⟨q18, hq18, hF⟩ := po_b hF
      refine po_i hq18 (fun hcl hq => ?_) (fun _ hq => nomatch hq)
      refine pr_V (as := [.int x1, .int 1]) (rest := []) dX0_personIs_118 cv_0_184 hcl rfl rfl rfl rfl (lb rfl) (lb rfl) (lb rfl) (ok_F_X4_favoursOf hq) ?_
      cases hF
      exact pr_iret dX0_personIs_121 rfl rfl rfl
    cases hF

def F_X0_favours (h : pm_H) (a0 : Nat) (x1 : Int32) (x2 : Int32) : Option (Int32) :=
  (pm_fR [(0, 0)] h a0).bind fun v1 =>
  (if pm_cl_ h v1 = some 1 then F_X1_isTold h v1 x1 else none).bind fun q2 =>
  if q2 = 0 then
    some (-1)
  else
    (pm_fR [(0, 0)] h a0).bind fun v3 =>
    (if pm_cl_ h v3 = some 1 then F_X1_isTold h v3 x2 else none).bind fun q4 =>
    if q4 = 0 then
      some (-1)
    else
      (pm_fR [(0, 3)] h a0).bind fun v5 =>
      (pm_fR [(3, 0)] h v5).bind fun v6 =>
      (pm_aR h v6 x1).bind fun v7 =>
      (pm_ai 0 h v7 x2).bind fun v8 =>
      some v8
theorem ok_F_X0_favours {d : Nat} {h : pm_H} {a0 : Nat} {x1 : Int32} {x2 : Int32} {q : Int32} (hF : F_X0_favours h a0 x1 x2 = some q) : pm_E (d + 1) 0 cX0_favours (some .int) 0 [.ref a0, .int x1, .int x2] [] h (some (.int q), h) := by
  unfold F_X0_favours at hF
  refine pr_aload_n dX0_favours_0 rfl ?_
  obtain ⟨v1, hv1, hF⟩ := po_b hF
  refine pr_getR dX0_favours_1 tf_0_16 (hv1) ?_
  refine pr_iload_n dX0_favours_4 rfl ?_
  obtain ⟨q2, hq2, hF⟩ := po_b hF
  refine po_i hq2 (fun hcl hq => ?_) (fun _ hq => nomatch hq)
  refine pr_V (as := [.int x1]) (rest := []) dX0_favours_5 cv_0_168 hcl rfl rfl rfl rfl (lb rfl) (lb rfl) (lb rfl) (ok_F_X1_isTold hq) ?_
  refine po_i hF (fun hc hF => ?_) (fun hc hF => ?_)
  · refine pr_ifT (tgt := 36) dX0_favours_8 (by decide) (pc_eqT hc) ?_
    refine pr_iconst (v := (-1)) dX0_favours_36 (kc_m1) ?_
    cases hF
    exact pr_iret dX0_favours_37 rfl rfl rfl
  · refine pr_ifF (tgt := 36) dX0_favours_8 (by decide) (pc_eqF hc) ?_
    refine pr_aload_n dX0_favours_11 rfl ?_
    obtain ⟨v3, hv3, hF⟩ := po_b hF
    refine pr_getR dX0_favours_12 tf_0_16 (hv3) ?_
    refine pr_iload_n dX0_favours_15 rfl ?_
    obtain ⟨q4, hq4, hF⟩ := po_b hF
    refine po_i hq4 (fun hcl hq => ?_) (fun _ hq => nomatch hq)
    refine pr_V (as := [.int x2]) (rest := []) dX0_favours_16 cv_0_168 hcl rfl rfl rfl rfl (lb rfl) (lb rfl) (lb rfl) (ok_F_X1_isTold hq) ?_
    refine po_i hF (fun hc hF => ?_) (fun hc hF => ?_)
    · refine pr_ifT (tgt := 36) dX0_favours_19 (by decide) (pc_eqT hc) ?_
      refine pr_iconst (v := (-1)) dX0_favours_36 (kc_m1) ?_
      cases hF
      exact pr_iret dX0_favours_37 rfl rfl rfl
    · refine pr_ifF (tgt := 36) dX0_favours_19 (by decide) (pc_eqF hc) ?_
      refine pr_aload_n dX0_favours_22 rfl ?_
      obtain ⟨v5, hv5, hF⟩ := po_b hF
      refine pr_getR dX0_favours_23 tf_0_63 (hv5) ?_
      obtain ⟨v6, hv6, hF⟩ := po_b hF
      refine pr_getR dX0_favours_26 tf_0_197 (hv6) ?_
      refine pr_iload_n dX0_favours_29 rfl ?_
      obtain ⟨v7, hv7, hF⟩ := po_b hF
      refine pr_aald dX0_favours_30 (hv7) ?_
      refine pr_iload_n dX0_favours_31 rfl ?_
      obtain ⟨v8, hv8, hF⟩ := po_b hF
      refine pr_iald dX0_favours_32 (hv8) ?_
      refine pr_goto (tgt := 37) dX0_favours_33 (by decide) ?_
      cases hF
      exact pr_iret dX0_favours_37 rfl rfl rfl

def L_X0_groupOf_16 : Nat → Nat → Int32 → Int32 → Int32 → pm_H → Option (Int32)
  | 0, _, _, _, _, _ => none
  | n + 1, x0, x2, x3, x4, h =>
    if x4 < 16 then
      (F_X0_has x2 x4).bind fun q1 =>
      if q1 = 0 then
        L_X0_groupOf_16 n x0 x2 (x3 ||| 0) (x4 + 1) h
      else
        (if pm_cl_ h x0 = some 1 then F_X1_friends h x0 x4 else none).bind fun q2 =>
        L_X0_groupOf_16 n x0 x2 (x3 ||| q2) (x4 + 1) h
    else
      some x3
theorem ok_L_X0_groupOf_16 {d : Nat} : ∀ (n : Nat) {x0 : Nat} {x2 : Int32} {x3 : Int32} {x4 : Int32} {w1 : Value} {h : pm_H} {q : Int32} {res : Option Value × pm_H}, L_X0_groupOf_16 n x0 x2 x3 x4 h = some q → pm_nolong w1 = true → (∀ z4 : Value, pm_nolong z4 = true → pm_E (d + 1) 0 cX0_groupOf (some .int) 51 [.ref x0, w1, .int x2, .int q, z4] [] h res) → pm_E (d + 1) 0 cX0_groupOf (some .int) 16 [.ref x0, w1, .int x2, .int x3, .int x4] [] h res := by
  intro n
  induction n with
  | zero =>
    intro x0 x2 x3 x4 w1 h q res hF hw1 hk
    rw [L_X0_groupOf_16] at hF
    cases hF
  | succ n ih =>
    intro x0 x2 x3 x4 w1 h q res hF hw1 hk
    rw [L_X0_groupOf_16] at hF
    refine pr_iload dX0_groupOf_16 rfl ?_
    refine pr_bipush (v := 16) dX0_groupOf_18 (kb_16) ?_
    refine po_i hF (fun hc hF => ?_) (fun hc hF => ?_)
    · refine pr_icF (tgt := 51) dX0_groupOf_20 (by decide) (pc_geF hc) ?_
      refine pr_iload_n dX0_groupOf_23 rfl ?_
      refine pr_iload_n dX0_groupOf_24 rfl ?_
      refine pr_iload dX0_groupOf_25 rfl ?_
      obtain ⟨q1, hq1, hF⟩ := po_b hF
      refine pr_S dX0_groupOf_27 cs_0_191 (as := [.int x2, .int x4]) (rest := [.int x3]) rfl rfl rfl (lb rfl) (lb rfl) (lb rfl) (ok_F_X0_has hq1) ?_
      refine po_i hF (fun hc hF => ?_) (fun hc hF => ?_)
      · refine pr_ifT (tgt := 42) dX0_groupOf_30 (by decide) (pc_eqT hc) ?_
        refine pr_iconst (v := 0) dX0_groupOf_42 (kc_0) ?_
        refine pr_ior dX0_groupOf_43 ?_
        refine pr_istore_n (L' := [.ref x0, w1, .int x2, .int (x3 ||| 0), .int x4]) dX0_groupOf_44 rfl ?_
        refine pr_iinc (v := 1) (L' := [.ref x0, w1, .int x2, .int (x3 ||| 0), .int (x4 + 1)]) dX0_groupOf_45 rfl (kc_1) rfl ?_
        refine pr_goto (tgt := 16) dX0_groupOf_48 (by decide) ?_
        exact ih hF hw1 hk
      · refine pr_ifF (tgt := 42) dX0_groupOf_30 (by decide) (pc_eqF hc) ?_
        refine pr_aload_n dX0_groupOf_33 rfl ?_
        refine pr_iload dX0_groupOf_34 rfl ?_
        obtain ⟨q2, hq2, hF⟩ := po_b hF
        refine po_i hq2 (fun hcl hq => ?_) (fun _ hq => nomatch hq)
        refine pr_V (as := [.int x4]) (rest := [.int x3]) dX0_groupOf_36 cv_0_200 hcl rfl rfl rfl rfl (lb rfl) (lb rfl) (lb rfl) (ok_F_X1_friends hq) ?_
        refine pr_goto (tgt := 43) dX0_groupOf_39 (by decide) ?_
        refine pr_ior dX0_groupOf_43 ?_
        refine pr_istore_n (L' := [.ref x0, w1, .int x2, .int (x3 ||| q2), .int x4]) dX0_groupOf_44 rfl ?_
        refine pr_iinc (v := 1) (L' := [.ref x0, w1, .int x2, .int (x3 ||| q2), .int (x4 + 1)]) dX0_groupOf_45 rfl (kc_1) rfl ?_
        refine pr_goto (tgt := 16) dX0_groupOf_48 (by decide) ?_
        exact ih hF hw1 hk
    · refine pr_icT (tgt := 51) dX0_groupOf_20 (by decide) (pc_geT hc) ?_
      cases hF
      exact hk _ rfl
def L_X0_groupOf_6 : Nat → Nat → Int32 → Int32 → pm_H → Option (Int32)
  | 0, _, _, _, _ => none
  | n + 1, x0, x2, x3, h =>
    if x3 = x2 then
      some x2
    else
      (L_X0_groupOf_16 n x0 x3 x3 0 h).bind fun q3 =>
      L_X0_groupOf_6 n x0 x3 q3 h
theorem ok_L_X0_groupOf_6 {d : Nat} : ∀ (n : Nat) {x0 : Nat} {x2 : Int32} {x3 : Int32} {w1 w4 : Value} {h : pm_H} {q : Int32} {res : Option Value × pm_H}, L_X0_groupOf_6 n x0 x2 x3 h = some q → pm_nolong w1 = true → pm_nolong w4 = true → (∀ z3 : Value, pm_nolong z3 = true → ∀ z4 : Value, pm_nolong z4 = true → pm_E (d + 1) 0 cX0_groupOf (some .int) 54 [.ref x0, w1, .int q, z3, z4] [] h res) → pm_E (d + 1) 0 cX0_groupOf (some .int) 6 [.ref x0, w1, .int x2, .int x3, w4] [] h res := by
  intro n
  induction n with
  | zero =>
    intro x0 x2 x3 w1 w4 h q res hF hw1 hw4 hk
    rw [L_X0_groupOf_6] at hF
    cases hF
  | succ n ih =>
    intro x0 x2 x3 w1 w4 h q res hF hw1 hw4 hk
    rw [L_X0_groupOf_6] at hF
    refine pr_iload_n dX0_groupOf_6 rfl ?_
    refine pr_iload_n dX0_groupOf_7 rfl ?_
    refine po_i hF (fun hc hF => ?_) (fun hc hF => ?_)
    · refine pr_icT (tgt := 54) dX0_groupOf_8 (by decide) (pc_eqT hc) ?_
      cases hF
      exact hk _ rfl _ hw4
    · refine pr_icF (tgt := 54) dX0_groupOf_8 (by decide) (pc_eqF hc) ?_
      refine pr_iload_n dX0_groupOf_11 rfl ?_
      refine pr_istore_n (L' := [.ref x0, w1, .int x3, .int x3, w4]) dX0_groupOf_12 (pm_st_w (i := 1) rfl rfl hw1 rfl) ?_
      refine pr_iconst (v := 0) dX0_groupOf_13 (kc_0) ?_
      refine pr_istore (L' := [.ref x0, w1, .int x3, .int x3, .int 0]) dX0_groupOf_14 rfl ?_
      obtain ⟨q3, hq3, hF⟩ := po_b hF
      refine ok_L_X0_groupOf_16 n hq3 hw1 (fun z4 hz4 => ?_)
      refine pr_goto (tgt := 6) dX0_groupOf_51 (by decide) ?_
      exact ih hF hw1 hz4 hk
def F_X0_groupOf (n : Nat) (h : pm_H) (a0 : Nat) (x1 : Int32) : Option (Int32) :=
  (L_X0_groupOf_6 n a0 0 (pm_shl 1 x1) h).bind fun q4 =>
  some q4
theorem ok_F_X0_groupOf {d n : Nat} {h : pm_H} {a0 : Nat} {x1 : Int32} {q : Int32} (hF : F_X0_groupOf n h a0 x1 = some q) : pm_E (d + 1) 0 cX0_groupOf (some .int) 0 [.ref a0, .int x1, pm_D, pm_D, pm_D] [] h (some (.int q), h) := by
  unfold F_X0_groupOf at hF
  refine pr_iconst (v := 0) dX0_groupOf_0 (kc_0) ?_
  refine pr_istore_n (L' := [.ref a0, .int x1, .int 0, pm_D, pm_D]) dX0_groupOf_1 rfl ?_
  refine pr_iconst (v := 1) dX0_groupOf_2 (kc_1) ?_
  refine pr_iload_n dX0_groupOf_3 rfl ?_
  refine pr_ishl dX0_groupOf_4 ?_
  refine pr_istore_n (L' := [.ref a0, .int x1, .int 0, .int (pm_shl 1 x1), pm_D]) dX0_groupOf_5 rfl ?_
  obtain ⟨q4, hq4, hF⟩ := po_b hF
  refine ok_L_X0_groupOf_6 n hq4 rfl rfl (fun z3 hz3 z4 hz4 => ?_)
  refine pr_iload_n dX0_groupOf_54 rfl ?_
  cases hF
  exact pr_iret dX0_groupOf_55 rfl rfl rfl

def F_X0_lowest (x0 : Int32) : Option (Int32) :=
  (F_J6_numberOfTrailingZeros x0).bind fun q1 =>
  some q1
theorem ok_F_X0_lowest {d : Nat} {h : pm_H} {x0 : Int32} {q : Int32} (hF : F_X0_lowest x0 = some q) : pm_E (d + 1) 0 cX0_lowest (some .int) 0 [.int x0] [] h (some (.int q), h) := by
  unfold F_X0_lowest at hF
  refine pr_iload_n dX0_lowest_0 rfl ?_
  obtain ⟨q1, hq1, hF⟩ := po_b hF
  refine pr_S dX0_lowest_1 cs_0_10 (as := [.int x0]) (rest := []) rfl rfl rfl (lb rfl) (lb rfl) (lb rfl) (ok_F_J6_numberOfTrailingZeros hq1) ?_
  cases hF
  exact pr_iret dX0_lowest_4 rfl rfl rfl

def L_X0_outOf_4 : Nat → Nat → Int32 → Int32 → pm_H → Option (Int32)
  | 0, _, _, _, _ => none
  | n + 1, x0, x1, x2, h =>
    if x2 < 16 then
      (if pm_cl_ h x0 = some 1 then F_X1_isTold h x0 x2 else none).bind fun q1 =>
      ((
        if q1 = 0 then
          some 0
        else
          (F_X0_groupOf n h x0 x2).bind fun q2 =>
          some q2
      ) : Option (Int32)).bind fun q3 =>
      if q3 = 0 then
        L_X0_outOf_4 n x0 (x1 ||| 0) (x2 + 1) h
      else
        (F_X0_lowest q3).bind fun q4 =>
        if q4 = x2 then
          (pm_fI [(1, 3)] h x0).bind fun v5 =>
          if (q3 &&& (v5 ^^^ (-1))) = 0 then
            L_X0_outOf_4 n x0 (x1 ||| (pm_shl 1 x2)) (x2 + 1) h
          else
            L_X0_outOf_4 n x0 (x1 ||| 0) (x2 + 1) h
        else
          L_X0_outOf_4 n x0 (x1 ||| 0) (x2 + 1) h
    else
      some x1
theorem ok_L_X0_outOf_4 {d : Nat} : ∀ (n : Nat) {x0 : Nat} {x1 : Int32} {x2 : Int32} {w3 : Value} {h : pm_H} {q : Int32} {res : Option Value × pm_H}, L_X0_outOf_4 n x0 x1 x2 h = some q → pm_nolong w3 = true → (∀ z2 : Value, pm_nolong z2 = true → ∀ z3 : Value, pm_nolong z3 = true → pm_E (d + 2) 0 cX0_outOf (some .int) 67 [.ref x0, .int q, z2, z3] [] h res) → pm_E (d + 2) 0 cX0_outOf (some .int) 4 [.ref x0, .int x1, .int x2, w3] [] h res := by
  intro n
  induction n with
  | zero =>
    intro x0 x1 x2 w3 h q res hF hw3 hk
    rw [L_X0_outOf_4] at hF
    cases hF
  | succ n ih =>
    intro x0 x1 x2 w3 h q res hF hw3 hk
    rw [L_X0_outOf_4] at hF
    refine pr_iload_n dX0_outOf_4 rfl ?_
    refine pr_bipush (v := 16) dX0_outOf_5 (kb_16) ?_
    refine po_i hF (fun hc hF => ?_) (fun hc hF => ?_)
    · refine pr_icF (tgt := 67) dX0_outOf_7 (by decide) (pc_geF hc) ?_
      refine pr_aload_n dX0_outOf_10 rfl ?_
      refine pr_iload_n dX0_outOf_11 rfl ?_
      obtain ⟨q1, hq1, hF⟩ := po_b hF
      refine po_i hq1 (fun hcl hq => ?_) (fun _ hq => nomatch hq)
      refine pr_V (as := [.int x2]) (rest := []) dX0_outOf_12 cv_0_168 hcl rfl rfl rfl rfl (lb rfl) (lb rfl) (lb rfl) (ok_F_X1_isTold hq) ?_
      obtain ⟨q3, hq3, hF⟩ := po_b hF
      have J27 : pm_E (d + 2) 0 cX0_outOf (some .int) 27 [.ref x0, .int x1, .int x2, w3] [.int q3] h res := by
        refine pr_istore_n (L' := [.ref x0, .int x1, .int x2, .int q3]) dX0_outOf_27 rfl ?_
        refine pr_iload_n dX0_outOf_28 rfl ?_
        refine pr_iload_n dX0_outOf_29 rfl ?_
        refine po_i hF (fun hc hF => ?_) (fun hc hF => ?_)
        · refine pr_ifT (tgt := 58) dX0_outOf_30 (by decide) (pc_eqT hc) ?_
          refine pr_iconst (v := 0) dX0_outOf_58 (kc_0) ?_
          refine pr_ior dX0_outOf_59 ?_
          refine pr_istore_n (L' := [.ref x0, .int (x1 ||| 0), .int x2, .int q3]) dX0_outOf_60 rfl ?_
          refine pr_iinc (v := 1) (L' := [.ref x0, .int (x1 ||| 0), .int (x2 + 1), .int q3]) dX0_outOf_61 rfl (kc_1) rfl ?_
          refine pr_goto (tgt := 4) dX0_outOf_64 (by decide) ?_
          exact ih hF rfl hk
        · refine pr_ifF (tgt := 58) dX0_outOf_30 (by decide) (pc_eqF hc) ?_
          refine pr_iload_n dX0_outOf_33 rfl ?_
          obtain ⟨q4, hq4, hF⟩ := po_b hF
          refine pr_S dX0_outOf_34 cs_0_207 (as := [.int q3]) (rest := [.int x1]) rfl rfl rfl (lb rfl) (lb rfl) (lb rfl) (ok_F_X0_lowest hq4) ?_
          refine pr_iload_n dX0_outOf_37 rfl ?_
          refine po_i hF (fun hc hF => ?_) (fun hc hF => ?_)
          · refine pr_icF (tgt := 58) dX0_outOf_38 (by decide) (pc_neF hc) ?_
            refine pr_iload_n dX0_outOf_41 rfl ?_
            refine pr_aload_n dX0_outOf_42 rfl ?_
            obtain ⟨v5, hv5, hF⟩ := po_b hF
            refine pr_getI dX0_outOf_43 tf_0_152 (hv5) ?_
            refine pr_iconst (v := (-1)) dX0_outOf_46 (kc_m1) ?_
            refine pr_ixor dX0_outOf_47 ?_
            refine pr_iand dX0_outOf_48 ?_
            refine po_i hF (fun hc hF => ?_) (fun hc hF => ?_)
            · refine pr_ifF (tgt := 58) dX0_outOf_49 (by decide) (pc_neF hc) ?_
              refine pr_iconst (v := 1) dX0_outOf_52 (kc_1) ?_
              refine pr_iload_n dX0_outOf_53 rfl ?_
              refine pr_ishl dX0_outOf_54 ?_
              refine pr_goto (tgt := 59) dX0_outOf_55 (by decide) ?_
              refine pr_ior dX0_outOf_59 ?_
              refine pr_istore_n (L' := [.ref x0, .int (x1 ||| (pm_shl 1 x2)), .int x2, .int q3]) dX0_outOf_60 rfl ?_
              refine pr_iinc (v := 1) (L' := [.ref x0, .int (x1 ||| (pm_shl 1 x2)), .int (x2 + 1), .int q3]) dX0_outOf_61 rfl (kc_1) rfl ?_
              refine pr_goto (tgt := 4) dX0_outOf_64 (by decide) ?_
              exact ih hF rfl hk
            · refine pr_ifT (tgt := 58) dX0_outOf_49 (by decide) (pc_neT hc) ?_
              refine pr_iconst (v := 0) dX0_outOf_58 (kc_0) ?_
              refine pr_ior dX0_outOf_59 ?_
              refine pr_istore_n (L' := [.ref x0, .int (x1 ||| 0), .int x2, .int q3]) dX0_outOf_60 rfl ?_
              refine pr_iinc (v := 1) (L' := [.ref x0, .int (x1 ||| 0), .int (x2 + 1), .int q3]) dX0_outOf_61 rfl (kc_1) rfl ?_
              refine pr_goto (tgt := 4) dX0_outOf_64 (by decide) ?_
              exact ih hF rfl hk
          · refine pr_icT (tgt := 58) dX0_outOf_38 (by decide) (pc_neT hc) ?_
            refine pr_iconst (v := 0) dX0_outOf_58 (kc_0) ?_
            refine pr_ior dX0_outOf_59 ?_
            refine pr_istore_n (L' := [.ref x0, .int (x1 ||| 0), .int x2, .int q3]) dX0_outOf_60 rfl ?_
            refine pr_iinc (v := 1) (L' := [.ref x0, .int (x1 ||| 0), .int (x2 + 1), .int q3]) dX0_outOf_61 rfl (kc_1) rfl ?_
            refine pr_goto (tgt := 4) dX0_outOf_64 (by decide) ?_
            exact ih hF rfl hk
      clear hF
      have hF := hq3
      refine po_i hF (fun hc hF => ?_) (fun hc hF => ?_)
      · refine pr_ifT (tgt := 26) dX0_outOf_15 (by decide) (pc_eqT hc) ?_
        refine pr_iconst (v := 0) dX0_outOf_26 (kc_0) ?_
        cases hF
        exact J27
      · refine pr_ifF (tgt := 26) dX0_outOf_15 (by decide) (pc_eqF hc) ?_
        refine pr_aload_n dX0_outOf_18 rfl ?_
        refine pr_iload_n dX0_outOf_19 rfl ?_
        obtain ⟨q2, hq2, hF⟩ := po_b hF
        refine pr_S dX0_outOf_20 cs_0_203 (as := [.ref x0, .int x2]) (rest := []) rfl rfl rfl (lb rfl) (lb rfl) (lb rfl) (ok_F_X0_groupOf hq2) ?_
        refine pr_goto (tgt := 27) dX0_outOf_23 (by decide) ?_
        cases hF
        exact J27
    · refine pr_icT (tgt := 67) dX0_outOf_7 (by decide) (pc_geT hc) ?_
      cases hF
      exact hk _ rfl _ hw3
def F_X0_outOf (n : Nat) (h : pm_H) (a0 : Nat) : Option (Int32) :=
  (L_X0_outOf_4 n a0 0 0 h).bind fun q6 =>
  some q6
theorem ok_F_X0_outOf {d n : Nat} {h : pm_H} {a0 : Nat} {q : Int32} (hF : F_X0_outOf n h a0 = some q) : pm_E (d + 2) 0 cX0_outOf (some .int) 0 [.ref a0, pm_D, pm_D, pm_D] [] h (some (.int q), h) := by
  unfold F_X0_outOf at hF
  refine pr_iconst (v := 0) dX0_outOf_0 (kc_0) ?_
  refine pr_istore_n (L' := [.ref a0, .int 0, pm_D, pm_D]) dX0_outOf_1 rfl ?_
  refine pr_iconst (v := 0) dX0_outOf_2 (kc_0) ?_
  refine pr_istore_n (L' := [.ref a0, .int 0, .int 0, pm_D]) dX0_outOf_3 rfl ?_
  obtain ⟨q6, hq6, hF⟩ := po_b hF
  refine ok_L_X0_outOf_4 n hq6 rfl (fun z2 hz2 z3 hz3 => ?_)
  refine pr_iload_n dX0_outOf_67 rfl ?_
  cases hF
  exact pr_iret dX0_outOf_68 rfl rfl rfl

def F_X0_stayOut (n : Nat) (h : pm_H) (a0 : Nat) (x1 : Int32) : Option (Int32) :=
  (F_X0_in x1 2).bind fun q1 =>
  if q1 = 0 then
    some (-1)
  else
  if x1 = 0 then
    (pm_fR [(0, 0)] h a0).bind fun v4 =>
    (F_X0_outOf n h v4).bind fun q5 =>
    (F_J6_bitCount q5).bind fun q6 =>
    some q6
  else
    (pm_fR [(0, 0)] h a0).bind fun v2 =>
    (F_X0_outOf n h v2).bind fun q3 =>
    some q3
theorem ok_F_X0_stayOut {d n : Nat} {h : pm_H} {a0 : Nat} {x1 : Int32} {q : Int32} (hF : F_X0_stayOut n h a0 x1 = some q) : pm_E (d + 3) 0 cX0_stayOut (some .int) 0 [.ref a0, .int x1] [] h (some (.int q), h) := by
  unfold F_X0_stayOut at hF
  refine pr_iload_n dX0_stayOut_0 rfl ?_
  refine pr_iconst (v := 2) dX0_stayOut_1 (kc_2) ?_
  obtain ⟨q1, hq1, hF⟩ := po_b hF
  refine pr_S dX0_stayOut_2 cs_0_144 (as := [.int x1, .int 2]) (rest := []) rfl rfl rfl (lb rfl) (lb rfl) (lb rfl) (ok_F_X0_in hq1) ?_
  refine po_i hF (fun hc hF => ?_) (fun hc hF => ?_)
  · refine pr_ifF (tgt := 12) dX0_stayOut_5 (by decide) (pc_neF hc) ?_
    refine pr_iconst (v := (-1)) dX0_stayOut_8 (kc_m1) ?_
    refine pr_goto (tgt := 36) dX0_stayOut_9 (by decide) ?_
    cases hF
    exact pr_iret dX0_stayOut_36 rfl rfl rfl
  · refine pr_ifT (tgt := 12) dX0_stayOut_5 (by decide) (pc_neT hc) ?_
    refine pr_iload_n dX0_stayOut_12 rfl ?_
    refine po_i hF (fun hc hF => ?_) (fun hc hF => ?_)
    · refine pr_ifF (tgt := 29) dX0_stayOut_13 (by decide) (pc_neF hc) ?_
      refine pr_aload_n dX0_stayOut_16 rfl ?_
      obtain ⟨v4, hv4, hF⟩ := po_b hF
      refine pr_getR dX0_stayOut_17 tf_0_16 (hv4) ?_
      obtain ⟨q5, hq5, hF⟩ := po_b hF
      refine pr_S dX0_stayOut_20 cs_0_210 (as := [.ref v4]) (rest := []) rfl rfl rfl (lb rfl) (lb rfl) (lb rfl) (ok_F_X0_outOf hq5) ?_
      obtain ⟨q6, hq6, hF⟩ := po_b hF
      refine pr_S dX0_stayOut_23 cs_0_214 (as := [.int q5]) (rest := []) rfl rfl rfl (lb rfl) (lb rfl) (lb rfl) (ok_F_J6_bitCount hq6) ?_
      refine pr_goto (tgt := 36) dX0_stayOut_26 (by decide) ?_
      cases hF
      exact pr_iret dX0_stayOut_36 rfl rfl rfl
    · refine pr_ifT (tgt := 29) dX0_stayOut_13 (by decide) (pc_neT hc) ?_
      refine pr_aload_n dX0_stayOut_29 rfl ?_
      obtain ⟨v2, hv2, hF⟩ := po_b hF
      refine pr_getR dX0_stayOut_30 tf_0_16 (hv2) ?_
      obtain ⟨q3, hq3, hF⟩ := po_b hF
      refine pr_S dX0_stayOut_33 cs_0_210 (as := [.ref v2]) (rest := []) rfl rfl rfl (lb rfl) (lb rfl) (lb rfl) (ok_F_X0_outOf hq3) ?_
      cases hF
      exact pr_iret dX0_stayOut_36 rfl rfl rfl

def L_X0_laysOrders_35 : Nat → Nat → Int32 → Int32 → Int32 → pm_H → Option (pm_H)
  | 0, _, _, _, _, _ => none
  | n + 1, x0, x1, x2, x3, h =>
    if x3 < 16 then
      (F_X0_has (x1 &&& (x2 ^^^ (-1))) x3).bind fun q4 =>
      if q4 = 0 then
        L_X0_laysOrders_35 n x0 x1 x2 (x3 + 1) h
      else
        (pm_fR [(0, 0)] h x0).bind fun v5 =>
        (if pm_cl_ h v5 = some 1 then F_X1_friends h v5 x3 else none).bind fun q6 =>
        if (q6 &&& (x2 ^^^ (-1))) = 0 then
          L_X0_laysOrders_35 n x0 x1 x2 (x3 + 1) h
        else
          (pm_fR [(0, 10)] h x0).bind fun v7 =>
          (pm_al h v7 x2).bind fun v8 =>
          (pm_fR [(0, 10)] h x0).bind fun v9 =>
          (pm_al h v9 (x2 ||| (pm_shl 1 x3))).bind fun v10 =>
          (pm_sl h v7 x2 (v8 + v10)).bind fun h11 =>
          L_X0_laysOrders_35 n x0 x1 x2 (x3 + 1) h11
    else
      some h
theorem ok_L_X0_laysOrders_35 {d : Nat} : ∀ (n : Nat) {x0 : Nat} {x1 : Int32} {x2 : Int32} {x3 : Int32} {h : pm_H} {q : pm_H} {res : Option Value × pm_H}, L_X0_laysOrders_35 n x0 x1 x2 x3 h = some q → (∀ z3 : Value, pm_nolong z3 = true → pm_E (d + 1) 0 cX0_laysOrders (none) 93 [.ref x0, .int x1, .int x2, z3] [] q res) → pm_E (d + 1) 0 cX0_laysOrders (none) 35 [.ref x0, .int x1, .int x2, .int x3] [] h res := by
  intro n
  induction n with
  | zero =>
    intro x0 x1 x2 x3 h q res hF hk
    rw [L_X0_laysOrders_35] at hF
    cases hF
  | succ n ih =>
    intro x0 x1 x2 x3 h q res hF hk
    rw [L_X0_laysOrders_35] at hF
    refine pr_iload_n dX0_laysOrders_35 rfl ?_
    refine pr_bipush (v := 16) dX0_laysOrders_36 (kb_16) ?_
    refine po_i hF (fun hc hF => ?_) (fun hc hF => ?_)
    · refine pr_icF (tgt := 93) dX0_laysOrders_38 (by decide) (pc_geF hc) ?_
      refine pr_iload_n dX0_laysOrders_41 rfl ?_
      refine pr_iload_n dX0_laysOrders_42 rfl ?_
      refine pr_iconst (v := (-1)) dX0_laysOrders_43 (kc_m1) ?_
      refine pr_ixor dX0_laysOrders_44 ?_
      refine pr_iand dX0_laysOrders_45 ?_
      refine pr_iload_n dX0_laysOrders_46 rfl ?_
      obtain ⟨q4, hq4, hF⟩ := po_b hF
      refine pr_S dX0_laysOrders_47 cs_0_191 (as := [.int (x1 &&& (x2 ^^^ (-1))), .int x3]) (rest := []) rfl rfl rfl (lb rfl) (lb rfl) (lb rfl) (ok_F_X0_has hq4) ?_
      refine po_i hF (fun hc hF => ?_) (fun hc hF => ?_)
      · refine pr_ifT (tgt := 87) dX0_laysOrders_50 (by decide) (pc_eqT hc) ?_
        refine pr_iinc (v := 1) (L' := [.ref x0, .int x1, .int x2, .int (x3 + 1)]) dX0_laysOrders_87 rfl (kc_1) rfl ?_
        refine pr_goto (tgt := 35) dX0_laysOrders_90 (by decide) ?_
        exact ih hF hk
      · refine pr_ifF (tgt := 87) dX0_laysOrders_50 (by decide) (pc_eqF hc) ?_
        refine pr_aload_n dX0_laysOrders_53 rfl ?_
        obtain ⟨v5, hv5, hF⟩ := po_b hF
        refine pr_getR dX0_laysOrders_54 tf_0_16 (hv5) ?_
        refine pr_iload_n dX0_laysOrders_57 rfl ?_
        obtain ⟨q6, hq6, hF⟩ := po_b hF
        refine po_i hq6 (fun hcl hq => ?_) (fun _ hq => nomatch hq)
        refine pr_V (as := [.int x3]) (rest := []) dX0_laysOrders_58 cv_0_200 hcl rfl rfl rfl rfl (lb rfl) (lb rfl) (lb rfl) (ok_F_X1_friends hq) ?_
        refine pr_iload_n dX0_laysOrders_61 rfl ?_
        refine pr_iconst (v := (-1)) dX0_laysOrders_62 (kc_m1) ?_
        refine pr_ixor dX0_laysOrders_63 ?_
        refine pr_iand dX0_laysOrders_64 ?_
        refine po_i hF (fun hc hF => ?_) (fun hc hF => ?_)
        · refine pr_ifT (tgt := 87) dX0_laysOrders_65 (by decide) (pc_eqT hc) ?_
          refine pr_iinc (v := 1) (L' := [.ref x0, .int x1, .int x2, .int (x3 + 1)]) dX0_laysOrders_87 rfl (kc_1) rfl ?_
          refine pr_goto (tgt := 35) dX0_laysOrders_90 (by decide) ?_
          exact ih hF hk
        · refine pr_ifF (tgt := 87) dX0_laysOrders_65 (by decide) (pc_eqF hc) ?_
          refine pr_aload_n dX0_laysOrders_68 rfl ?_
          obtain ⟨v7, hv7, hF⟩ := po_b hF
          refine pr_getR dX0_laysOrders_69 tf_0_79 (hv7) ?_
          refine pr_iload_n dX0_laysOrders_72 rfl ?_
          refine pr_dup2 dX0_laysOrders_73 rfl rfl ?_
          obtain ⟨v8, hv8, hF⟩ := po_b hF
          refine pr_lald dX0_laysOrders_74 (hv8) ?_
          refine pr_aload_n dX0_laysOrders_75 rfl ?_
          obtain ⟨v9, hv9, hF⟩ := po_b hF
          refine pr_getR dX0_laysOrders_76 tf_0_79 (hv9) ?_
          refine pr_iload_n dX0_laysOrders_79 rfl ?_
          refine pr_iconst (v := 1) dX0_laysOrders_80 (kc_1) ?_
          refine pr_iload_n dX0_laysOrders_81 rfl ?_
          refine pr_ishl dX0_laysOrders_82 ?_
          refine pr_ior dX0_laysOrders_83 ?_
          obtain ⟨v10, hv10, hF⟩ := po_b hF
          refine pr_lald dX0_laysOrders_84 (hv10) ?_
          refine pr_ladd dX0_laysOrders_85 ?_
          obtain ⟨h11, hh11, hF⟩ := po_b hF
          refine pr_last dX0_laysOrders_86 (hh11) ?_
          refine pr_iinc (v := 1) (L' := [.ref x0, .int x1, .int x2, .int (x3 + 1)]) dX0_laysOrders_87 rfl (kc_1) rfl ?_
          refine pr_goto (tgt := 35) dX0_laysOrders_90 (by decide) ?_
          exact ih hF hk
    · refine pr_icT (tgt := 93) dX0_laysOrders_38 (by decide) (pc_geT hc) ?_
      cases hF
      exact hk _ rfl
def L_X0_laysOrders_2 : Nat → Nat → Int32 → Int32 → pm_H → Option (pm_H)
  | 0, _, _, _, _ => none
  | n + 1, x0, x1, x2, h =>
    if x2 < 0 then
      some h
    else
    if (x2 &&& (x1 ^^^ (-1))) = 0 then
      (pm_fR [(0, 10)] h x0).bind fun v1 =>
      ((
        if x2 = x1 then
          some 1
        else
          some 0
      ) : Option (Int64)).bind fun q2 =>
      (pm_sl h v1 x2 q2).bind fun h3 =>
      (L_X0_laysOrders_35 n x0 x1 x2 0 h3).bind fun q12 =>
      L_X0_laysOrders_2 n x0 x1 (x2 + (-1)) q12
    else
      L_X0_laysOrders_2 n x0 x1 (x2 + (-1)) h
theorem ok_L_X0_laysOrders_2 {d : Nat} : ∀ (n : Nat) {x0 : Nat} {x1 : Int32} {x2 : Int32} {w3 : Value} {h : pm_H} {q : pm_H} {res : Option Value × pm_H}, L_X0_laysOrders_2 n x0 x1 x2 h = some q → pm_nolong w3 = true → (∀ z2 : Value, pm_nolong z2 = true → ∀ z3 : Value, pm_nolong z3 = true → pm_E (d + 1) 0 cX0_laysOrders (none) 99 [.ref x0, .int x1, z2, z3] [] q res) → pm_E (d + 1) 0 cX0_laysOrders (none) 2 [.ref x0, .int x1, .int x2, w3] [] h res := by
  intro n
  induction n with
  | zero =>
    intro x0 x1 x2 w3 h q res hF hw3 hk
    rw [L_X0_laysOrders_2] at hF
    cases hF
  | succ n ih =>
    intro x0 x1 x2 w3 h q res hF hw3 hk
    rw [L_X0_laysOrders_2] at hF
    refine pr_iload_n dX0_laysOrders_2 rfl ?_
    refine po_i hF (fun hc hF => ?_) (fun hc hF => ?_)
    · refine pr_ifT (tgt := 99) dX0_laysOrders_3 (by decide) (pc_ltT hc) ?_
      cases hF
      exact hk _ rfl _ hw3
    · refine pr_ifF (tgt := 99) dX0_laysOrders_3 (by decide) (pc_ltF hc) ?_
      refine pr_iload_n dX0_laysOrders_6 rfl ?_
      refine pr_iload_n dX0_laysOrders_7 rfl ?_
      refine pr_iconst (v := (-1)) dX0_laysOrders_8 (kc_m1) ?_
      refine pr_ixor dX0_laysOrders_9 ?_
      refine pr_iand dX0_laysOrders_10 ?_
      refine po_i hF (fun hc hF => ?_) (fun hc hF => ?_)
      · refine pr_ifT (tgt := 17) dX0_laysOrders_11 (by decide) (pc_eqT hc) ?_
        refine pr_aload_n dX0_laysOrders_17 rfl ?_
        obtain ⟨v1, hv1, hF⟩ := po_b hF
        refine pr_getR dX0_laysOrders_18 tf_0_79 (hv1) ?_
        refine pr_iload_n dX0_laysOrders_21 rfl ?_
        refine pr_iload_n dX0_laysOrders_22 rfl ?_
        refine pr_iload_n dX0_laysOrders_23 rfl ?_
        obtain ⟨q2, hq2, hF⟩ := po_b hF
        have J32 : pm_E (d + 1) 0 cX0_laysOrders (none) 32 [.ref x0, .int x1, .int x2, w3] [.long q2, .int x2, .ref v1] h res := by
          obtain ⟨h3, hh3, hF⟩ := po_b hF
          refine pr_last dX0_laysOrders_32 (hh3) ?_
          refine pr_iconst (v := 0) dX0_laysOrders_33 (kc_0) ?_
          refine pr_istore_n (L' := [.ref x0, .int x1, .int x2, .int 0]) dX0_laysOrders_34 rfl ?_
          obtain ⟨q12, hq12, hF⟩ := po_b hF
          refine ok_L_X0_laysOrders_35 n hq12 (fun z3 hz3 => ?_)
          refine pr_iinc (v := (-1)) (L' := [.ref x0, .int x1, .int (x2 + (-1)), z3]) dX0_laysOrders_93 rfl (kc_m1) rfl ?_
          refine pr_goto (tgt := 2) dX0_laysOrders_96 (by decide) ?_
          exact ih hF hz3 hk
        clear hF
        have hF := hq2
        refine po_i hF (fun hc hF => ?_) (fun hc hF => ?_)
        · refine pr_icF (tgt := 31) dX0_laysOrders_24 (by decide) (pc_neF hc) ?_
          refine pr_lconst (v := 1) dX0_laysOrders_27 rfl ?_
          refine pr_goto (tgt := 32) dX0_laysOrders_28 (by decide) ?_
          cases hF
          exact J32
        · refine pr_icT (tgt := 31) dX0_laysOrders_24 (by decide) (pc_neT hc) ?_
          refine pr_lconst (v := 0) dX0_laysOrders_31 rfl ?_
          cases hF
          exact J32
      · refine pr_ifF (tgt := 17) dX0_laysOrders_11 (by decide) (pc_eqF hc) ?_
        refine pr_goto (tgt := 93) dX0_laysOrders_14 (by decide) ?_
        refine pr_iinc (v := (-1)) (L' := [.ref x0, .int x1, .int (x2 + (-1)), w3]) dX0_laysOrders_93 rfl (kc_m1) rfl ?_
        refine pr_goto (tgt := 2) dX0_laysOrders_96 (by decide) ?_
        exact ih hF hw3 hk
def F_X0_laysOrders (n : Nat) (h : pm_H) (a0 : Nat) (x1 : Int32) : Option (pm_H) :=
  (L_X0_laysOrders_2 n a0 x1 x1 h).bind fun q13 =>
  some q13
theorem ok_F_X0_laysOrders {d n : Nat} {h : pm_H} {a0 : Nat} {x1 : Int32} {q : pm_H} (hF : F_X0_laysOrders n h a0 x1 = some q) : pm_E (d + 1) 0 cX0_laysOrders (none) 0 [.ref a0, .int x1, pm_D, pm_D] [] h (none, q) := by
  unfold F_X0_laysOrders at hF
  refine pr_iload_n dX0_laysOrders_0 rfl ?_
  refine pr_istore_n (L' := [.ref a0, .int x1, .int x1, pm_D]) dX0_laysOrders_1 rfl ?_
  obtain ⟨q13, hq13, hF⟩ := po_b hF
  refine ok_L_X0_laysOrders_2 n hq13 rfl (fun z2 hz2 z3 hz3 => ?_)
  cases hF
  exact pr_vret dX0_laysOrders_99 rfl rfl
