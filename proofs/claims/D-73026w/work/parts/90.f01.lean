set_option maxRecDepth 100000
def F_X1_init (h : pm_H) (a0 : Nat) : Option (pm_H) :=
  (pm_na h 0 16).bind fun h1 =>
  (pm_put [(1, 0, 2)] h1 a0 (.ref h.2.1)).bind fun h2 =>
  (pm_na h2 0 16).bind fun h3 =>
  (pm_put [(1, 1, 2)] h3 a0 (.ref h2.2.1)).bind fun h4 =>
  some h4
theorem ok_F_X1_init {d : Nat} {h : pm_H} {a0 : Nat} {q : pm_H} (hF : F_X1_init h a0 = some q) : pm_E (d + 0) 51 cX1_init (none) 0 [.ref a0] [] h (none, q) := by
  unfold F_X1_init at hF
  refine pr_aload_n dX1_init_0 rfl ?_
  refine pr_objI dX1_init_1 rfl rfl (lb rfl) ?_
  refine pr_aload_n dX1_init_4 rfl ?_
  refine pr_bipush (v := 16) dX1_init_5 (kb_16) ?_
  obtain ⟨h1, hh1, hF⟩ := po_b hF
  refine pr_newa (t := 0) dX1_init_7 rfl (hh1) ?_
  obtain ⟨h2, hh2, hF⟩ := po_b hF
  refine pr_put dX1_init_9 tp_51_9 (hh2) ?_
  refine pr_aload_n dX1_init_12 rfl ?_
  refine pr_bipush (v := 16) dX1_init_13 (kb_16) ?_
  obtain ⟨h3, hh3, hF⟩ := po_b hF
  refine pr_newa (t := 0) dX1_init_15 rfl (hh3) ?_
  obtain ⟨h4, hh4, hF⟩ := po_b hF
  refine pr_put dX1_init_17 tp_51_15 (hh4) ?_
  cases hF
  exact pr_vret dX1_init_20 rfl rfl

def F_X2_init (a0 : Nat) : Option (Unit) :=
  some ()
theorem ok_F_X2_init {d : Nat} {h : pm_H} {a0 : Nat} {q : Unit} (hF : F_X2_init a0 = some q) : pm_E (d + 0) 52 cX2_init (none) 0 [.ref a0] [] h (none, h) := by
  unfold F_X2_init at hF
  refine pr_aload_n dX2_init_0 rfl ?_
  refine pr_objI dX2_init_1 rfl rfl (lb rfl) ?_
  cases hF
  exact pr_vret dX2_init_4 rfl rfl

def F_X3_init (a0 : Nat) : Option (Unit) :=
  (F_X2_init a0).bind fun q1 =>
  some ()
theorem ok_F_X3_init {d : Nat} {h : pm_H} {a0 : Nat} {q : Unit} (hF : F_X3_init a0 = some q) : pm_E (d + 1) 53 cX3_init (none) 0 [.ref a0] [] h (none, h) := by
  unfold F_X3_init at hF
  refine pr_aload_n dX3_init_0 rfl ?_
  obtain ⟨q1, hq1, hF⟩ := po_b hF
  refine pr_I dX3_init_1 ci_53_3 (as := []) (rest := []) rfl rfl rfl (lb rfl) (lb rfl) (lb rfl) (ok_F_X2_init hq1) ?_
  cases hF
  exact pr_vret dX3_init_4 rfl rfl

def F_X4_init (h : pm_H) (a0 : Nat) (a1 : Nat) : Option (pm_H) :=
  (pm_put [(3, 9, 2)] h a0 (.ref a1)).bind fun h1 =>
  (pm_nm h1 16 16).bind fun h2 =>
  (pm_put [(3, 0, 2)] h2 a0 (.ref h1.2.1)).bind fun h3 =>
  (pm_na h3 0 16).bind fun h4 =>
  (pm_put [(3, 1, 2)] h4 a0 (.ref h3.2.1)).bind fun h5 =>
  (pm_na h5 0 16).bind fun h6 =>
  (pm_put [(3, 2, 2)] h6 a0 (.ref h5.2.1)).bind fun h7 =>
  (pm_put [(3, 6, 0)] h7 a0 (.int (-2))).bind fun h8 =>
  some h8
theorem ok_F_X4_init {d : Nat} {h : pm_H} {a0 : Nat} {a1 : Nat} {q : pm_H} (hF : F_X4_init h a0 a1 = some q) : pm_E (d + 0) 54 cX4_init (none) 0 [.ref a0, .ref a1] [] h (none, q) := by
  unfold F_X4_init at hF
  refine pr_aload_n dX4_init_0 rfl ?_
  refine pr_aload_n dX4_init_1 rfl ?_
  obtain ⟨h1, hh1, hF⟩ := po_b hF
  refine pr_put dX4_init_2 tp_54_3 (hh1) ?_
  refine pr_aload_n dX4_init_5 rfl ?_
  refine pr_objI dX4_init_6 rfl rfl (lb rfl) ?_
  refine pr_aload_n dX4_init_9 rfl ?_
  refine pr_bipush (v := 16) dX4_init_10 (kb_16) ?_
  refine pr_bipush (v := 16) dX4_init_12 (kb_16) ?_
  obtain ⟨h2, hh2, hF⟩ := po_b hF
  refine pr_newm (t := 3) dX4_init_14 rfl (hh2) ?_
  obtain ⟨h3, hh3, hF⟩ := po_b hF
  refine pr_put dX4_init_18 tp_54_17 (hh3) ?_
  refine pr_aload_n dX4_init_21 rfl ?_
  refine pr_bipush (v := 16) dX4_init_22 (kb_16) ?_
  obtain ⟨h4, hh4, hF⟩ := po_b hF
  refine pr_newa (t := 0) dX4_init_24 rfl (hh4) ?_
  obtain ⟨h5, hh5, hF⟩ := po_b hF
  refine pr_put dX4_init_26 tp_54_20 (hh5) ?_
  refine pr_aload_n dX4_init_29 rfl ?_
  refine pr_bipush (v := 16) dX4_init_30 (kb_16) ?_
  obtain ⟨h6, hh6, hF⟩ := po_b hF
  refine pr_newa (t := 0) dX4_init_32 rfl (hh6) ?_
  obtain ⟨h7, hh7, hF⟩ := po_b hF
  refine pr_put dX4_init_34 tp_54_24 (hh7) ?_
  refine pr_aload_n dX4_init_37 rfl ?_
  refine pr_bipush (v := (-2)) dX4_init_38 (kb_m2) ?_
  obtain ⟨h8, hh8, hF⟩ := po_b hF
  refine pr_put dX4_init_40 tp_54_27 (hh8) ?_
  cases hF
  exact pr_vret dX4_init_43 rfl rfl

def F_X5_init (h : pm_H) (a0 : Nat) : Option (pm_H) :=
  (pm_na h 0 16).bind fun h1 =>
  (pm_put [(4, 0, 2)] h1 a0 (.ref h.2.1)).bind fun h2 =>
  (pm_na h2 4 16).bind fun h3 =>
  (pm_put [(4, 1, 2)] h3 a0 (.ref h2.2.1)).bind fun h4 =>
  (pm_na h4 5 16).bind fun h5 =>
  (pm_put [(4, 2, 2)] h5 a0 (.ref h4.2.1)).bind fun h6 =>
  some h6
theorem ok_F_X5_init {d : Nat} {h : pm_H} {a0 : Nat} {q : pm_H} (hF : F_X5_init h a0 = some q) : pm_E (d + 0) 55 cX5_init (none) 0 [.ref a0] [] h (none, q) := by
  unfold F_X5_init at hF
  refine pr_aload_n dX5_init_0 rfl ?_
  refine pr_objI dX5_init_1 rfl rfl (lb rfl) ?_
  refine pr_aload_n dX5_init_4 rfl ?_
  refine pr_bipush (v := 16) dX5_init_5 (kb_16) ?_
  obtain ⟨h1, hh1, hF⟩ := po_b hF
  refine pr_newa (t := 0) dX5_init_7 rfl (hh1) ?_
  obtain ⟨h2, hh2, hF⟩ := po_b hF
  refine pr_put dX5_init_9 tp_55_9 (hh2) ?_
  refine pr_aload_n dX5_init_12 rfl ?_
  refine pr_bipush (v := 16) dX5_init_13 (kb_16) ?_
  obtain ⟨h3, hh3, hF⟩ := po_b hF
  refine pr_newq (t := 4) dX5_init_15 rfl (hh3) ?_
  obtain ⟨h4, hh4, hF⟩ := po_b hF
  refine pr_put dX5_init_18 tp_55_17 (hh4) ?_
  refine pr_aload_n dX5_init_21 rfl ?_
  refine pr_bipush (v := 16) dX5_init_22 (kb_16) ?_
  obtain ⟨h5, hh5, hF⟩ := po_b hF
  refine pr_newq (t := 5) dX5_init_24 rfl (hh5) ?_
  obtain ⟨h6, hh6, hF⟩ := po_b hF
  refine pr_put dX5_init_27 tp_55_23 (hh6) ?_
  cases hF
  exact pr_vret dX5_init_30 rfl rfl

def F_X0_init (h : pm_H) (a0 : Nat) : Option (pm_H) :=
  (F_X1_init (pm_nw h 1) h.2.1).bind fun q1 =>
  (pm_put [(0, 0, 2)] q1 a0 (.ref h.2.1)).bind fun h2 =>
  (F_X1_init (pm_nw h2 1) h2.2.1).bind fun q3 =>
  (pm_put [(0, 1, 2)] q3 a0 (.ref h2.2.1)).bind fun h4 =>
  (F_X3_init h4.2.1).bind fun q5 =>
  (pm_put [(0, 2, 2)] (pm_nw h4 2) a0 (.ref h4.2.1)).bind fun h6 =>
  (F_X4_init (pm_nw h6 3) h6.2.1 a0).bind fun q7 =>
  (pm_put [(0, 3, 2)] q7 a0 (.ref h6.2.1)).bind fun h8 =>
  (F_X4_init (pm_nw h8 3) h8.2.1 a0).bind fun q9 =>
  (pm_put [(0, 4, 2)] q9 a0 (.ref h8.2.1)).bind fun h10 =>
  (F_X4_init (pm_nw h10 3) h10.2.1 a0).bind fun q11 =>
  (pm_put [(0, 5, 2)] q11 a0 (.ref h10.2.1)).bind fun h12 =>
  (pm_na h12 1 260).bind fun h13 =>
  (pm_put [(0, 6, 2)] h13 a0 (.ref h12.2.1)).bind fun h14 =>
  (F_X5_init (pm_nw h14 4) h14.2.1).bind fun q15 =>
  (pm_put [(0, 7, 2)] q15 a0 (.ref h14.2.1)).bind fun h16 =>
  (pm_na h16 2 65536).bind fun h17 =>
  (pm_put [(0, 10, 2)] h17 a0 (.ref h16.2.1)).bind fun h18 =>
  (pm_na h18 0 16).bind fun h19 =>
  (pm_put [(0, 11, 2)] h19 a0 (.ref h18.2.1)).bind fun h20 =>
  (pm_na h20 0 65536).bind fun h21 =>
  (pm_put [(0, 12, 2)] h21 a0 (.ref h20.2.1)).bind fun h22 =>
  (pm_na h22 0 256).bind fun h23 =>
  (pm_put [(0, 13, 2)] h23 a0 (.ref h22.2.1)).bind fun h24 =>
  (pm_na h24 0 8).bind fun h25 =>
  (pm_put [(0, 14, 2)] h25 a0 (.ref h24.2.1)).bind fun h26 =>
  (pm_na h26 0 8).bind fun h27 =>
  (pm_put [(0, 15, 2)] h27 a0 (.ref h26.2.1)).bind fun h28 =>
  (pm_nm h28 8 8).bind fun h29 =>
  (pm_put [(0, 16, 2)] h29 a0 (.ref h28.2.1)).bind fun h30 =>
  (pm_nm h30 8 8).bind fun h31 =>
  (pm_put [(0, 17, 2)] h31 a0 (.ref h30.2.1)).bind fun h32 =>
  (pm_na h32 0 256).bind fun h33 =>
  (pm_put [(0, 18, 2)] h33 a0 (.ref h32.2.1)).bind fun h34 =>
  (pm_fR [(0, 3)] h34 a0).bind fun v35 =>
  (pm_put [(3, 4, 0)] h34 v35 (.int 1)).bind fun h36 =>
  some h36
theorem ok_F_X0_init {d : Nat} {h : pm_H} {a0 : Nat} {q : pm_H} (hF : F_X0_init h a0 = some q) : pm_E (d + 2) 50 cX0_init (none) 0 [.ref a0] [] h (none, q) := by
  unfold F_X0_init at hF
  refine pr_aload_n dX0_init_0 rfl ?_
  refine pr_objI dX0_init_1 rfl rfl (lb rfl) ?_
  refine pr_aload_n dX0_init_4 rfl ?_
  refine pr_new (c := 1) dX0_init_5 rfl ?_
  refine pr_dup dX0_init_8 rfl ?_
  obtain ⟨q1, hq1, hF⟩ := po_b hF
  refine pr_I dX0_init_9 ci_50_51 (as := []) (rest := [.ref h.2.1, .ref a0]) rfl rfl rfl (lb rfl) (lb rfl) (lb rfl) (ok_F_X1_init hq1) ?_
  obtain ⟨h2, hh2, hF⟩ := po_b hF
  refine pr_put dX0_init_12 tp_50_16 (hh2) ?_
  refine pr_aload_n dX0_init_15 rfl ?_
  refine pr_new (c := 1) dX0_init_16 rfl ?_
  refine pr_dup dX0_init_19 rfl ?_
  obtain ⟨q3, hq3, hF⟩ := po_b hF
  refine pr_I dX0_init_20 ci_50_51 (as := []) (rest := [.ref h2.2.1, .ref a0]) rfl rfl rfl (lb rfl) (lb rfl) (lb rfl) (ok_F_X1_init hq3) ?_
  obtain ⟨h4, hh4, hF⟩ := po_b hF
  refine pr_put dX0_init_23 tp_50_52 (hh4) ?_
  refine pr_aload_n dX0_init_26 rfl ?_
  refine pr_new (c := 2) dX0_init_27 rfl ?_
  refine pr_dup dX0_init_30 rfl ?_
  obtain ⟨q5, hq5, hF⟩ := po_b hF
  refine pr_I dX0_init_31 ci_50_57 (as := []) (rest := [.ref h4.2.1, .ref a0]) rfl rfl rfl (lb rfl) (lb rfl) (lb rfl) (ok_F_X3_init hq5) ?_
  obtain ⟨h6, hh6, hF⟩ := po_b hF
  refine pr_put dX0_init_34 tp_50_32 (hh6) ?_
  refine pr_aload_n dX0_init_37 rfl ?_
  refine pr_new (c := 3) dX0_init_38 rfl ?_
  refine pr_dup dX0_init_41 rfl ?_
  refine pr_aload_n dX0_init_42 rfl ?_
  obtain ⟨q7, hq7, hF⟩ := po_b hF
  refine pr_I dX0_init_43 ci_50_60 (as := [.ref a0]) (rest := [.ref h6.2.1, .ref a0]) rfl rfl rfl (lb rfl) (lb rfl) (lb rfl) (ok_F_X4_init hq7) ?_
  obtain ⟨h8, hh8, hF⟩ := po_b hF
  refine pr_put dX0_init_46 tp_50_63 (hh8) ?_
  refine pr_aload_n dX0_init_49 rfl ?_
  refine pr_new (c := 3) dX0_init_50 rfl ?_
  refine pr_dup dX0_init_53 rfl ?_
  refine pr_aload_n dX0_init_54 rfl ?_
  obtain ⟨q9, hq9, hF⟩ := po_b hF
  refine pr_I dX0_init_55 ci_50_60 (as := [.ref a0]) (rest := [.ref h8.2.1, .ref a0]) rfl rfl rfl (lb rfl) (lb rfl) (lb rfl) (ok_F_X4_init hq9) ?_
  obtain ⟨h10, hh10, hF⟩ := po_b hF
  refine pr_put dX0_init_58 tp_50_67 (hh10) ?_
  refine pr_aload_n dX0_init_61 rfl ?_
  refine pr_new (c := 3) dX0_init_62 rfl ?_
  refine pr_dup dX0_init_65 rfl ?_
  refine pr_aload_n dX0_init_66 rfl ?_
  obtain ⟨q11, hq11, hF⟩ := po_b hF
  refine pr_I dX0_init_67 ci_50_60 (as := [.ref a0]) (rest := [.ref h10.2.1, .ref a0]) rfl rfl rfl (lb rfl) (lb rfl) (lb rfl) (ok_F_X4_init hq11) ?_
  obtain ⟨h12, hh12, hF⟩ := po_b hF
  refine pr_put dX0_init_70 tp_50_70 (hh12) ?_
  refine pr_aload_n dX0_init_73 rfl ?_
  refine pr_sipush (v := 260) dX0_init_74 (ks_260) ?_
  obtain ⟨h13, hh13, hF⟩ := po_b hF
  refine pr_newa (t := 1) dX0_init_77 rfl (hh13) ?_
  obtain ⟨h14, hh14, hF⟩ := po_b hF
  refine pr_put dX0_init_79 tp_50_73 (hh14) ?_
  refine pr_aload_n dX0_init_82 rfl ?_
  refine pr_new (c := 4) dX0_init_83 rfl ?_
  refine pr_dup dX0_init_86 rfl ?_
  obtain ⟨q15, hq15, hF⟩ := po_b hF
  refine pr_I dX0_init_87 ci_50_77 (as := []) (rest := [.ref h14.2.1, .ref a0]) rfl rfl rfl (lb rfl) (lb rfl) (lb rfl) (ok_F_X5_init hq15) ?_
  obtain ⟨h16, hh16, hF⟩ := po_b hF
  refine pr_put dX0_init_90 tp_50_28 (hh16) ?_
  refine pr_aload_n dX0_init_93 rfl ?_
  refine pr_ldc (v := 65536) dX0_init_94 rfl ?_
  obtain ⟨h17, hh17, hF⟩ := po_b hF
  refine pr_newa (t := 2) dX0_init_96 rfl (hh17) ?_
  obtain ⟨h18, hh18, hF⟩ := po_b hF
  refine pr_put dX0_init_98 tp_50_79 (hh18) ?_
  refine pr_aload_n dX0_init_101 rfl ?_
  refine pr_bipush (v := 16) dX0_init_102 (kb_16) ?_
  obtain ⟨h19, hh19, hF⟩ := po_b hF
  refine pr_newa (t := 0) dX0_init_104 rfl (hh19) ?_
  obtain ⟨h20, hh20, hF⟩ := po_b hF
  refine pr_put dX0_init_106 tp_50_83 (hh20) ?_
  refine pr_aload_n dX0_init_109 rfl ?_
  refine pr_ldc (v := 65536) dX0_init_110 rfl ?_
  obtain ⟨h21, hh21, hF⟩ := po_b hF
  refine pr_newa (t := 0) dX0_init_112 rfl (hh21) ?_
  obtain ⟨h22, hh22, hF⟩ := po_b hF
  refine pr_put dX0_init_114 tp_50_87 (hh22) ?_
  refine pr_aload_n dX0_init_117 rfl ?_
  refine pr_sipush (v := 256) dX0_init_118 (ks_256) ?_
  obtain ⟨h23, hh23, hF⟩ := po_b hF
  refine pr_newa (t := 0) dX0_init_121 rfl (hh23) ?_
  obtain ⟨h24, hh24, hF⟩ := po_b hF
  refine pr_put dX0_init_123 tp_50_90 (hh24) ?_
  refine pr_aload_n dX0_init_126 rfl ?_
  refine pr_bipush (v := 8) dX0_init_127 (kb_8) ?_
  obtain ⟨h25, hh25, hF⟩ := po_b hF
  refine pr_newa (t := 0) dX0_init_129 rfl (hh25) ?_
  obtain ⟨h26, hh26, hF⟩ := po_b hF
  refine pr_put dX0_init_131 tp_50_93 (hh26) ?_
  refine pr_aload_n dX0_init_134 rfl ?_
  refine pr_bipush (v := 8) dX0_init_135 (kb_8) ?_
  obtain ⟨h27, hh27, hF⟩ := po_b hF
  refine pr_newa (t := 0) dX0_init_137 rfl (hh27) ?_
  obtain ⟨h28, hh28, hF⟩ := po_b hF
  refine pr_put dX0_init_139 tp_50_96 (hh28) ?_
  refine pr_aload_n dX0_init_142 rfl ?_
  refine pr_bipush (v := 8) dX0_init_143 (kb_8) ?_
  refine pr_bipush (v := 8) dX0_init_145 (kb_8) ?_
  obtain ⟨h29, hh29, hF⟩ := po_b hF
  refine pr_newm (t := 3) dX0_init_147 rfl (hh29) ?_
  obtain ⟨h30, hh30, hF⟩ := po_b hF
  refine pr_put dX0_init_151 tp_50_101 (hh30) ?_
  refine pr_aload_n dX0_init_154 rfl ?_
  refine pr_bipush (v := 8) dX0_init_155 (kb_8) ?_
  refine pr_bipush (v := 8) dX0_init_157 (kb_8) ?_
  obtain ⟨h31, hh31, hF⟩ := po_b hF
  refine pr_newm (t := 3) dX0_init_159 rfl (hh31) ?_
  obtain ⟨h32, hh32, hF⟩ := po_b hF
  refine pr_put dX0_init_163 tp_50_104 (hh32) ?_
  refine pr_aload_n dX0_init_166 rfl ?_
  refine pr_sipush (v := 256) dX0_init_167 (ks_256) ?_
  obtain ⟨h33, hh33, hF⟩ := po_b hF
  refine pr_newa (t := 0) dX0_init_170 rfl (hh33) ?_
  obtain ⟨h34, hh34, hF⟩ := po_b hF
  refine pr_put dX0_init_172 tp_50_107 (hh34) ?_
  refine pr_aload_n dX0_init_175 rfl ?_
  obtain ⟨v35, hv35, hF⟩ := po_b hF
  refine pr_getR dX0_init_176 tf_50_63 (hv35) ?_
  refine pr_iconst (v := 1) dX0_init_179 (kc_1) ?_
  obtain ⟨h36, hh36, hF⟩ := po_b hF
  refine pr_put dX0_init_180 tp_50_110 (hh36) ?_
  cases hF
  exact pr_vret dX0_init_183 rfl rfl

def L_X0_push_3 : Nat → Nat → Int32 → Int32 → pm_H → Option (pm_H)
  | 0, _, _, _, _ => none
  | n + 1, x0, x1, x2, h =>
    if x2 < 0 then
      some h
    else
      (pm_fR [(0, 6)] h x0).bind fun v1 =>
      (pm_fI [(0, 8)] h x0).bind fun v2 =>
      (pm_si 1 h v1 v2 (vp_nar .byte (pm_i2b (pm_shr x1 x2)))).bind fun h3 =>
      (pm_fI [(0, 8)] h3 x0).bind fun v4 =>
      (pm_put [(0, 8, 0)] h3 x0 (.int (v4 + 1))).bind fun h5 =>
      L_X0_push_3 n x0 x1 (x2 + (-8)) h5
theorem ok_L_X0_push_3 {d : Nat} : ∀ (n : Nat) {x0 : Nat} {x1 : Int32} {x2 : Int32} {h : pm_H} {q : pm_H} {res : Option Value × pm_H}, L_X0_push_3 n x0 x1 x2 h = some q → (∀ z2 : Value, pm_nolong z2 = true → pm_E (d + 0) 0 cX0_push (none) 36 [.ref x0, .int x1, z2] [] q res) → pm_E (d + 0) 0 cX0_push (none) 3 [.ref x0, .int x1, .int x2] [] h res := by
  intro n
  induction n with
  | zero =>
    intro x0 x1 x2 h q res hF hk
    rw [L_X0_push_3] at hF
    cases hF
  | succ n ih =>
    intro x0 x1 x2 h q res hF hk
    rw [L_X0_push_3] at hF
    refine pr_iload_n dX0_push_3 rfl ?_
    refine po_i hF (fun hc hF => ?_) (fun hc hF => ?_)
    · refine pr_ifT (tgt := 36) dX0_push_4 (by decide) (pc_ltT hc) ?_
      cases hF
      exact hk _ rfl
    · refine pr_ifF (tgt := 36) dX0_push_4 (by decide) (pc_ltF hc) ?_
      refine pr_aload_n dX0_push_7 rfl ?_
      obtain ⟨v1, hv1, hF⟩ := po_b hF
      refine pr_getR dX0_push_8 tf_0_73 (hv1) ?_
      refine pr_aload_n dX0_push_11 rfl ?_
      obtain ⟨v2, hv2, hF⟩ := po_b hF
      refine pr_getI dX0_push_12 tf_0_113 (hv2) ?_
      refine pr_iload_n dX0_push_15 rfl ?_
      refine pr_iload_n dX0_push_16 rfl ?_
      refine pr_ishr dX0_push_17 ?_
      refine pr_i2b dX0_push_18 ?_
      obtain ⟨h3, hh3, hF⟩ := po_b hF
      refine pr_bast dX0_push_19 (hh3) ?_
      refine pr_aload_n dX0_push_20 rfl ?_
      refine pr_dup dX0_push_21 rfl ?_
      obtain ⟨v4, hv4, hF⟩ := po_b hF
      refine pr_getI dX0_push_22 tf_0_113 (hv4) ?_
      refine pr_iconst (v := 1) dX0_push_25 (kc_1) ?_
      refine pr_iadd dX0_push_26 ?_
      obtain ⟨h5, hh5, hF⟩ := po_b hF
      refine pr_put dX0_push_27 tp_0_113 (hh5) ?_
      refine pr_iinc (v := (-8)) (L' := [.ref x0, .int x1, .int (x2 + (-8))]) dX0_push_30 rfl (kc_m8) rfl ?_
      refine pr_goto (tgt := 3) dX0_push_33 (by decide) ?_
      exact ih hF hk
def F_X0_push (n : Nat) (h : pm_H) (a0 : Nat) (x1 : Int32) : Option (pm_H) :=
  (L_X0_push_3 n a0 x1 24 h).bind fun q6 =>
  some q6
theorem ok_F_X0_push {d n : Nat} {h : pm_H} {a0 : Nat} {x1 : Int32} {q : pm_H} (hF : F_X0_push n h a0 x1 = some q) : pm_E (d + 0) 0 cX0_push (none) 0 [.ref a0, .int x1, pm_D] [] h (none, q) := by
  unfold F_X0_push at hF
  refine pr_bipush (v := 24) dX0_push_0 (kb_24) ?_
  refine pr_istore_n (L' := [.ref a0, .int x1, .int 24]) dX0_push_2 rfl ?_
  obtain ⟨q6, hq6, hF⟩ := po_b hF
  refine ok_L_X0_push_3 n hq6 (fun z2 hz2 => ?_)
  cases hF
  exact pr_vret dX0_push_36 rfl rfl

def F_X0_feed (n : Nat) (h : pm_H) (a0 : Nat) (x1 : Int32) (x2 : Int32) (x3 : Int32) (x4 : Int32) (x5 : Int32) : Option (Int32 × pm_H) :=
  (pm_fI [(0, 8)] h a0).bind fun v1 =>
  if 260 < (v1 + 20) then
    some ((-1), h)
  else
    (if pm_cl_ h a0 = some 0 then F_X0_push n h a0 x1 else none).bind fun q2 =>
    (if pm_cl_ q2 a0 = some 0 then F_X0_push n q2 a0 x2 else none).bind fun q3 =>
    (if pm_cl_ q3 a0 = some 0 then F_X0_push n q3 a0 x3 else none).bind fun q4 =>
    (if pm_cl_ q4 a0 = some 0 then F_X0_push n q4 a0 x4 else none).bind fun q5 =>
    (if pm_cl_ q5 a0 = some 0 then F_X0_push n q5 a0 x5 else none).bind fun q6 =>
    (pm_fI [(0, 8)] q6 a0).bind fun v7 =>
    some (v7, q6)
theorem ok_F_X0_feed {d n : Nat} {h : pm_H} {a0 : Nat} {x1 : Int32} {x2 : Int32} {x3 : Int32} {x4 : Int32} {x5 : Int32} {q : Int32 × pm_H} (hF : F_X0_feed n h a0 x1 x2 x3 x4 x5 = some q) : pm_E (d + 1) 0 cX0_feed (some .int) 0 [.ref a0, .int x1, .int x2, .int x3, .int x4, .int x5] [] h (some (.int q.1), q.2) := by
  unfold F_X0_feed at hF
  refine pr_aload_n dX0_feed_0 rfl ?_
  obtain ⟨v1, hv1, hF⟩ := po_b hF
  refine pr_getI dX0_feed_1 tf_0_113 (hv1) ?_
  refine pr_bipush (v := 20) dX0_feed_4 (kb_20) ?_
  refine pr_iadd dX0_feed_6 ?_
  refine pr_sipush (v := 260) dX0_feed_7 (ks_260) ?_
  refine po_i hF (fun hc hF => ?_) (fun hc hF => ?_)
  · refine pr_icF (tgt := 15) dX0_feed_10 (by decide) (pc_leF hc) ?_
    refine pr_iconst (v := (-1)) dX0_feed_13 (kc_m1) ?_
    cases hF
    exact pr_iret dX0_feed_14 rfl rfl rfl
  · refine pr_icT (tgt := 15) dX0_feed_10 (by decide) (pc_leT hc) ?_
    refine pr_aload_n dX0_feed_15 rfl ?_
    refine pr_iload_n dX0_feed_16 rfl ?_
    obtain ⟨q2, hq2, hF⟩ := po_b hF
    refine po_i hq2 (fun hcl hq => ?_) (fun _ hq => nomatch hq)
    refine pr_V (as := [.int x1]) (rest := []) dX0_feed_17 cv_0_116 hcl rfl rfl rfl rfl (lb rfl) (lb rfl) (lb rfl) (ok_F_X0_push hq) ?_
    refine pr_aload_n dX0_feed_20 rfl ?_
    refine pr_iload_n dX0_feed_21 rfl ?_
    obtain ⟨q3, hq3, hF⟩ := po_b hF
    refine po_i hq3 (fun hcl hq => ?_) (fun _ hq => nomatch hq)
    refine pr_V (as := [.int x2]) (rest := []) dX0_feed_22 cv_0_116 hcl rfl rfl rfl rfl (lb rfl) (lb rfl) (lb rfl) (ok_F_X0_push hq) ?_
    refine pr_aload_n dX0_feed_25 rfl ?_
    refine pr_iload_n dX0_feed_26 rfl ?_
    obtain ⟨q4, hq4, hF⟩ := po_b hF
    refine po_i hq4 (fun hcl hq => ?_) (fun _ hq => nomatch hq)
    refine pr_V (as := [.int x3]) (rest := []) dX0_feed_27 cv_0_116 hcl rfl rfl rfl rfl (lb rfl) (lb rfl) (lb rfl) (ok_F_X0_push hq) ?_
    refine pr_aload_n dX0_feed_30 rfl ?_
    refine pr_iload dX0_feed_31 rfl ?_
    obtain ⟨q5, hq5, hF⟩ := po_b hF
    refine po_i hq5 (fun hcl hq => ?_) (fun _ hq => nomatch hq)
    refine pr_V (as := [.int x4]) (rest := []) dX0_feed_33 cv_0_116 hcl rfl rfl rfl rfl (lb rfl) (lb rfl) (lb rfl) (ok_F_X0_push hq) ?_
    refine pr_aload_n dX0_feed_36 rfl ?_
    refine pr_iload dX0_feed_37 rfl ?_
    obtain ⟨q6, hq6, hF⟩ := po_b hF
    refine po_i hq6 (fun hcl hq => ?_) (fun _ hq => nomatch hq)
    refine pr_V (as := [.int x5]) (rest := []) dX0_feed_39 cv_0_116 hcl rfl rfl rfl rfl (lb rfl) (lb rfl) (lb rfl) (ok_F_X0_push hq) ?_
    refine pr_aload_n dX0_feed_42 rfl ?_
    obtain ⟨v7, hv7, hF⟩ := po_b hF
    refine pr_getI dX0_feed_43 tf_0_113 (hv7) ?_
    cases hF
    exact pr_iret dX0_feed_46 rfl rfl rfl

def F_X0_within (x0 : Int32) (x1 : Int32) (x2 : Int32) : Option (Int32) :=
  if x0 < x1 then
    some 0
  else
  if x2 < x0 then
    some 0
  else
    some 1
theorem ok_F_X0_within {d : Nat} {h : pm_H} {x0 : Int32} {x1 : Int32} {x2 : Int32} {q : Int32} (hF : F_X0_within x0 x1 x2 = some q) : pm_E (d + 0) 0 cX0_within (some .boolean) 0 [.int x0, .int x1, .int x2] [] h (some (.int q), h) := by
  unfold F_X0_within at hF
  refine pr_iload_n dX0_within_0 rfl ?_
  refine pr_iload_n dX0_within_1 rfl ?_
  refine po_i hF (fun hc hF => ?_) (fun hc hF => ?_)
  · refine pr_icT (tgt := 14) dX0_within_2 (by decide) (pc_ltT hc) ?_
    refine pr_iconst (v := 0) dX0_within_14 (kc_0) ?_
    cases hF
    exact pr_iret dX0_within_15 rfl nb_0 rfl
  · refine pr_icF (tgt := 14) dX0_within_2 (by decide) (pc_ltF hc) ?_
    refine pr_iload_n dX0_within_5 rfl ?_
    refine pr_iload_n dX0_within_6 rfl ?_
    refine po_i hF (fun hc hF => ?_) (fun hc hF => ?_)
    · refine pr_icT (tgt := 14) dX0_within_7 (by decide) (pc_gtT hc) ?_
      refine pr_iconst (v := 0) dX0_within_14 (kc_0) ?_
      cases hF
      exact pr_iret dX0_within_15 rfl nb_0 rfl
    · refine pr_icF (tgt := 14) dX0_within_7 (by decide) (pc_gtF hc) ?_
      refine pr_iconst (v := 1) dX0_within_10 (kc_1) ?_
      refine pr_goto (tgt := 15) dX0_within_11 (by decide) ?_
      cases hF
      exact pr_iret dX0_within_15 rfl nb_1 rfl

def F_X7_init (h : pm_H) (a0 : Nat) (a1 : Nat) (x2 : Int32) : Option (pm_H) :=
  (pm_put [(6, 6, 2)] h a0 (.ref a1)).bind fun h1 =>
  (F_X5_init (pm_nw h1 4) h1.2.1).bind fun q2 =>
  (pm_put [(6, 1, 2)] q2 a0 (.ref h1.2.1)).bind fun h3 =>
  (pm_put [(6, 0, 0)] h3 a0 (.int x2)).bind fun h4 =>
  some h4
theorem ok_F_X7_init {d : Nat} {h : pm_H} {a0 : Nat} {a1 : Nat} {x2 : Int32} {q : pm_H} (hF : F_X7_init h a0 a1 x2 = some q) : pm_E (d + 1) 57 cX7_init (none) 0 [.ref a0, .ref a1, .int x2] [] h (none, q) := by
  unfold F_X7_init at hF
  refine pr_aload_n dX7_init_0 rfl ?_
  refine pr_aload_n dX7_init_1 rfl ?_
  obtain ⟨h1, hh1, hF⟩ := po_b hF
  refine pr_put dX7_init_2 tp_57_3 (hh1) ?_
  refine pr_aload_n dX7_init_5 rfl ?_
  refine pr_objI dX7_init_6 rfl rfl (lb rfl) ?_
  refine pr_aload_n dX7_init_9 rfl ?_
  refine pr_new (c := 4) dX7_init_10 rfl ?_
  refine pr_dup dX7_init_13 rfl ?_
  obtain ⟨q2, hq2, hF⟩ := po_b hF
  refine pr_I dX7_init_14 ci_57_17 (as := []) (rest := [.ref h1.2.1, .ref a0]) rfl rfl rfl (lb rfl) (lb rfl) (lb rfl) (ok_F_X5_init hq2) ?_
  obtain ⟨h3, hh3, hF⟩ := po_b hF
  refine pr_put dX7_init_17 tp_57_18 (hh3) ?_
  refine pr_aload_n dX7_init_20 rfl ?_
  refine pr_iload_n dX7_init_21 rfl ?_
  obtain ⟨h4, hh4, hF⟩ := po_b hF
  refine pr_put dX7_init_22 tp_57_22 (hh4) ?_
  cases hF
  exact pr_vret dX7_init_25 rfl rfl

def F_X7_clause (n : Nat) (h : pm_H) (a0 : Nat) : Option (pm_H) :=
  (if pm_cl_ h a0 = some 6 then F_X7_here h a0 else none).bind fun q1 =>
  ((
    if q1 = 0 then
      (pm_fI [(6, 2)] h a0).bind fun v2 =>
      (if pm_cl_ h a0 = some 6 then F_X7_bad h a0 1 v2 else none).bind fun q3 =>
      some q3
    else
      (if pm_cl_ h 2 = some 30 then F_J0_indexOf n h 2 q1 else none).bind fun q4 =>
      if q4 < 0 then
        (pm_fI [(6, 2)] h a0).bind fun v9 =>
        (if pm_cl_ h a0 = some 6 then F_X7_bad h a0 1 v9 else none).bind fun q10 =>
        some q10
      else
        (pm_fR [(6, 1)] h a0).bind fun v5 =>
        (pm_fI [(4, 3)] h v5).bind fun v6 =>
        if v6 = 16 then
          (pm_fI [(6, 2)] h a0).bind fun v7 =>
          (if pm_cl_ h a0 = some 6 then F_X7_bad h a0 4 v7 else none).bind fun q8 =>
          some q8
        else
          some h
  ) : Option (pm_H)).bind fun q11 =>
  (if pm_cl_ q11 a0 = some 6 then F_X7_isGood q11 a0 else none).bind fun q12 =>
  if q12 = 0 then
    some q11
  else
    (pm_fI [(6, 2)] q11 a0).bind fun v13 =>
    (pm_put [(6, 2, 0)] q11 a0 (.int (v13 + 1))).bind fun h14 =>
    (pm_put [(6, 3, 0)] h14 a0 (.int 0)).bind fun h15 =>
    ((
      if q1 = 120 then
        some (none, h15)
      else
        (if pm_cl_ h15 a0 = some 6 then G_X7_sum n h15 a0 else none).bind fun q16 =>
        some (q16.1, q16.2)
    ) : Option ((Option Nat) × pm_H)).bind fun q17 =>
    (if pm_cl_ q17.2 a0 = some 6 then F_X7_isGood q17.2 a0 else none).bind fun q18 =>
    ((
      if q18 = 0 then
        some q17.2
      else
        (if pm_cl_ q17.2 a0 = some 6 then F_X7_here q17.2 a0 else none).bind fun q19 =>
        if q19 = 40 then
          some q17.2
        else
          (pm_fI [(6, 2)] q17.2 a0).bind fun v20 =>
          (if pm_cl_ q17.2 a0 = some 6 then F_X7_bad q17.2 a0 1 v20 else none).bind fun q21 =>
          some q21
    ) : Option (pm_H)).bind fun q22 =>
    (if pm_cl_ q22 a0 = some 6 then F_X7_isGood q22 a0 else none).bind fun q23 =>
    ((
      if q23 = 0 then
        some (none, q22)
      else
        (if pm_cl_ q22 a0 = some 6 then G_X7_condition n q22 a0 else none).bind fun q24 =>
        some (q24.1, q24.2)
    ) : Option ((Option Nat) × pm_H)).bind fun q25 =>
    (pm_fR [(6, 1)] q25.2 a0).bind fun v26 =>
    (pm_fR [(4, 0)] q25.2 v26).bind fun v27 =>
    (pm_fR [(6, 1)] q25.2 a0).bind fun v28 =>
    (pm_fI [(4, 3)] q25.2 v28).bind fun v29 =>
    (pm_si 0 q25.2 v27 v29 q1).bind fun h30 =>
    (pm_fR [(6, 1)] h30 a0).bind fun v31 =>
    (pm_fR [(4, 1)] h30 v31).bind fun v32 =>
    (pm_fR [(6, 1)] h30 a0).bind fun v33 =>
    (pm_fI [(4, 3)] h30 v33).bind fun v34 =>
    (pm_sq h30 v32 v34 (va_rf q17.1)).bind fun h35 =>
    (pm_fR [(6, 1)] h35 a0).bind fun v36 =>
    (pm_fR [(4, 2)] h35 v36).bind fun v37 =>
    (pm_fR [(6, 1)] h35 a0).bind fun v38 =>
    (pm_fI [(4, 3)] h35 v38).bind fun v39 =>
    (pm_sq h35 v37 v39 (va_rf q25.1)).bind fun h40 =>
    (pm_fR [(6, 1)] h40 a0).bind fun v41 =>
    (pm_fI [(4, 3)] h40 v41).bind fun v42 =>
    (pm_put [(4, 3, 0)] h40 v41 (.int (v42 + 1))).bind fun h43 =>
    some h43
theorem ok_F_X7_clause {d n : Nat} {h : pm_H} {a0 : Nat} {q : pm_H} (hF : F_X7_clause n h a0 = some q) : pm_E (d + 614) 7 cX7_clause (none) 0 [.ref a0, pm_D, pm_D, pm_D] [] h (none, q) := by
  unfold F_X7_clause at hF
  refine pr_aload_n dX7_clause_0 rfl ?_
  obtain ⟨q1, hq1, hF⟩ := po_b hF
  refine po_i hq1 (fun hcl hq => ?_) (fun _ hq => nomatch hq)
  refine pr_V (as := []) (rest := []) dX7_clause_1 cv_7_39 hcl rfl rfl rfl rfl (lb rfl) (lb rfl) (lb rfl) (ok_F_X7_here hq) ?_
  refine pr_istore_n (L' := [.ref a0, .int q1, pm_D, pm_D]) dX7_clause_4 rfl ?_
  refine pr_iload_n dX7_clause_5 rfl ?_
  obtain ⟨q11, hq11, hF⟩ := po_b hF
  have J51 : pm_E (d + 614) 7 cX7_clause (none) 51 [.ref a0, .int q1, pm_D, pm_D] [] q11 (none, q) := by
    refine pr_aload_n dX7_clause_51 rfl ?_
    obtain ⟨q12, hq12, hF⟩ := po_b hF
    refine po_i hq12 (fun hcl hq => ?_) (fun _ hq => nomatch hq)
    refine pr_V (as := []) (rest := []) dX7_clause_52 cv_7_43 hcl rfl rfl rfl rfl (lb rfl) (lb rfl) (lb rfl) (ok_F_X7_isGood hq) ?_
    refine po_i hF (fun hc hF => ?_) (fun hc hF => ?_)
    · refine pr_ifF (tgt := 59) dX7_clause_55 (by decide) (pc_neF hc) ?_
      cases hF
      exact pr_vret dX7_clause_58 rfl rfl
    · refine pr_ifT (tgt := 59) dX7_clause_55 (by decide) (pc_neT hc) ?_
      refine pr_aload_n dX7_clause_59 rfl ?_
      refine pr_dup dX7_clause_60 rfl ?_
      obtain ⟨v13, hv13, hF⟩ := po_b hF
      refine pr_getI dX7_clause_61 tf_7_26 (hv13) ?_
      refine pr_iconst (v := 1) dX7_clause_64 (kc_1) ?_
      refine pr_iadd dX7_clause_65 ?_
      obtain ⟨h14, hh14, hF⟩ := po_b hF
      refine pr_put dX7_clause_66 tp_7_26 (hh14) ?_
      refine pr_aload_n dX7_clause_69 rfl ?_
      refine pr_iconst (v := 0) dX7_clause_70 (kc_0) ?_
      obtain ⟨h15, hh15, hF⟩ := po_b hF
      refine pr_put dX7_clause_71 tp_7_54 (hh15) ?_
      refine pr_iload_n dX7_clause_74 rfl ?_
      refine pr_bipush (v := 120) dX7_clause_75 (kb_120) ?_
      obtain ⟨q17, hq17, hF⟩ := po_b hF
      have J88 : pm_E (d + 614) 7 cX7_clause (none) 88 [.ref a0, .int q1, pm_D, pm_D] [va_rf q17.1] q17.2 (none, q) := by
        refine pr_astore_n (L' := [.ref a0, .int q1, va_rf q17.1, pm_D]) dX7_clause_88 (pv_f _) rfl ?_
        refine pr_aload_n dX7_clause_89 rfl ?_
        obtain ⟨q18, hq18, hF⟩ := po_b hF
        refine po_i hq18 (fun hcl hq => ?_) (fun _ hq => nomatch hq)
        refine pr_V (as := []) (rest := []) dX7_clause_90 cv_7_43 hcl rfl rfl rfl rfl (lb rfl) (lb rfl) (lb rfl) (ok_F_X7_isGood hq) ?_
        obtain ⟨q22, hq22, hF⟩ := po_b hF
        have J114 : pm_E (d + 614) 7 cX7_clause (none) 114 [.ref a0, .int q1, va_rf q17.1, pm_D] [] q22 (none, q) := by
          refine pr_aload_n dX7_clause_114 rfl ?_
          obtain ⟨q23, hq23, hF⟩ := po_b hF
          refine po_i hq23 (fun hcl hq => ?_) (fun _ hq => nomatch hq)
          refine pr_V (as := []) (rest := []) dX7_clause_115 cv_7_43 hcl rfl rfl rfl rfl (lb rfl) (lb rfl) (lb rfl) (ok_F_X7_isGood hq) ?_
          obtain ⟨q25, hq25, hF⟩ := po_b hF
          have J129 : pm_E (d + 614) 7 cX7_clause (none) 129 [.ref a0, .int q1, va_rf q17.1, pm_D] [va_rf q25.1] q25.2 (none, q) := by
            refine pr_astore_n (L' := [.ref a0, .int q1, va_rf q17.1, va_rf q25.1]) dX7_clause_129 (pv_f _) (pm_st_w (i := 2) rfl rfl (pv_nl _) rfl) ?_
            refine pr_aload_n dX7_clause_130 rfl ?_
            obtain ⟨v26, hv26, hF⟩ := po_b hF
            refine pr_getR dX7_clause_131 tf_7_18 (hv26) ?_
            obtain ⟨v27, hv27, hF⟩ := po_b hF
            refine pr_getR dX7_clause_134 tf_7_134 (hv27) ?_
            refine pr_aload_n dX7_clause_137 rfl ?_
            obtain ⟨v28, hv28, hF⟩ := po_b hF
            refine pr_getR dX7_clause_138 tf_7_18 (hv28) ?_
            obtain ⟨v29, hv29, hF⟩ := po_b hF
            refine pr_getI dX7_clause_141 tf_7_131 (hv29) ?_
            refine pr_iload_n dX7_clause_144 rfl ?_
            obtain ⟨h30, hh30, hF⟩ := po_b hF
            refine pr_iast dX7_clause_145 (hh30) ?_
            refine pr_aload_n dX7_clause_146 rfl ?_
            obtain ⟨v31, hv31, hF⟩ := po_b hF
            refine pr_getR dX7_clause_147 tf_7_18 (hv31) ?_
            obtain ⟨v32, hv32, hF⟩ := po_b hF
            refine pr_getR dX7_clause_150 tf_7_138 (hv32) ?_
            refine pr_aload_n dX7_clause_153 rfl ?_
            obtain ⟨v33, hv33, hF⟩ := po_b hF
            refine pr_getR dX7_clause_154 tf_7_18 (hv33) ?_
            obtain ⟨v34, hv34, hF⟩ := po_b hF
            refine pr_getI dX7_clause_157 tf_7_131 (hv34) ?_
            refine pr_aload_n (x := va_rf q17.1) dX7_clause_160 (pv_la rfl) ?_
            obtain ⟨h35, hh35, hF⟩ := po_b hF
            refine pr_aast dX7_clause_161 (hh35) ?_
            refine pr_aload_n dX7_clause_162 rfl ?_
            obtain ⟨v36, hv36, hF⟩ := po_b hF
            refine pr_getR dX7_clause_163 tf_7_18 (hv36) ?_
            obtain ⟨v37, hv37, hF⟩ := po_b hF
            refine pr_getR dX7_clause_166 tf_7_142 (hv37) ?_
            refine pr_aload_n dX7_clause_169 rfl ?_
            obtain ⟨v38, hv38, hF⟩ := po_b hF
            refine pr_getR dX7_clause_170 tf_7_18 (hv38) ?_
            obtain ⟨v39, hv39, hF⟩ := po_b hF
            refine pr_getI dX7_clause_173 tf_7_131 (hv39) ?_
            refine pr_aload_n (x := va_rf q25.1) dX7_clause_176 (pv_la rfl) ?_
            obtain ⟨h40, hh40, hF⟩ := po_b hF
            refine pr_aast dX7_clause_177 (hh40) ?_
            refine pr_aload_n dX7_clause_178 rfl ?_
            obtain ⟨v41, hv41, hF⟩ := po_b hF
            refine pr_getR dX7_clause_179 tf_7_18 (hv41) ?_
            refine pr_dup dX7_clause_182 rfl ?_
            obtain ⟨v42, hv42, hF⟩ := po_b hF
            refine pr_getI dX7_clause_183 tf_7_131 (hv42) ?_
            refine pr_iconst (v := 1) dX7_clause_186 (kc_1) ?_
            refine pr_iadd dX7_clause_187 ?_
            obtain ⟨h43, hh43, hF⟩ := po_b hF
            refine pr_put dX7_clause_188 tp_7_131 (hh43) ?_
            cases hF
            exact pr_vret dX7_clause_191 rfl rfl
          clear hF
          have hF := hq25
          refine po_i hF (fun hc hF => ?_) (fun hc hF => ?_)
          · refine pr_ifT (tgt := 128) dX7_clause_118 (by decide) (pc_eqT hc) ?_
            refine pr_null dX7_clause_128 ?_
            cases hF
            exact J129
          · refine pr_ifF (tgt := 128) dX7_clause_118 (by decide) (pc_eqF hc) ?_
            refine pr_aload_n dX7_clause_121 rfl ?_
            obtain ⟨q24, hq24, hF⟩ := po_b hF
            refine po_i hq24 (fun hcl hq => ?_) (fun _ hq => nomatch hq)
            refine pr_V (as := []) (rest := []) dX7_clause_122 cv_7_110 hcl rfl rfl rfl rfl (lb rfl) (lb rfl) (lb rfl) (ok_G_X7_condition hq) ?_
            refine pr_goto (tgt := 129) dX7_clause_125 (by decide) ?_
            cases hF
            exact J129
        clear hF
        have hF := hq22
        refine po_i hF (fun hc hF => ?_) (fun hc hF => ?_)
        · refine pr_ifT (tgt := 114) dX7_clause_93 (by decide) (pc_eqT hc) ?_
          cases hF
          exact J114
        · refine pr_ifF (tgt := 114) dX7_clause_93 (by decide) (pc_eqF hc) ?_
          refine pr_aload_n dX7_clause_96 rfl ?_
          obtain ⟨q19, hq19, hF⟩ := po_b hF
          refine po_i hq19 (fun hcl hq => ?_) (fun _ hq => nomatch hq)
          refine pr_V (as := []) (rest := []) dX7_clause_97 cv_7_39 hcl rfl rfl rfl rfl (lb rfl) (lb rfl) (lb rfl) (ok_F_X7_here hq) ?_
          refine pr_bipush (v := 40) dX7_clause_100 (kb_40) ?_
          refine po_i hF (fun hc hF => ?_) (fun hc hF => ?_)
          · refine pr_icT (tgt := 114) dX7_clause_102 (by decide) (pc_eqT hc) ?_
            cases hF
            exact J114
          · refine pr_icF (tgt := 114) dX7_clause_102 (by decide) (pc_eqF hc) ?_
            refine pr_aload_n dX7_clause_105 rfl ?_
            refine pr_iconst (v := 1) dX7_clause_106 (kc_1) ?_
            refine pr_aload_n dX7_clause_107 rfl ?_
            obtain ⟨v20, hv20, hF⟩ := po_b hF
            refine pr_getI dX7_clause_108 tf_7_26 (hv20) ?_
            obtain ⟨q21, hq21, hF⟩ := po_b hF
            refine po_i hq21 (fun hcl hq => ?_) (fun _ hq => nomatch hq)
            refine pr_V (as := [.int 1, .int v20]) (rest := []) dX7_clause_111 cv_7_50 hcl rfl rfl rfl rfl (lb rfl) (lb rfl) (lb rfl) (ok_F_X7_bad hq) ?_
            cases hF
            exact J114
      clear hF
      have hF := hq17
      refine po_i hF (fun hc hF => ?_) (fun hc hF => ?_)
      · refine pr_icF (tgt := 84) dX7_clause_77 (by decide) (pc_neF hc) ?_
        refine pr_null dX7_clause_80 ?_
        refine pr_goto (tgt := 88) dX7_clause_81 (by decide) ?_
        cases hF
        exact J88
      · refine pr_icT (tgt := 84) dX7_clause_77 (by decide) (pc_neT hc) ?_
        refine pr_aload_n dX7_clause_84 rfl ?_
        obtain ⟨q16, hq16, hF⟩ := po_b hF
        refine po_i hq16 (fun hcl hq => ?_) (fun _ hq => nomatch hq)
        refine pr_V (as := []) (rest := []) dX7_clause_85 cv_7_60 hcl rfl rfl rfl rfl (lb rfl) (lb rfl) (lb rfl) (ok_G_X7_sum hq) ?_
        cases hF
        exact J88
  clear hF
  have hF := hq11
  refine po_i hF (fun hc hF => ?_) (fun hc hF => ?_)
  · refine pr_ifT (tgt := 18) dX7_clause_6 (by decide) (pc_eqT hc) ?_
    refine pr_aload_n dX7_clause_18 rfl ?_
    refine pr_iconst (v := 1) dX7_clause_19 (kc_1) ?_
    refine pr_aload_n dX7_clause_20 rfl ?_
    obtain ⟨v2, hv2, hF⟩ := po_b hF
    refine pr_getI dX7_clause_21 tf_7_26 (hv2) ?_
    obtain ⟨q3, hq3, hF⟩ := po_b hF
    refine po_i hq3 (fun hcl hq => ?_) (fun _ hq => nomatch hq)
    refine pr_V (as := [.int 1, .int v2]) (rest := []) dX7_clause_24 cv_7_50 hcl rfl rfl rfl rfl (lb rfl) (lb rfl) (lb rfl) (ok_F_X7_bad hq) ?_
    refine pr_goto (tgt := 51) dX7_clause_27 (by decide) ?_
    cases hF
    exact J51
  · refine pr_ifF (tgt := 18) dX7_clause_6 (by decide) (pc_eqF hc) ?_
    refine pr_ldcr (v := 2) dX7_clause_9 rfl rfl ?_
    refine pr_iload_n dX7_clause_11 rfl ?_
    obtain ⟨q4, hq4, hF⟩ := po_b hF
    refine po_i hq4 (fun hcl hq => ?_) (fun _ hq => nomatch hq)
    refine pr_V (as := [.int q1]) (rest := []) dX7_clause_12 cv_7_77 hcl rfl rfl rfl rfl (lb rfl) (lb rfl) (lb rfl) (ok_F_J0_indexOf hq) ?_
    refine po_i hF (fun hc hF => ?_) (fun hc hF => ?_)
    · refine pr_ifF (tgt := 30) dX7_clause_15 (by decide) (pc_geF hc) ?_
      refine pr_aload_n dX7_clause_18 rfl ?_
      refine pr_iconst (v := 1) dX7_clause_19 (kc_1) ?_
      refine pr_aload_n dX7_clause_20 rfl ?_
      obtain ⟨v9, hv9, hF⟩ := po_b hF
      refine pr_getI dX7_clause_21 tf_7_26 (hv9) ?_
      obtain ⟨q10, hq10, hF⟩ := po_b hF
      refine po_i hq10 (fun hcl hq => ?_) (fun _ hq => nomatch hq)
      refine pr_V (as := [.int 1, .int v9]) (rest := []) dX7_clause_24 cv_7_50 hcl rfl rfl rfl rfl (lb rfl) (lb rfl) (lb rfl) (ok_F_X7_bad hq) ?_
      refine pr_goto (tgt := 51) dX7_clause_27 (by decide) ?_
      cases hF
      exact J51
    · refine pr_ifT (tgt := 30) dX7_clause_15 (by decide) (pc_geT hc) ?_
      refine pr_aload_n dX7_clause_30 rfl ?_
      obtain ⟨v5, hv5, hF⟩ := po_b hF
      refine pr_getR dX7_clause_31 tf_7_18 (hv5) ?_
      obtain ⟨v6, hv6, hF⟩ := po_b hF
      refine pr_getI dX7_clause_34 tf_7_131 (hv6) ?_
      refine pr_bipush (v := 16) dX7_clause_37 (kb_16) ?_
      refine po_i hF (fun hc hF => ?_) (fun hc hF => ?_)
      · refine pr_icF (tgt := 51) dX7_clause_39 (by decide) (pc_neF hc) ?_
        refine pr_aload_n dX7_clause_42 rfl ?_
        refine pr_iconst (v := 4) dX7_clause_43 (kc_4) ?_
        refine pr_aload_n dX7_clause_44 rfl ?_
        obtain ⟨v7, hv7, hF⟩ := po_b hF
        refine pr_getI dX7_clause_45 tf_7_26 (hv7) ?_
        obtain ⟨q8, hq8, hF⟩ := po_b hF
        refine po_i hq8 (fun hcl hq => ?_) (fun _ hq => nomatch hq)
        refine pr_V (as := [.int 4, .int v7]) (rest := []) dX7_clause_48 cv_7_50 hcl rfl rfl rfl rfl (lb rfl) (lb rfl) (lb rfl) (ok_F_X7_bad hq) ?_
        cases hF
        exact J51
      · refine pr_icT (tgt := 51) dX7_clause_39 (by decide) (pc_neT hc) ?_
        cases hF
        exact J51

def L_X7_read_2 : Nat → Nat → Int32 → pm_H → Option (pm_H)
  | 0, _, _, _ => none
  | n + 1, x0, x1, h =>
    if x1 = 0 then
      some h
    else
      (if pm_cl_ h x0 = some 6 then F_X7_isGood h x0 else none).bind fun q1 =>
      if q1 = 0 then
        some h
      else
        (if pm_cl_ h x0 = some 6 then F_X7_clause n h x0 else none).bind fun q2 =>
        (if pm_cl_ q2 x0 = some 6 then F_X7_isGood q2 x0 else none).bind fun q3 =>
        ((
          if q3 = 0 then
            some 0
          else
            (pm_fI [(6, 2)] q2 x0).bind fun v4 =>
            (pm_fI [(6, 0)] q2 x0).bind fun v5 =>
            if v4 < v5 then
              some 1
            else
              some 0
        ) : Option (Int32)).bind fun q6 =>
        if q6 = 0 then
          L_X7_read_2 n x0 q6 q2
        else
          (if pm_cl_ q2 x0 = some 6 then F_X7_must q2 x0 59 else none).bind fun q7 =>
          L_X7_read_2 n x0 q6 q7
theorem ok_L_X7_read_2 {d : Nat} : ∀ (n : Nat) {x0 : Nat} {x1 : Int32} {h : pm_H} {q : pm_H} {res : Option Value × pm_H}, L_X7_read_2 n x0 x1 h = some q → (∀ z1 : Value, pm_nolong z1 = true → pm_E (d + 615) 7 cX7_read (some .int) 54 [.ref x0, z1] [] q res) → pm_E (d + 615) 7 cX7_read (some .int) 2 [.ref x0, .int x1] [] h res := by
  intro n
  induction n with
  | zero =>
    intro x0 x1 h q res hF hk
    rw [L_X7_read_2] at hF
    cases hF
  | succ n ih =>
    intro x0 x1 h q res hF hk
    rw [L_X7_read_2] at hF
    refine pr_iload_n dX7_read_2 rfl ?_
    refine po_i hF (fun hc hF => ?_) (fun hc hF => ?_)
    · refine pr_ifT (tgt := 54) dX7_read_3 (by decide) (pc_eqT hc) ?_
      cases hF
      exact hk _ rfl
    · refine pr_ifF (tgt := 54) dX7_read_3 (by decide) (pc_eqF hc) ?_
      refine pr_aload_n dX7_read_6 rfl ?_
      obtain ⟨q1, hq1, hF⟩ := po_b hF
      refine po_i hq1 (fun hcl hq => ?_) (fun _ hq => nomatch hq)
      refine pr_V (as := []) (rest := []) dX7_read_7 cv_7_43 hcl rfl rfl rfl rfl (lb rfl) (lb rfl) (lb rfl) (ok_F_X7_isGood hq) ?_
      refine po_i hF (fun hc hF => ?_) (fun hc hF => ?_)
      · refine pr_ifT (tgt := 54) dX7_read_10 (by decide) (pc_eqT hc) ?_
        cases hF
        exact hk _ rfl
      · refine pr_ifF (tgt := 54) dX7_read_10 (by decide) (pc_eqF hc) ?_
        refine pr_aload_n dX7_read_13 rfl ?_
        obtain ⟨q2, hq2, hF⟩ := po_b hF
        refine po_i hq2 (fun hcl hq => ?_) (fun _ hq => nomatch hq)
        refine pr_V (as := []) (rest := []) dX7_read_14 cv_7_146 hcl rfl rfl rfl rfl (lb rfl) (lb rfl) (lb rfl) (ok_F_X7_clause hq) ?_
        refine pr_aload_n dX7_read_17 rfl ?_
        obtain ⟨q3, hq3, hF⟩ := po_b hF
        refine po_i hq3 (fun hcl hq => ?_) (fun _ hq => nomatch hq)
        refine pr_V (as := []) (rest := []) dX7_read_18 cv_7_43 hcl rfl rfl rfl rfl (lb rfl) (lb rfl) (lb rfl) (ok_F_X7_isGood hq) ?_
        obtain ⟨q6, hq6, hF⟩ := po_b hF
        have J40 : pm_E (d + 615) 7 cX7_read (some .int) 40 [.ref x0, .int x1] [.int q6] q2 res := by
          refine pr_istore_n (L' := [.ref x0, .int q6]) dX7_read_40 rfl ?_
          refine pr_iload_n dX7_read_41 rfl ?_
          refine po_i hF (fun hc hF => ?_) (fun hc hF => ?_)
          · refine pr_ifT (tgt := 2) dX7_read_42 (by decide) (pc_eqT hc) ?_
            exact ih hF hk
          · refine pr_ifF (tgt := 2) dX7_read_42 (by decide) (pc_eqF hc) ?_
            refine pr_aload_n dX7_read_45 rfl ?_
            refine pr_bipush (v := 59) dX7_read_46 (kb_59) ?_
            obtain ⟨q7, hq7, hF⟩ := po_b hF
            refine po_i hq7 (fun hcl hq => ?_) (fun _ hq => nomatch hq)
            refine pr_V (as := [.int 59]) (rest := []) dX7_read_48 cv_7_64 hcl rfl rfl rfl rfl (lb rfl) (lb rfl) (lb rfl) (ok_F_X7_must hq) ?_
            refine pr_goto (tgt := 2) dX7_read_51 (by decide) ?_
            exact ih hF hk
        clear hF
        have hF := hq6
        refine po_i hF (fun hc hF => ?_) (fun hc hF => ?_)
        · refine pr_ifT (tgt := 39) dX7_read_21 (by decide) (pc_eqT hc) ?_
          refine pr_iconst (v := 0) dX7_read_39 (kc_0) ?_
          cases hF
          exact J40
        · refine pr_ifF (tgt := 39) dX7_read_21 (by decide) (pc_eqF hc) ?_
          refine pr_aload_n dX7_read_24 rfl ?_
          obtain ⟨v4, hv4, hF⟩ := po_b hF
          refine pr_getI dX7_read_25 tf_7_26 (hv4) ?_
          refine pr_aload_n dX7_read_28 rfl ?_
          obtain ⟨v5, hv5, hF⟩ := po_b hF
          refine pr_getI dX7_read_29 tf_7_22 (hv5) ?_
          refine po_i hF (fun hc hF => ?_) (fun hc hF => ?_)
          · refine pr_icF (tgt := 39) dX7_read_32 (by decide) (pc_geF hc) ?_
            refine pr_iconst (v := 1) dX7_read_35 (kc_1) ?_
            refine pr_goto (tgt := 40) dX7_read_36 (by decide) ?_
            cases hF
            exact J40
          · refine pr_icT (tgt := 39) dX7_read_32 (by decide) (pc_geT hc) ?_
            refine pr_iconst (v := 0) dX7_read_39 (kc_0) ?_
            cases hF
            exact J40
def F_X7_read (n : Nat) (h : pm_H) (a0 : Nat) : Option (Int32 × pm_H) :=
  (L_X7_read_2 n a0 1 h).bind fun q8 =>
  (if pm_cl_ q8 a0 = some 6 then F_X7_isGood q8 a0 else none).bind fun q9 =>
  if q9 = 0 then
    (pm_fI [(6, 4)] q8 a0).bind fun v10 =>
    (pm_fI [(6, 5)] q8 a0).bind fun v11 =>
    some (((-1000) * v10) - v11, q8)
  else
    (pm_fR [(6, 1)] q8 a0).bind fun v12 =>
    (pm_fI [(4, 3)] q8 v12).bind fun v13 =>
    some (v13, q8)
theorem ok_F_X7_read {d n : Nat} {h : pm_H} {a0 : Nat} {q : Int32 × pm_H} (hF : F_X7_read n h a0 = some q) : pm_E (d + 615) 7 cX7_read (some .int) 0 [.ref a0, pm_D] [] h (some (.int q.1), q.2) := by
  unfold F_X7_read at hF
  refine pr_iconst (v := 1) dX7_read_0 (kc_1) ?_
  refine pr_istore_n (L' := [.ref a0, .int 1]) dX7_read_1 rfl ?_
  obtain ⟨q8, hq8, hF⟩ := po_b hF
  refine ok_L_X7_read_2 n hq8 (fun z1 hz1 => ?_)
  refine pr_aload_n dX7_read_54 rfl ?_
  obtain ⟨q9, hq9, hF⟩ := po_b hF
  refine po_i hq9 (fun hcl hq => ?_) (fun _ hq => nomatch hq)
  refine pr_V (as := []) (rest := []) dX7_read_55 cv_7_43 hcl rfl rfl rfl rfl (lb rfl) (lb rfl) (lb rfl) (ok_F_X7_isGood hq) ?_
  refine po_i hF (fun hc hF => ?_) (fun hc hF => ?_)
  · refine pr_ifT (tgt := 71) dX7_read_58 (by decide) (pc_eqT hc) ?_
    refine pr_sipush (v := (-1000)) dX7_read_71 (ks_m1000) ?_
    refine pr_aload_n dX7_read_74 rfl ?_
    obtain ⟨v10, hv10, hF⟩ := po_b hF
    refine pr_getI dX7_read_75 tf_7_33 (hv10) ?_
    refine pr_imul dX7_read_78 ?_
    refine pr_aload_n dX7_read_79 rfl ?_
    obtain ⟨v11, hv11, hF⟩ := po_b hF
    refine pr_getI dX7_read_80 tf_7_36 (hv11) ?_
    refine pr_isub dX7_read_83 ?_
    cases hF
    exact pr_iret dX7_read_84 rfl rfl rfl
  · refine pr_ifF (tgt := 71) dX7_read_58 (by decide) (pc_eqF hc) ?_
    refine pr_aload_n dX7_read_61 rfl ?_
    obtain ⟨v12, hv12, hF⟩ := po_b hF
    refine pr_getR dX7_read_62 tf_7_18 (hv12) ?_
    obtain ⟨v13, hv13, hF⟩ := po_b hF
    refine pr_getI dX7_read_65 tf_7_131 (hv13) ?_
    refine pr_goto (tgt := 84) dX7_read_68 (by decide) ?_
    cases hF
    exact pr_iret dX7_read_84 rfl rfl rfl

def F_X0_law (n : Nat) (h : pm_H) (a0 : Nat) (x1 : Int32) : Option (Int32 × pm_H) :=
  (F_X0_within x1 1 240).bind fun q1 =>
  if q1 = 0 then
    some ((-1), h)
  else
    (pm_fI [(0, 8)] h a0).bind fun v2 =>
    if v2 < x1 then
      some ((-1), h)
    else
      (pm_put [(0, 8, 0)] h a0 (.int 0)).bind fun h3 =>
      (F_X7_init (pm_nw h3 6) h3.2.1 a0 x1).bind fun q4 =>
      (if pm_cl_ q4 h3.2.1 = some 6 then F_X7_read n q4 h3.2.1 else none).bind fun q5 =>
      if q5.1 < 0 then
        some (q5.1, q5.2)
      else
        (pm_fR [(6, 1)] q5.2 h3.2.1).bind fun v6 =>
        (pm_put [(0, 7, 2)] q5.2 a0 (.ref v6)).bind fun h7 =>
        some (q5.1, h7)
theorem ok_F_X0_law {d n : Nat} {h : pm_H} {a0 : Nat} {x1 : Int32} {q : Int32 × pm_H} (hF : F_X0_law n h a0 x1 = some q) : pm_E (d + 616) 0 cX0_law (some .int) 0 [.ref a0, .int x1, pm_D, pm_D] [] h (some (.int q.1), q.2) := by
  unfold F_X0_law at hF
  refine pr_iload_n dX0_law_0 rfl ?_
  refine pr_iconst (v := 1) dX0_law_1 (kc_1) ?_
  refine pr_sipush (v := 240) dX0_law_2 (ks_240) ?_
  obtain ⟨q1, hq1, hF⟩ := po_b hF
  refine pr_S dX0_law_5 cs_0_120 (as := [.int x1, .int 1, .int 240]) (rest := []) rfl rfl rfl (lb rfl) (lb rfl) (lb rfl) (ok_F_X0_within hq1) ?_
  refine po_i hF (fun hc hF => ?_) (fun hc hF => ?_)
  · refine pr_ifT (tgt := 19) dX0_law_8 (by decide) (pc_eqT hc) ?_
    refine pr_iconst (v := (-1)) dX0_law_19 (kc_m1) ?_
    cases hF
    exact pr_iret dX0_law_20 rfl rfl rfl
  · refine pr_ifF (tgt := 19) dX0_law_8 (by decide) (pc_eqF hc) ?_
    refine pr_iload_n dX0_law_11 rfl ?_
    refine pr_aload_n dX0_law_12 rfl ?_
    obtain ⟨v2, hv2, hF⟩ := po_b hF
    refine pr_getI dX0_law_13 tf_0_113 (hv2) ?_
    refine po_i hF (fun hc hF => ?_) (fun hc hF => ?_)
    · refine pr_icF (tgt := 21) dX0_law_16 (by decide) (pc_leF hc) ?_
      refine pr_iconst (v := (-1)) dX0_law_19 (kc_m1) ?_
      cases hF
      exact pr_iret dX0_law_20 rfl rfl rfl
    · refine pr_icT (tgt := 21) dX0_law_16 (by decide) (pc_leT hc) ?_
      refine pr_aload_n dX0_law_21 rfl ?_
      refine pr_iconst (v := 0) dX0_law_22 (kc_0) ?_
      obtain ⟨h3, hh3, hF⟩ := po_b hF
      refine pr_put dX0_law_23 tp_0_113 (hh3) ?_
      refine pr_new (c := 6) dX0_law_26 rfl ?_
      refine pr_dup dX0_law_29 rfl ?_
      refine pr_aload_n dX0_law_30 rfl ?_
      refine pr_iload_n dX0_law_31 rfl ?_
      obtain ⟨q4, hq4, hF⟩ := po_b hF
      refine pr_I dX0_law_32 ci_0_126 (as := [.ref a0, .int x1]) (rest := [.ref h3.2.1]) rfl rfl rfl (lb rfl) (lb rfl) (lb rfl) (ok_F_X7_init hq4) ?_
      refine pr_astore_n (L' := [.ref a0, .int x1, .ref h3.2.1, pm_D]) dX0_law_35 (Or.inr ⟨_, rfl⟩) rfl ?_
      refine pr_aload_n dX0_law_36 rfl ?_
      obtain ⟨q5, hq5, hF⟩ := po_b hF
      refine po_i hq5 (fun hcl hq => ?_) (fun _ hq => nomatch hq)
      refine pr_V (as := []) (rest := []) dX0_law_37 cv_0_129 hcl rfl rfl rfl rfl (lb rfl) (lb rfl) (lb rfl) (ok_F_X7_read hq) ?_
      refine pr_istore_n (L' := [.ref a0, .int x1, .ref h3.2.1, .int q5.1]) dX0_law_40 rfl ?_
      refine pr_iload_n dX0_law_41 rfl ?_
      refine po_i hF (fun hc hF => ?_) (fun hc hF => ?_)
      · refine pr_ifT (tgt := 53) dX0_law_42 (by decide) (pc_ltT hc) ?_
        refine pr_iload_n dX0_law_53 rfl ?_
        cases hF
        exact pr_iret dX0_law_54 rfl rfl rfl
      · refine pr_ifF (tgt := 53) dX0_law_42 (by decide) (pc_ltF hc) ?_
        refine pr_aload_n dX0_law_45 rfl ?_
        refine pr_aload_n dX0_law_46 rfl ?_
        obtain ⟨v6, hv6, hF⟩ := po_b hF
        refine pr_getR dX0_law_47 tf_0_133 (hv6) ?_
        obtain ⟨h7, hh7, hF⟩ := po_b hF
        refine pr_put dX0_law_50 tp_0_28 (hh7) ?_
        refine pr_iload_n dX0_law_53 rfl ?_
        cases hF
        exact pr_iret dX0_law_54 rfl rfl rfl

def F_X16_init (h : pm_H) (a0 : Nat) (a1 : Nat) (x2 : Int32) : Option (pm_H) :=
  (pm_put [(13, 4, 2), (14, 4, 2)] h a0 (.ref a1)).bind fun h1 =>
  (pm_put [(13, 0, 0), (14, 0, 0)] h1 a0 (.int x2)).bind fun h2 =>
  some h2
theorem ok_F_X16_init {d : Nat} {h : pm_H} {a0 : Nat} {a1 : Nat} {x2 : Int32} {q : pm_H} (hF : F_X16_init h a0 a1 x2 = some q) : pm_E (d + 0) 66 cX16_init (none) 0 [.ref a0, .ref a1, .int x2] [] h (none, q) := by
  unfold F_X16_init at hF
  refine pr_aload_n dX16_init_0 rfl ?_
  refine pr_aload_n dX16_init_1 rfl ?_
  obtain ⟨h1, hh1, hF⟩ := po_b hF
  refine pr_put dX16_init_2 tp_66_3 (hh1) ?_
  refine pr_aload_n dX16_init_5 rfl ?_
  refine pr_objI dX16_init_6 rfl rfl (lb rfl) ?_
  refine pr_aload_n dX16_init_9 rfl ?_
  refine pr_iload_n dX16_init_10 rfl ?_
  obtain ⟨h2, hh2, hF⟩ := po_b hF
  refine pr_put dX16_init_11 tp_66_15 (hh2) ?_
  cases hF
  exact pr_vret dX16_init_14 rfl rfl

def L_X1_takes_2 : Nat → Nat → Nat → Int32 → pm_H → Option (pm_H)
  | 0, _, _, _, _ => none
  | n + 1, x0, x1, x2, h =>
    if x2 < 16 then
      (pm_fR [(1, 0)] h x0).bind fun v1 =>
      (pm_fR [(1, 0)] h x1).bind fun v2 =>
      (pm_ai 0 h v2 x2).bind fun v3 =>
      (pm_si 0 h v1 x2 v3).bind fun h4 =>
      (pm_fR [(1, 1)] h4 x0).bind fun v5 =>
      (pm_fR [(1, 1)] h4 x1).bind fun v6 =>
      (pm_ai 0 h4 v6 x2).bind fun v7 =>
      (pm_si 0 h4 v5 x2 v7).bind fun h8 =>
      L_X1_takes_2 n x0 x1 (x2 + 1) h8
    else
      some h
theorem ok_L_X1_takes_2 {d : Nat} : ∀ (n : Nat) {x0 : Nat} {x1 : Nat} {x2 : Int32} {h : pm_H} {q : pm_H} {res : Option Value × pm_H}, L_X1_takes_2 n x0 x1 x2 h = some q → (∀ z2 : Value, pm_nolong z2 = true → pm_E (d + 0) 1 cX1_takes (none) 38 [.ref x0, .ref x1, z2] [] q res) → pm_E (d + 0) 1 cX1_takes (none) 2 [.ref x0, .ref x1, .int x2] [] h res := by
  intro n
  induction n with
  | zero =>
    intro x0 x1 x2 h q res hF hk
    rw [L_X1_takes_2] at hF
    cases hF
  | succ n ih =>
    intro x0 x1 x2 h q res hF hk
    rw [L_X1_takes_2] at hF
    refine pr_iload_n dX1_takes_2 rfl ?_
    refine pr_bipush (v := 16) dX1_takes_3 (kb_16) ?_
    refine po_i hF (fun hc hF => ?_) (fun hc hF => ?_)
    · refine pr_icF (tgt := 38) dX1_takes_5 (by decide) (pc_geF hc) ?_
      refine pr_aload_n dX1_takes_8 rfl ?_
      obtain ⟨v1, hv1, hF⟩ := po_b hF
      refine pr_getR dX1_takes_9 tf_1_9 (hv1) ?_
      refine pr_iload_n dX1_takes_12 rfl ?_
      refine pr_aload_n dX1_takes_13 rfl ?_
      obtain ⟨v2, hv2, hF⟩ := po_b hF
      refine pr_getR dX1_takes_14 tf_1_9 (hv2) ?_
      refine pr_iload_n dX1_takes_17 rfl ?_
      obtain ⟨v3, hv3, hF⟩ := po_b hF
      refine pr_iald dX1_takes_18 (hv3) ?_
      obtain ⟨h4, hh4, hF⟩ := po_b hF
      refine pr_iast dX1_takes_19 (hh4) ?_
      refine pr_aload_n dX1_takes_20 rfl ?_
      obtain ⟨v5, hv5, hF⟩ := po_b hF
      refine pr_getR dX1_takes_21 tf_1_15 (hv5) ?_
      refine pr_iload_n dX1_takes_24 rfl ?_
      refine pr_aload_n dX1_takes_25 rfl ?_
      obtain ⟨v6, hv6, hF⟩ := po_b hF
      refine pr_getR dX1_takes_26 tf_1_15 (hv6) ?_
      refine pr_iload_n dX1_takes_29 rfl ?_
      obtain ⟨v7, hv7, hF⟩ := po_b hF
      refine pr_iald dX1_takes_30 (hv7) ?_
      obtain ⟨h8, hh8, hF⟩ := po_b hF
      refine pr_iast dX1_takes_31 (hh8) ?_
      refine pr_iinc (v := 1) (L' := [.ref x0, .ref x1, .int (x2 + 1)]) dX1_takes_32 rfl (kc_1) rfl ?_
      refine pr_goto (tgt := 2) dX1_takes_35 (by decide) ?_
      exact ih hF hk
    · refine pr_icT (tgt := 38) dX1_takes_5 (by decide) (pc_geT hc) ?_
      cases hF
      exact hk _ rfl
def F_X1_takes (n : Nat) (h : pm_H) (a0 : Nat) (a1 : Nat) : Option (pm_H) :=
  (L_X1_takes_2 n a0 a1 0 h).bind fun q9 =>
  (pm_fI [(1, 2)] q9 a1).bind fun v10 =>
  (pm_put [(1, 2, 0)] q9 a0 (.int v10)).bind fun h11 =>
  (pm_fI [(1, 3)] h11 a1).bind fun v12 =>
  (pm_put [(1, 3, 0)] h11 a0 (.int v12)).bind fun h13 =>
  some h13
theorem ok_F_X1_takes {d n : Nat} {h : pm_H} {a0 : Nat} {a1 : Nat} {q : pm_H} (hF : F_X1_takes n h a0 a1 = some q) : pm_E (d + 0) 1 cX1_takes (none) 0 [.ref a0, .ref a1, pm_D] [] h (none, q) := by
  unfold F_X1_takes at hF
  refine pr_iconst (v := 0) dX1_takes_0 (kc_0) ?_
  refine pr_istore_n (L' := [.ref a0, .ref a1, .int 0]) dX1_takes_1 rfl ?_
  obtain ⟨q9, hq9, hF⟩ := po_b hF
  refine ok_L_X1_takes_2 n hq9 (fun z2 hz2 => ?_)
  refine pr_aload_n dX1_takes_38 rfl ?_
  refine pr_aload_n dX1_takes_39 rfl ?_
  obtain ⟨v10, hv10, hF⟩ := po_b hF
  refine pr_getI dX1_takes_40 tf_1_18 (hv10) ?_
  obtain ⟨h11, hh11, hF⟩ := po_b hF
  refine pr_put dX1_takes_43 tp_1_18 (hh11) ?_
  refine pr_aload_n dX1_takes_46 rfl ?_
  refine pr_aload_n dX1_takes_47 rfl ?_
  obtain ⟨v12, hv12, hF⟩ := po_b hF
  refine pr_getI dX1_takes_48 tf_1_22 (hv12) ?_
  obtain ⟨h13, hh13, hF⟩ := po_b hF
  refine pr_put dX1_takes_51 tp_1_22 (hh13) ?_
  cases hF
  exact pr_vret dX1_takes_54 rfl rfl

def F_X17_init (n : Nat) (h : pm_H) (a0 : Nat) (a1 : Nat) (x2 : Int32) : Option (pm_H) :=
  (pm_put [(13, 6, 2)] h a0 (.ref a1)).bind fun h1 =>
  (F_X16_init h1 a0 a1 x2).bind fun q2 =>
  (pm_fR [(0, 1)] q2 a1).bind fun v3 =>
  (pm_fR [(0, 0)] q2 a1).bind fun v4 =>
  (if pm_cl_ q2 v3 = some 1 then F_X1_takes n q2 v3 v4 else none).bind fun q5 =>
  some q5
theorem ok_F_X17_init {d n : Nat} {h : pm_H} {a0 : Nat} {a1 : Nat} {x2 : Int32} {q : pm_H} (hF : F_X17_init n h a0 a1 x2 = some q) : pm_E (d + 1) 67 cX17_init (none) 0 [.ref a0, .ref a1, .int x2] [] h (none, q) := by
  unfold F_X17_init at hF
  refine pr_aload_n dX17_init_0 rfl ?_
  refine pr_aload_n dX17_init_1 rfl ?_
  obtain ⟨h1, hh1, hF⟩ := po_b hF
  refine pr_put dX17_init_2 tp_67_3 (hh1) ?_
  refine pr_aload_n dX17_init_5 rfl ?_
  refine pr_aload_n dX17_init_6 rfl ?_
  refine pr_iload_n dX17_init_7 rfl ?_
  obtain ⟨q2, hq2, hF⟩ := po_b hF
  refine pr_I dX17_init_8 ci_67_9 (as := [.ref a1, .int x2]) (rest := []) rfl rfl rfl (lb rfl) (lb rfl) (lb rfl) (ok_F_X16_init hq2) ?_
  refine pr_aload_n dX17_init_11 rfl ?_
  obtain ⟨v3, hv3, hF⟩ := po_b hF
  refine pr_getR dX17_init_12 tf_67_15 (hv3) ?_
  refine pr_aload_n dX17_init_15 rfl ?_
  obtain ⟨v4, hv4, hF⟩ := po_b hF
  refine pr_getR dX17_init_16 tf_67_19 (hv4) ?_
  obtain ⟨q5, hq5, hF⟩ := po_b hF
  refine po_i hq5 (fun hcl hq => ?_) (fun _ hq => nomatch hq)
  refine pr_V (as := [.ref v4]) (rest := []) dX17_init_19 cv_67_22 hcl rfl rfl rfl rfl (lb rfl) (lb rfl) (lb rfl) (ok_F_X1_takes hq) ?_
  cases hF
  exact pr_vret dX17_init_22 rfl rfl

def F_X16_place (h : pm_H) (a0 : Nat) : Option (Int32) :=
  (pm_fI [(13, 1), (14, 1)] h a0).bind fun v1 =>
  some v1
theorem ok_F_X16_place {d : Nat} {h : pm_H} {a0 : Nat} {q : Int32} (hF : F_X16_place h a0 = some q) : pm_E (d + 0) 16 cX16_place (some .int) 0 [.ref a0] [] h (some (.int q), h) := by
  unfold F_X16_place at hF
  refine pr_aload_n dX16_place_0 rfl ?_
  obtain ⟨v1, hv1, hF⟩ := po_b hF
  refine pr_getI dX16_place_1 tf_16_19 (hv1) ?_
  cases hF
  exact pr_iret dX16_place_4 rfl rfl rfl

def F_X16_here (h : pm_H) (a0 : Nat) : Option (Int32) :=
  (pm_fI [(13, 1), (14, 1)] h a0).bind fun v1 =>
  (pm_fI [(13, 0), (14, 0)] h a0).bind fun v2 =>
  if v1 < v2 then
    (pm_fR [(13, 4), (14, 4)] h a0).bind fun v3 =>
    (pm_fR [(0, 6)] h v3).bind fun v4 =>
    (pm_fI [(13, 1), (14, 1)] h a0).bind fun v5 =>
    (pm_ai 1 h v4 v5).bind fun v6 =>
    some (v6 &&& 255)
  else
    some 0
theorem ok_F_X16_here {d : Nat} {h : pm_H} {a0 : Nat} {q : Int32} (hF : F_X16_here h a0 = some q) : pm_E (d + 0) 16 cX16_here (some .int) 0 [.ref a0] [] h (some (.int q), h) := by
  unfold F_X16_here at hF
  refine pr_aload_n dX16_here_0 rfl ?_
  obtain ⟨v1, hv1, hF⟩ := po_b hF
  refine pr_getI dX16_here_1 tf_16_19 (hv1) ?_
  refine pr_aload_n dX16_here_4 rfl ?_
  obtain ⟨v2, hv2, hF⟩ := po_b hF
  refine pr_getI dX16_here_5 tf_16_15 (hv2) ?_
  refine po_i hF (fun hc hF => ?_) (fun hc hF => ?_)
  · refine pr_icF (tgt := 30) dX16_here_8 (by decide) (pc_geF hc) ?_
    refine pr_aload_n dX16_here_11 rfl ?_
    obtain ⟨v3, hv3, hF⟩ := po_b hF
    refine pr_getR dX16_here_12 tf_16_3 (hv3) ?_
    obtain ⟨v4, hv4, hF⟩ := po_b hF
    refine pr_getR dX16_here_15 tf_16_22 (hv4) ?_
    refine pr_aload_n dX16_here_18 rfl ?_
    obtain ⟨v5, hv5, hF⟩ := po_b hF
    refine pr_getI dX16_here_19 tf_16_19 (hv5) ?_
    obtain ⟨v6, hv6, hF⟩ := po_b hF
    refine pr_bald dX16_here_22 (hv6) ?_
    refine pr_sipush (v := 255) dX16_here_23 (ks_255) ?_
    refine pr_iand dX16_here_26 ?_
    refine pr_goto (tgt := 31) dX16_here_27 (by decide) ?_
    cases hF
    exact pr_iret dX16_here_31 rfl rfl rfl
  · refine pr_icT (tgt := 30) dX16_here_8 (by decide) (pc_geT hc) ?_
    refine pr_iconst (v := 0) dX16_here_30 (kc_0) ?_
    cases hF
    exact pr_iret dX16_here_31 rfl rfl rfl

def F_X16_isGood (h : pm_H) (a0 : Nat) : Option (Int32) :=
  (pm_fI [(13, 2), (14, 2)] h a0).bind fun v1 =>
  if v1 = 0 then
    some 1
  else
    some 0
theorem ok_F_X16_isGood {d : Nat} {h : pm_H} {a0 : Nat} {q : Int32} (hF : F_X16_isGood h a0 = some q) : pm_E (d + 0) 16 cX16_isGood (some .boolean) 0 [.ref a0] [] h (some (.int q), h) := by
  unfold F_X16_isGood at hF
  refine pr_aload_n dX16_isGood_0 rfl ?_
  obtain ⟨v1, hv1, hF⟩ := po_b hF
  refine pr_getI dX16_isGood_1 tf_16_26 (hv1) ?_
  refine po_i hF (fun hc hF => ?_) (fun hc hF => ?_)
  · refine pr_ifF (tgt := 11) dX16_isGood_4 (by decide) (pc_neF hc) ?_
    refine pr_iconst (v := 1) dX16_isGood_7 (kc_1) ?_
    refine pr_goto (tgt := 12) dX16_isGood_8 (by decide) ?_
    cases hF
    exact pr_iret dX16_isGood_12 rfl nb_1 rfl
  · refine pr_ifT (tgt := 11) dX16_isGood_4 (by decide) (pc_neT hc) ?_
    refine pr_iconst (v := 0) dX16_isGood_11 (kc_0) ?_
    cases hF
    exact pr_iret dX16_isGood_12 rfl nb_0 rfl

def F_X0_in (x0 : Int32) (x1 : Int32) : Option (Int32) :=
  if x0 < 0 then
    some 0
  else
  if x0 < x1 then
    some 1
  else
    some 0
theorem ok_F_X0_in {d : Nat} {h : pm_H} {x0 : Int32} {x1 : Int32} {q : Int32} (hF : F_X0_in x0 x1 = some q) : pm_E (d + 0) 0 cX0_in (some .boolean) 0 [.int x0, .int x1] [] h (some (.int q), h) := by
  unfold F_X0_in at hF
  refine pr_iload_n dX0_in_0 rfl ?_
  refine po_i hF (fun hc hF => ?_) (fun hc hF => ?_)
  · refine pr_ifT (tgt := 13) dX0_in_1 (by decide) (pc_ltT hc) ?_
    refine pr_iconst (v := 0) dX0_in_13 (kc_0) ?_
    cases hF
    exact pr_iret dX0_in_14 rfl nb_0 rfl
  · refine pr_ifF (tgt := 13) dX0_in_1 (by decide) (pc_ltF hc) ?_
    refine pr_iload_n dX0_in_4 rfl ?_
    refine pr_iload_n dX0_in_5 rfl ?_
    refine po_i hF (fun hc hF => ?_) (fun hc hF => ?_)
    · refine pr_icF (tgt := 13) dX0_in_6 (by decide) (pc_geF hc) ?_
      refine pr_iconst (v := 1) dX0_in_9 (kc_1) ?_
      refine pr_goto (tgt := 14) dX0_in_10 (by decide) ?_
      cases hF
      exact pr_iret dX0_in_14 rfl nb_1 rfl
    · refine pr_icT (tgt := 13) dX0_in_6 (by decide) (pc_geT hc) ?_
      refine pr_iconst (v := 0) dX0_in_13 (kc_0) ?_
      cases hF
      exact pr_iret dX0_in_14 rfl nb_0 rfl

def F_X16_bad (h : pm_H) (a0 : Nat) (x1 : Int32) (x2 : Int32) : Option (pm_H) :=
  (pm_fI [(13, 2), (14, 2)] h a0).bind fun v1 =>
  if 0 < v1 then
    some h
  else
    (pm_put [(13, 2, 0), (14, 2, 0)] h a0 (.int x1)).bind fun h2 =>
    (pm_put [(13, 3, 0), (14, 3, 0)] h2 a0 (.int x2)).bind fun h3 =>
    some h3
theorem ok_F_X16_bad {d : Nat} {h : pm_H} {a0 : Nat} {x1 : Int32} {x2 : Int32} {q : pm_H} (hF : F_X16_bad h a0 x1 x2 = some q) : pm_E (d + 0) 16 cX16_bad (none) 0 [.ref a0, .int x1, .int x2] [] h (none, q) := by
  unfold F_X16_bad at hF
  refine pr_aload_n dX16_bad_0 rfl ?_
  obtain ⟨v1, hv1, hF⟩ := po_b hF
  refine pr_getI dX16_bad_1 tf_16_26 (hv1) ?_
  refine po_i hF (fun hc hF => ?_) (fun hc hF => ?_)
  · refine pr_ifF (tgt := 8) dX16_bad_4 (by decide) (pc_leF hc) ?_
    cases hF
    exact pr_vret dX16_bad_7 rfl rfl
  · refine pr_ifT (tgt := 8) dX16_bad_4 (by decide) (pc_leT hc) ?_
    refine pr_aload_n dX16_bad_8 rfl ?_
    refine pr_iload_n dX16_bad_9 rfl ?_
    obtain ⟨h2, hh2, hF⟩ := po_b hF
    refine pr_put dX16_bad_10 tp_16_26 (hh2) ?_
    refine pr_aload_n dX16_bad_13 rfl ?_
    refine pr_iload_n dX16_bad_14 rfl ?_
    obtain ⟨h3, hh3, hF⟩ := po_b hF
    refine pr_put dX16_bad_15 tp_16_29 (hh3) ?_
    cases hF
    exact pr_vret dX16_bad_18 rfl rfl

def F_X16_person (h : pm_H) (a0 : Nat) : Option (Int32 × pm_H) :=
  (if pm_cl_ h a0 = some 13 then F_X16_here h a0 else (if pm_cl_ h a0 = some 14 then F_X16_here h a0 else none)).bind fun q1 =>
  (if pm_cl_ h a0 = some 13 then F_X16_isGood h a0 else (if pm_cl_ h a0 = some 14 then F_X16_isGood h a0 else none)).bind fun q2 =>
  if q2 = 0 then
    (pm_fI [(13, 1), (14, 1)] h a0).bind fun v3 =>
    (pm_put [(13, 1, 0), (14, 1, 0)] h a0 (.int (v3 + 1))).bind fun h4 =>
    some (q1 - 97, h4)
  else
    (F_X0_in (q1 - 97) 16).bind fun q5 =>
    if q5 = 0 then
      (pm_fI [(13, 1), (14, 1)] h a0).bind fun v8 =>
      (if pm_cl_ h a0 = some 13 then F_X16_bad h a0 1 v8 else (if pm_cl_ h a0 = some 14 then F_X16_bad h a0 1 v8 else none)).bind fun q9 =>
      (pm_fI [(13, 1), (14, 1)] q9 a0).bind fun v10 =>
      (pm_put [(13, 1, 0), (14, 1, 0)] q9 a0 (.int (v10 + 1))).bind fun h11 =>
      some (q1 - 97, h11)
    else
      (pm_fI [(13, 1), (14, 1)] h a0).bind fun v6 =>
      (pm_put [(13, 1, 0), (14, 1, 0)] h a0 (.int (v6 + 1))).bind fun h7 =>
      some (q1 - 97, h7)
theorem ok_F_X16_person {d : Nat} {h : pm_H} {a0 : Nat} {q : Int32 × pm_H} (hF : F_X16_person h a0 = some q) : pm_E (d + 1) 16 cX16_person (some .int) 0 [.ref a0, pm_D] [] h (some (.int q.1), q.2) := by
  unfold F_X16_person at hF
  refine pr_aload_n dX16_person_0 rfl ?_
  obtain ⟨q1, hq1, hF⟩ := po_b hF
  refine pr_VD (as := []) (rest := []) (r := some (.int q1)) (h' := h) dX16_person_1 cv_16_36 (po_i hq1 (fun hcl hq => pm_vok 13 _ hcl rfl (lb rfl) (lb rfl) (ok_F_X16_here hq)) (fun _ hq => po_i hq (fun hcl hq => pm_vok 14 _ hcl rfl (lb rfl) (lb rfl) (ok_F_X16_here hq)) (fun _ hq => nomatch hq))) rfl rfl rfl (lb rfl) ?_
  refine pr_bipush (v := 97) dX16_person_4 (kb_97) ?_
  refine pr_isub dX16_person_6 ?_
  refine pr_istore_n (L' := [.ref a0, .int (q1 - 97)]) dX16_person_7 rfl ?_
  refine pr_aload_n dX16_person_8 rfl ?_
  obtain ⟨q2, hq2, hF⟩ := po_b hF
  refine pr_VD (as := []) (rest := []) (r := some (.int q2)) (h' := h) dX16_person_9 cv_16_32 (po_i hq2 (fun hcl hq => pm_vok 13 _ hcl rfl (lb rfl) (lb rfl) (ok_F_X16_isGood hq)) (fun _ hq => po_i hq (fun hcl hq => pm_vok 14 _ hcl rfl (lb rfl) (lb rfl) (ok_F_X16_isGood hq)) (fun _ hq => nomatch hq))) rfl rfl rfl (lb rfl) ?_
  refine po_i hF (fun hc hF => ?_) (fun hc hF => ?_)
  · refine pr_ifT (tgt := 33) dX16_person_12 (by decide) (pc_eqT hc) ?_
    refine pr_aload_n dX16_person_33 rfl ?_
    refine pr_dup dX16_person_34 rfl ?_
    obtain ⟨v3, hv3, hF⟩ := po_b hF
    refine pr_getI dX16_person_35 tf_16_19 (hv3) ?_
    refine pr_iconst (v := 1) dX16_person_38 (kc_1) ?_
    refine pr_iadd dX16_person_39 ?_
    obtain ⟨h4, hh4, hF⟩ := po_b hF
    refine pr_put dX16_person_40 tp_16_19 (hh4) ?_
    refine pr_iload_n dX16_person_43 rfl ?_
    cases hF
    exact pr_iret dX16_person_44 rfl rfl rfl
  · refine pr_ifF (tgt := 33) dX16_person_12 (by decide) (pc_eqF hc) ?_
    refine pr_iload_n dX16_person_15 rfl ?_
    refine pr_bipush (v := 16) dX16_person_16 (kb_16) ?_
    obtain ⟨q5, hq5, hF⟩ := po_b hF
    refine pr_S dX16_person_18 cs_16_40 (as := [.int (q1 - 97), .int 16]) (rest := []) rfl rfl rfl (lb rfl) (lb rfl) (lb rfl) (ok_F_X0_in hq5) ?_
    refine po_i hF (fun hc hF => ?_) (fun hc hF => ?_)
    · refine pr_ifF (tgt := 33) dX16_person_21 (by decide) (pc_neF hc) ?_
      refine pr_aload_n dX16_person_24 rfl ?_
      refine pr_iconst (v := 1) dX16_person_25 (kc_1) ?_
      refine pr_aload_n dX16_person_26 rfl ?_
      obtain ⟨v8, hv8, hF⟩ := po_b hF
      refine pr_getI dX16_person_27 tf_16_19 (hv8) ?_
      obtain ⟨q9, hq9, hF⟩ := po_b hF
      refine pr_VD (as := [.int 1, .int v8]) (rest := []) (r := none) (h' := q9) dX16_person_30 cv_16_44 (po_i hq9 (fun hcl hq => pm_vok 13 _ hcl rfl (lb rfl) (lb rfl) (ok_F_X16_bad hq)) (fun _ hq => po_i hq (fun hcl hq => pm_vok 14 _ hcl rfl (lb rfl) (lb rfl) (ok_F_X16_bad hq)) (fun _ hq => nomatch hq))) rfl rfl rfl (lb rfl) ?_
      refine pr_aload_n dX16_person_33 rfl ?_
      refine pr_dup dX16_person_34 rfl ?_
      obtain ⟨v10, hv10, hF⟩ := po_b hF
      refine pr_getI dX16_person_35 tf_16_19 (hv10) ?_
      refine pr_iconst (v := 1) dX16_person_38 (kc_1) ?_
      refine pr_iadd dX16_person_39 ?_
      obtain ⟨h11, hh11, hF⟩ := po_b hF
      refine pr_put dX16_person_40 tp_16_19 (hh11) ?_
      refine pr_iload_n dX16_person_43 rfl ?_
      cases hF
      exact pr_iret dX16_person_44 rfl rfl rfl
    · refine pr_ifT (tgt := 33) dX16_person_21 (by decide) (pc_neT hc) ?_
      refine pr_aload_n dX16_person_33 rfl ?_
      refine pr_dup dX16_person_34 rfl ?_
      obtain ⟨v6, hv6, hF⟩ := po_b hF
      refine pr_getI dX16_person_35 tf_16_19 (hv6) ?_
      refine pr_iconst (v := 1) dX16_person_38 (kc_1) ?_
      refine pr_iadd dX16_person_39 ?_
      obtain ⟨h7, hh7, hF⟩ := po_b hF
      refine pr_put dX16_person_40 tp_16_19 (hh7) ?_
      refine pr_iload_n dX16_person_43 rfl ?_
      cases hF
      exact pr_iret dX16_person_44 rfl rfl rfl

def F_X1_isTold (h : pm_H) (a0 : Nat) (x1 : Int32) : Option (Int32) :=
  if x1 < 0 then
    some 0
  else
  if x1 < 16 then
    (pm_fI [(1, 2)] h a0).bind fun v1 =>
    if ((pm_shr v1 x1) &&& 1) = 1 then
      some 1
    else
      some 0
  else
    some 0
theorem ok_F_X1_isTold {d : Nat} {h : pm_H} {a0 : Nat} {x1 : Int32} {q : Int32} (hF : F_X1_isTold h a0 x1 = some q) : pm_E (d + 0) 1 cX1_isTold (some .boolean) 0 [.ref a0, .int x1] [] h (some (.int q), h) := by
  unfold F_X1_isTold at hF
  refine pr_iload_n dX1_isTold_0 rfl ?_
  refine po_i hF (fun hc hF => ?_) (fun hc hF => ?_)
  · refine pr_ifT (tgt := 26) dX1_isTold_1 (by decide) (pc_ltT hc) ?_
    refine pr_iconst (v := 0) dX1_isTold_26 (kc_0) ?_
    cases hF
    exact pr_iret dX1_isTold_27 rfl nb_0 rfl
  · refine pr_ifF (tgt := 26) dX1_isTold_1 (by decide) (pc_ltF hc) ?_
    refine pr_iload_n dX1_isTold_4 rfl ?_
    refine pr_bipush (v := 16) dX1_isTold_5 (kb_16) ?_
    refine po_i hF (fun hc hF => ?_) (fun hc hF => ?_)
    · refine pr_icF (tgt := 26) dX1_isTold_7 (by decide) (pc_geF hc) ?_
      refine pr_aload_n dX1_isTold_10 rfl ?_
      obtain ⟨v1, hv1, hF⟩ := po_b hF
      refine pr_getI dX1_isTold_11 tf_1_18 (hv1) ?_
      refine pr_iload_n dX1_isTold_14 rfl ?_
      refine pr_ishr dX1_isTold_15 ?_
      refine pr_iconst (v := 1) dX1_isTold_16 (kc_1) ?_
      refine pr_iand dX1_isTold_17 ?_
      refine pr_iconst (v := 1) dX1_isTold_18 (kc_1) ?_
      refine po_i hF (fun hc hF => ?_) (fun hc hF => ?_)
      · refine pr_icF (tgt := 26) dX1_isTold_19 (by decide) (pc_neF hc) ?_
        refine pr_iconst (v := 1) dX1_isTold_22 (kc_1) ?_
        refine pr_goto (tgt := 27) dX1_isTold_23 (by decide) ?_
        cases hF
        exact pr_iret dX1_isTold_27 rfl nb_1 rfl
      · refine pr_icT (tgt := 26) dX1_isTold_19 (by decide) (pc_neT hc) ?_
        refine pr_iconst (v := 0) dX1_isTold_26 (kc_0) ?_
        cases hF
        exact pr_iret dX1_isTold_27 rfl nb_0 rfl
    · refine pr_icT (tgt := 26) dX1_isTold_7 (by decide) (pc_geT hc) ?_
      refine pr_iconst (v := 0) dX1_isTold_26 (kc_0) ?_
      cases hF
      exact pr_iret dX1_isTold_27 rfl nb_0 rfl

def F_X16_goesOn (h : pm_H) (a0 : Nat) : Option (pm_H) :=
  (pm_fI [(13, 1), (14, 1)] h a0).bind fun v1 =>
  (pm_put [(13, 1, 0), (14, 1, 0)] h a0 (.int (v1 + 1))).bind fun h2 =>
  some h2
theorem ok_F_X16_goesOn {d : Nat} {h : pm_H} {a0 : Nat} {q : pm_H} (hF : F_X16_goesOn h a0 = some q) : pm_E (d + 0) 16 cX16_goesOn (none) 0 [.ref a0] [] h (none, q) := by
  unfold F_X16_goesOn at hF
  refine pr_aload_n dX16_goesOn_0 rfl ?_
  refine pr_dup dX16_goesOn_1 rfl ?_
  obtain ⟨v1, hv1, hF⟩ := po_b hF
  refine pr_getI dX16_goesOn_2 tf_16_19 (hv1) ?_
  refine pr_iconst (v := 1) dX16_goesOn_5 (kc_1) ?_
  refine pr_iadd dX16_goesOn_6 ?_
  obtain ⟨h2, hh2, hF⟩ := po_b hF
  refine pr_put dX16_goesOn_7 tp_16_19 (hh2) ?_
  cases hF
  exact pr_vret dX16_goesOn_10 rfl rfl

def F_X16_sees (h : pm_H) (a0 : Nat) (x1 : Int32) (x2 : Int32) : Option (Int32) :=
  (if pm_cl_ h a0 = some 13 then F_X16_here h a0 else (if pm_cl_ h a0 = some 14 then F_X16_here h a0 else none)).bind fun q1 =>
  if q1 < x1 then
    some 0
  else
    (if pm_cl_ h a0 = some 13 then F_X16_here h a0 else (if pm_cl_ h a0 = some 14 then F_X16_here h a0 else none)).bind fun q2 =>
    if x2 < q2 then
      some 0
    else
      some 1
theorem ok_F_X16_sees {d : Nat} {h : pm_H} {a0 : Nat} {x1 : Int32} {x2 : Int32} {q : Int32} (hF : F_X16_sees h a0 x1 x2 = some q) : pm_E (d + 1) 16 cX16_sees (some .boolean) 0 [.ref a0, .int x1, .int x2] [] h (some (.int q), h) := by
  unfold F_X16_sees at hF
  refine pr_aload_n dX16_sees_0 rfl ?_
  obtain ⟨q1, hq1, hF⟩ := po_b hF
  refine pr_VD (as := []) (rest := []) (r := some (.int q1)) (h' := h) dX16_sees_1 cv_16_36 (po_i hq1 (fun hcl hq => pm_vok 13 _ hcl rfl (lb rfl) (lb rfl) (ok_F_X16_here hq)) (fun _ hq => po_i hq (fun hcl hq => pm_vok 14 _ hcl rfl (lb rfl) (lb rfl) (ok_F_X16_here hq)) (fun _ hq => nomatch hq))) rfl rfl rfl (lb rfl) ?_
  refine pr_iload_n dX16_sees_4 rfl ?_
  refine po_i hF (fun hc hF => ?_) (fun hc hF => ?_)
  · refine pr_icT (tgt := 20) dX16_sees_5 (by decide) (pc_ltT hc) ?_
    refine pr_iconst (v := 0) dX16_sees_20 (kc_0) ?_
    cases hF
    exact pr_iret dX16_sees_21 rfl nb_0 rfl
  · refine pr_icF (tgt := 20) dX16_sees_5 (by decide) (pc_ltF hc) ?_
    refine pr_aload_n dX16_sees_8 rfl ?_
    obtain ⟨q2, hq2, hF⟩ := po_b hF
    refine pr_VD (as := []) (rest := []) (r := some (.int q2)) (h' := h) dX16_sees_9 cv_16_36 (po_i hq2 (fun hcl hq => pm_vok 13 _ hcl rfl (lb rfl) (lb rfl) (ok_F_X16_here hq)) (fun _ hq => po_i hq (fun hcl hq => pm_vok 14 _ hcl rfl (lb rfl) (lb rfl) (ok_F_X16_here hq)) (fun _ hq => nomatch hq))) rfl rfl rfl (lb rfl) ?_
    refine pr_iload_n dX16_sees_12 rfl ?_
    refine po_i hF (fun hc hF => ?_) (fun hc hF => ?_)
    · refine pr_icT (tgt := 20) dX16_sees_13 (by decide) (pc_gtT hc) ?_
      refine pr_iconst (v := 0) dX16_sees_20 (kc_0) ?_
      cases hF
      exact pr_iret dX16_sees_21 rfl nb_0 rfl
    · refine pr_icF (tgt := 20) dX16_sees_13 (by decide) (pc_gtF hc) ?_
      refine pr_iconst (v := 1) dX16_sees_16 (kc_1) ?_
      refine pr_goto (tgt := 21) dX16_sees_17 (by decide) ?_
      cases hF
      exact pr_iret dX16_sees_21 rfl nb_1 rfl

def L_X17_house_24 : Nat → Nat → Int32 → Int32 → pm_H → Option (Int32 × pm_H)
  | 0, _, _, _, _ => none
  | n + 1, x0, x2, x3, h =>
    (if pm_cl_ h x0 = some 13 then F_X16_isGood h x0 else none).bind fun q5 =>
    if q5 = 0 then
      some (x2, h)
    else
      (if pm_cl_ h x0 = some 13 then F_X16_sees h x0 48 57 else none).bind fun q6 =>
      if q6 = 0 then
        some (x2, h)
      else
        (if pm_cl_ h x0 = some 13 then F_X16_place h x0 else none).bind fun q7 =>
        ((
          if q7 = (x3 + 2) then
            (if pm_cl_ h x0 = some 13 then F_X16_place h x0 else none).bind fun q8 =>
            (if pm_cl_ h x0 = some 13 then F_X16_bad h x0 2 q8 else none).bind fun q9 =>
            some q9
          else
            some h
        ) : Option (pm_H)).bind fun q10 =>
        (if pm_cl_ q10 x0 = some 13 then F_X16_here q10 x0 else none).bind fun q11 =>
        (if pm_cl_ q10 x0 = some 13 then F_X16_goesOn q10 x0 else none).bind fun q12 =>
        L_X17_house_24 n x0 (((10 * x2) + q11) - 48) x3 q12
theorem ok_L_X17_house_24 {d : Nat} : ∀ (n : Nat) {x0 : Nat} {x2 : Int32} {x3 : Int32} {w1 : Value} {h : pm_H} {q : Int32 × pm_H} {res : Option Value × pm_H}, L_X17_house_24 n x0 x2 x3 h = some q → pm_nolong w1 = true → (pm_E (d + 2) 17 cX17_house (none) 81 [.ref x0, w1, .int q.1, .int x3] [] q.2 res) → pm_E (d + 2) 17 cX17_house (none) 24 [.ref x0, w1, .int x2, .int x3] [] h res := by
  intro n
  induction n with
  | zero =>
    intro x0 x2 x3 w1 h q res hF hw1 hk
    rw [L_X17_house_24] at hF
    cases hF
  | succ n ih =>
    intro x0 x2 x3 w1 h q res hF hw1 hk
    rw [L_X17_house_24] at hF
    refine pr_aload_n dX17_house_24 rfl ?_
    obtain ⟨q5, hq5, hF⟩ := po_b hF
    refine po_i hq5 (fun hcl hq => ?_) (fun _ hq => nomatch hq)
    refine pr_V (as := []) (rest := []) dX17_house_25 cv_17_40 hcl rfl rfl rfl rfl (lb rfl) (lb rfl) (lb rfl) (ok_F_X16_isGood hq) ?_
    refine po_i hF (fun hc hF => ?_) (fun hc hF => ?_)
    · refine pr_ifT (tgt := 81) dX17_house_28 (by decide) (pc_eqT hc) ?_
      cases hF
      exact hk
    · refine pr_ifF (tgt := 81) dX17_house_28 (by decide) (pc_eqF hc) ?_
      refine pr_aload_n dX17_house_31 rfl ?_
      refine pr_bipush (v := 48) dX17_house_32 (kb_48) ?_
      refine pr_bipush (v := 57) dX17_house_34 (kb_57) ?_
      obtain ⟨q6, hq6, hF⟩ := po_b hF
      refine po_i hq6 (fun hcl hq => ?_) (fun _ hq => nomatch hq)
      refine pr_V (as := [.int 48, .int 57]) (rest := []) dX17_house_36 cv_17_32 hcl rfl rfl rfl rfl (lb rfl) (lb rfl) (lb rfl) (ok_F_X16_sees hq) ?_
      refine po_i hF (fun hc hF => ?_) (fun hc hF => ?_)
      · refine pr_ifT (tgt := 81) dX17_house_39 (by decide) (pc_eqT hc) ?_
        cases hF
        exact hk
      · refine pr_ifF (tgt := 81) dX17_house_39 (by decide) (pc_eqF hc) ?_
        refine pr_aload_n dX17_house_42 rfl ?_
        obtain ⟨q7, hq7, hF⟩ := po_b hF
        refine po_i hq7 (fun hcl hq => ?_) (fun _ hq => nomatch hq)
        refine pr_V (as := []) (rest := []) dX17_house_43 cv_17_28 hcl rfl rfl rfl rfl (lb rfl) (lb rfl) (lb rfl) (ok_F_X16_place hq) ?_
        refine pr_iload_n dX17_house_46 rfl ?_
        refine pr_iconst (v := 2) dX17_house_47 (kc_2) ?_
        refine pr_iadd dX17_house_48 ?_
        obtain ⟨q10, hq10, hF⟩ := po_b hF
        have J61 : pm_E (d + 2) 17 cX17_house (none) 61 [.ref x0, w1, .int x2, .int x3] [] q10 res := by
          refine pr_bipush (v := 10) dX17_house_61 (kb_10) ?_
          refine pr_iload_n dX17_house_63 rfl ?_
          refine pr_imul dX17_house_64 ?_
          refine pr_aload_n dX17_house_65 rfl ?_
          obtain ⟨q11, hq11, hF⟩ := po_b hF
          refine po_i hq11 (fun hcl hq => ?_) (fun _ hq => nomatch hq)
          refine pr_V (as := []) (rest := [.int (10 * x2)]) dX17_house_66 cv_17_44 hcl rfl rfl rfl rfl (lb rfl) (lb rfl) (lb rfl) (ok_F_X16_here hq) ?_
          refine pr_iadd dX17_house_69 ?_
          refine pr_bipush (v := 48) dX17_house_70 (kb_48) ?_
          refine pr_isub dX17_house_72 ?_
          refine pr_istore_n (L' := [.ref x0, w1, .int (((10 * x2) + q11) - 48), .int x3]) dX17_house_73 (pm_st_w (i := 1) rfl rfl hw1 rfl) ?_
          refine pr_aload_n dX17_house_74 rfl ?_
          obtain ⟨q12, hq12, hF⟩ := po_b hF
          refine po_i hq12 (fun hcl hq => ?_) (fun _ hq => nomatch hq)
          refine pr_V (as := []) (rest := []) dX17_house_75 cv_17_47 hcl rfl rfl rfl rfl (lb rfl) (lb rfl) (lb rfl) (ok_F_X16_goesOn hq) ?_
          refine pr_goto (tgt := 24) dX17_house_78 (by decide) ?_
          exact ih hF hw1 hk
        clear hF
        have hF := hq10
        refine po_i hF (fun hc hF => ?_) (fun hc hF => ?_)
        · refine pr_icF (tgt := 61) dX17_house_49 (by decide) (pc_neF hc) ?_
          refine pr_aload_n dX17_house_52 rfl ?_
          refine pr_iconst (v := 2) dX17_house_53 (kc_2) ?_
          refine pr_aload_n dX17_house_54 rfl ?_
          obtain ⟨q8, hq8, hF⟩ := po_b hF
          refine po_i hq8 (fun hcl hq => ?_) (fun _ hq => nomatch hq)
          refine pr_V (as := []) (rest := [.int 2, .ref x0]) dX17_house_55 cv_17_28 hcl rfl rfl rfl rfl (lb rfl) (lb rfl) (lb rfl) (ok_F_X16_place hq) ?_
          obtain ⟨q9, hq9, hF⟩ := po_b hF
          refine po_i hq9 (fun hcl hq => ?_) (fun _ hq => nomatch hq)
          refine pr_V (as := [.int 2, .int q8]) (rest := []) dX17_house_58 cv_17_36 hcl rfl rfl rfl rfl (lb rfl) (lb rfl) (lb rfl) (ok_F_X16_bad hq) ?_
          cases hF
          exact J61
        · refine pr_icT (tgt := 61) dX17_house_49 (by decide) (pc_neT hc) ?_
          cases hF
          exact J61
def F_X17_house (n : Nat) (h : pm_H) (a0 : Nat) (x1 : Int32) : Option (pm_H) :=
  (if pm_cl_ h a0 = some 13 then F_X16_place h a0 else none).bind fun q1 =>
  (if pm_cl_ h a0 = some 13 then F_X16_sees h a0 48 57 else none).bind fun q2 =>
  ((
    if q2 = 0 then
      (if pm_cl_ h a0 = some 13 then F_X16_bad h a0 1 q1 else none).bind fun q3 =>
      some q3
    else
      some h
  ) : Option (pm_H)).bind fun q4 =>
  (L_X17_house_24 n a0 0 q1 q4).bind fun q13 =>
  (if pm_cl_ q13.2 a0 = some 13 then F_X16_isGood q13.2 a0 else none).bind fun q14 =>
  if q14 = 0 then
    some q13.2
  else
    (pm_fR [(13, 6)] q13.2 a0).bind fun v15 =>
    (pm_fR [(0, 1)] q13.2 v15).bind fun v16 =>
    (pm_fI [(1, 3)] q13.2 v16).bind fun v17 =>
    (pm_fR [(13, 6)] q13.2 a0).bind fun v18 =>
    (pm_fR [(0, 1)] q13.2 v18).bind fun v19 =>
    (if pm_cl_ q13.2 v19 = some 1 then F_X1_isTold q13.2 v19 x1 else none).bind fun q20 =>
    ((
      if q20 = 0 then
        some (pm_shl 1 x1)
      else
        some 0
    ) : Option (Int32)).bind fun q21 =>
    (pm_put [(1, 3, 0)] q13.2 v16 (.int (v17 ||| q21))).bind fun h22 =>
    (pm_fR [(13, 6)] h22 a0).bind fun v23 =>
    (pm_fR [(0, 1)] h22 v23).bind fun v24 =>
    (pm_fI [(1, 2)] h22 v24).bind fun v25 =>
    (pm_put [(1, 2, 0)] h22 v24 (.int (v25 ||| (pm_shl 1 x1)))).bind fun h26 =>
    (pm_fR [(13, 6)] h26 a0).bind fun v27 =>
    (pm_fR [(0, 1)] h26 v27).bind fun v28 =>
    (pm_fR [(1, 0)] h26 v28).bind fun v29 =>
    (pm_si 0 h26 v29 x1 q13.1).bind fun h30 =>
    some h30
theorem ok_F_X17_house {d n : Nat} {h : pm_H} {a0 : Nat} {x1 : Int32} {q : pm_H} (hF : F_X17_house n h a0 x1 = some q) : pm_E (d + 2) 17 cX17_house (none) 0 [.ref a0, .int x1, pm_D, pm_D] [] h (none, q) := by
  unfold F_X17_house at hF
  refine pr_iconst (v := 0) dX17_house_0 (kc_0) ?_
  refine pr_istore_n (L' := [.ref a0, .int x1, .int 0, pm_D]) dX17_house_1 rfl ?_
  refine pr_aload_n dX17_house_2 rfl ?_
  obtain ⟨q1, hq1, hF⟩ := po_b hF
  refine po_i hq1 (fun hcl hq => ?_) (fun _ hq => nomatch hq)
  refine pr_V (as := []) (rest := []) dX17_house_3 cv_17_28 hcl rfl rfl rfl rfl (lb rfl) (lb rfl) (lb rfl) (ok_F_X16_place hq) ?_
  refine pr_istore_n (L' := [.ref a0, .int x1, .int 0, .int q1]) dX17_house_6 rfl ?_
  refine pr_aload_n dX17_house_7 rfl ?_
  refine pr_bipush (v := 48) dX17_house_8 (kb_48) ?_
  refine pr_bipush (v := 57) dX17_house_10 (kb_57) ?_
  obtain ⟨q2, hq2, hF⟩ := po_b hF
  refine po_i hq2 (fun hcl hq => ?_) (fun _ hq => nomatch hq)
  refine pr_V (as := [.int 48, .int 57]) (rest := []) dX17_house_12 cv_17_32 hcl rfl rfl rfl rfl (lb rfl) (lb rfl) (lb rfl) (ok_F_X16_sees hq) ?_
  obtain ⟨q4, hq4, hF⟩ := po_b hF
  have J24 : pm_E (d + 2) 17 cX17_house (none) 24 [.ref a0, .int x1, .int 0, .int q1] [] q4 (none, q) := by
    obtain ⟨q13, hq13, hF⟩ := po_b hF
    refine ok_L_X17_house_24 n hq13 rfl ?_
    refine pr_aload_n dX17_house_81 rfl ?_
    obtain ⟨q14, hq14, hF⟩ := po_b hF
    refine po_i hq14 (fun hcl hq => ?_) (fun _ hq => nomatch hq)
    refine pr_V (as := []) (rest := []) dX17_house_82 cv_17_40 hcl rfl rfl rfl rfl (lb rfl) (lb rfl) (lb rfl) (ok_F_X16_isGood hq) ?_
    refine po_i hF (fun hc hF => ?_) (fun hc hF => ?_)
    · refine pr_ifF (tgt := 89) dX17_house_85 (by decide) (pc_neF hc) ?_
      cases hF
      exact pr_vret dX17_house_88 rfl rfl
    · refine pr_ifT (tgt := 89) dX17_house_85 (by decide) (pc_neT hc) ?_
      refine pr_aload_n dX17_house_89 rfl ?_
      obtain ⟨v15, hv15, hF⟩ := po_b hF
      refine pr_getR dX17_house_90 tf_17_3 (hv15) ?_
      obtain ⟨v16, hv16, hF⟩ := po_b hF
      refine pr_getR dX17_house_93 tf_17_15 (hv16) ?_
      refine pr_dup dX17_house_96 rfl ?_
      obtain ⟨v17, hv17, hF⟩ := po_b hF
      refine pr_getI dX17_house_97 tf_17_51 (hv17) ?_
      refine pr_aload_n dX17_house_100 rfl ?_
      obtain ⟨v18, hv18, hF⟩ := po_b hF
      refine pr_getR dX17_house_101 tf_17_3 (hv18) ?_
      obtain ⟨v19, hv19, hF⟩ := po_b hF
      refine pr_getR dX17_house_104 tf_17_15 (hv19) ?_
      refine pr_iload_n dX17_house_107 rfl ?_
      obtain ⟨q20, hq20, hF⟩ := po_b hF
      refine po_i hq20 (fun hcl hq => ?_) (fun _ hq => nomatch hq)
      refine pr_V (as := [.int x1]) (rest := [.int v17, .ref v16]) dX17_house_108 cv_17_55 hcl rfl rfl rfl rfl (lb rfl) (lb rfl) (lb rfl) (ok_F_X1_isTold hq) ?_
      obtain ⟨q21, hq21, hF⟩ := po_b hF
      have J121 : pm_E (d + 2) 17 cX17_house (none) 121 [.ref a0, .int x1, .int q13.1, .int q1] [.int q21, .int v17, .ref v16] q13.2 (none, q) := by
        refine pr_ior dX17_house_121 ?_
        obtain ⟨h22, hh22, hF⟩ := po_b hF
        refine pr_put dX17_house_122 tp_17_51 (hh22) ?_
        refine pr_aload_n dX17_house_125 rfl ?_
        obtain ⟨v23, hv23, hF⟩ := po_b hF
        refine pr_getR dX17_house_126 tf_17_3 (hv23) ?_
        obtain ⟨v24, hv24, hF⟩ := po_b hF
        refine pr_getR dX17_house_129 tf_17_15 (hv24) ?_
        refine pr_dup dX17_house_132 rfl ?_
        obtain ⟨v25, hv25, hF⟩ := po_b hF
        refine pr_getI dX17_house_133 tf_17_59 (hv25) ?_
        refine pr_iconst (v := 1) dX17_house_136 (kc_1) ?_
        refine pr_iload_n dX17_house_137 rfl ?_
        refine pr_ishl dX17_house_138 ?_
        refine pr_ior dX17_house_139 ?_
        obtain ⟨h26, hh26, hF⟩ := po_b hF
        refine pr_put dX17_house_140 tp_17_59 (hh26) ?_
        refine pr_aload_n dX17_house_143 rfl ?_
        obtain ⟨v27, hv27, hF⟩ := po_b hF
        refine pr_getR dX17_house_144 tf_17_3 (hv27) ?_
        obtain ⟨v28, hv28, hF⟩ := po_b hF
        refine pr_getR dX17_house_147 tf_17_15 (hv28) ?_
        obtain ⟨v29, hv29, hF⟩ := po_b hF
        refine pr_getR dX17_house_150 tf_17_62 (hv29) ?_
        refine pr_iload_n dX17_house_153 rfl ?_
        refine pr_iload_n dX17_house_154 rfl ?_
        obtain ⟨h30, hh30, hF⟩ := po_b hF
        refine pr_iast dX17_house_155 (hh30) ?_
        cases hF
        exact pr_vret dX17_house_156 rfl rfl
      clear hF
      have hF := hq21
      refine po_i hF (fun hc hF => ?_) (fun hc hF => ?_)
      · refine pr_ifT (tgt := 118) dX17_house_111 (by decide) (pc_eqT hc) ?_
        refine pr_iconst (v := 1) dX17_house_118 (kc_1) ?_
        refine pr_iload_n dX17_house_119 rfl ?_
        refine pr_ishl dX17_house_120 ?_
        cases hF
        exact J121
      · refine pr_ifF (tgt := 118) dX17_house_111 (by decide) (pc_eqF hc) ?_
        refine pr_iconst (v := 0) dX17_house_114 (kc_0) ?_
        refine pr_goto (tgt := 121) dX17_house_115 (by decide) ?_
        cases hF
        exact J121
  clear hF
  have hF := hq4
  refine po_i hF (fun hc hF => ?_) (fun hc hF => ?_)
  · refine pr_ifF (tgt := 24) dX17_house_15 (by decide) (pc_neF hc) ?_
    refine pr_aload_n dX17_house_18 rfl ?_
    refine pr_iconst (v := 1) dX17_house_19 (kc_1) ?_
    refine pr_iload_n dX17_house_20 rfl ?_
    obtain ⟨q3, hq3, hF⟩ := po_b hF
    refine po_i hq3 (fun hcl hq => ?_) (fun _ hq => nomatch hq)
    refine pr_V (as := [.int 1, .int q1]) (rest := []) dX17_house_21 cv_17_36 hcl rfl rfl rfl rfl (lb rfl) (lb rfl) (lb rfl) (ok_F_X16_bad hq) ?_
    cases hF
    exact J24
  · refine pr_ifT (tgt := 24) dX17_house_15 (by decide) (pc_neT hc) ?_
    cases hF
    exact J24

def F_X1_parts (h : pm_H) (a0 : Nat) (x1 : Int32) (x2 : Int32) (x3 : Int32) : Option (pm_H) :=
  (pm_fR [(1, 1)] h a0).bind fun v1 =>
  ((
    if x3 = 0 then
      (pm_fR [(1, 1)] h a0).bind fun v2 =>
      (pm_ai 0 h v2 x1).bind fun v3 =>
      some (v3 &&& ((pm_shl 1 x2) ^^^ (-1)))
    else
      (pm_fR [(1, 1)] h a0).bind fun v4 =>
      (pm_ai 0 h v4 x1).bind fun v5 =>
      some (v5 ||| (pm_shl 1 x2))
  ) : Option (Int32)).bind fun q6 =>
  (pm_si 0 h v1 x1 q6).bind fun h7 =>
  (pm_fR [(1, 1)] h7 a0).bind fun v8 =>
  if x3 = 0 then
    (pm_fR [(1, 1)] h7 a0).bind fun v9 =>
    (pm_ai 0 h7 v9 x2).bind fun v10 =>
    (pm_si 0 h7 v8 x2 (v10 &&& ((pm_shl 1 x1) ^^^ (-1)))).bind fun h11 =>
    some h11
  else
    (pm_fR [(1, 1)] h7 a0).bind fun v12 =>
    (pm_ai 0 h7 v12 x2).bind fun v13 =>
    (pm_si 0 h7 v8 x2 (v13 ||| (pm_shl 1 x1))).bind fun h14 =>
    some h14
theorem ok_F_X1_parts {d : Nat} {h : pm_H} {a0 : Nat} {x1 : Int32} {x2 : Int32} {x3 : Int32} {q : pm_H} (hF : F_X1_parts h a0 x1 x2 x3 = some q) : pm_E (d + 0) 1 cX1_parts (none) 0 [.ref a0, .int x1, .int x2, .int x3] [] h (none, q) := by
  unfold F_X1_parts at hF
  refine pr_aload_n dX1_parts_0 rfl ?_
  obtain ⟨v1, hv1, hF⟩ := po_b hF
  refine pr_getR dX1_parts_1 tf_1_15 (hv1) ?_
  refine pr_iload_n dX1_parts_4 rfl ?_
  refine pr_iload_n dX1_parts_5 rfl ?_
  obtain ⟨q6, hq6, hF⟩ := po_b hF
  have J34 : pm_E (d + 0) 1 cX1_parts (none) 34 [.ref a0, .int x1, .int x2, .int x3] [.int q6, .int x1, .ref v1] h (none, q) := by
    obtain ⟨h7, hh7, hF⟩ := po_b hF
    refine pr_iast dX1_parts_34 (hh7) ?_
    refine pr_aload_n dX1_parts_35 rfl ?_
    obtain ⟨v8, hv8, hF⟩ := po_b hF
    refine pr_getR dX1_parts_36 tf_1_15 (hv8) ?_
    refine pr_iload_n dX1_parts_39 rfl ?_
    refine pr_iload_n dX1_parts_40 rfl ?_
    refine po_i hF (fun hc hF => ?_) (fun hc hF => ?_)
    · refine pr_ifT (tgt := 57) dX1_parts_41 (by decide) (pc_eqT hc) ?_
      refine pr_aload_n dX1_parts_57 rfl ?_
      obtain ⟨v9, hv9, hF⟩ := po_b hF
      refine pr_getR dX1_parts_58 tf_1_15 (hv9) ?_
      refine pr_iload_n dX1_parts_61 rfl ?_
      obtain ⟨v10, hv10, hF⟩ := po_b hF
      refine pr_iald dX1_parts_62 (hv10) ?_
      refine pr_iconst (v := 1) dX1_parts_63 (kc_1) ?_
      refine pr_iload_n dX1_parts_64 rfl ?_
      refine pr_ishl dX1_parts_65 ?_
      refine pr_iconst (v := (-1)) dX1_parts_66 (kc_m1) ?_
      refine pr_ixor dX1_parts_67 ?_
      refine pr_iand dX1_parts_68 ?_
      obtain ⟨h11, hh11, hF⟩ := po_b hF
      refine pr_iast dX1_parts_69 (hh11) ?_
      cases hF
      exact pr_vret dX1_parts_70 rfl rfl
    · refine pr_ifF (tgt := 57) dX1_parts_41 (by decide) (pc_eqF hc) ?_
      refine pr_aload_n dX1_parts_44 rfl ?_
      obtain ⟨v12, hv12, hF⟩ := po_b hF
      refine pr_getR dX1_parts_45 tf_1_15 (hv12) ?_
      refine pr_iload_n dX1_parts_48 rfl ?_
      obtain ⟨v13, hv13, hF⟩ := po_b hF
      refine pr_iald dX1_parts_49 (hv13) ?_
      refine pr_iconst (v := 1) dX1_parts_50 (kc_1) ?_
      refine pr_iload_n dX1_parts_51 rfl ?_
      refine pr_ishl dX1_parts_52 ?_
      refine pr_ior dX1_parts_53 ?_
      refine pr_goto (tgt := 69) dX1_parts_54 (by decide) ?_
      obtain ⟨h14, hh14, hF⟩ := po_b hF
      refine pr_iast dX1_parts_69 (hh14) ?_
      cases hF
      exact pr_vret dX1_parts_70 rfl rfl
  clear hF
  have hF := hq6
  refine po_i hF (fun hc hF => ?_) (fun hc hF => ?_)
  · refine pr_ifT (tgt := 22) dX1_parts_6 (by decide) (pc_eqT hc) ?_
    refine pr_aload_n dX1_parts_22 rfl ?_
    obtain ⟨v2, hv2, hF⟩ := po_b hF
    refine pr_getR dX1_parts_23 tf_1_15 (hv2) ?_
    refine pr_iload_n dX1_parts_26 rfl ?_
    obtain ⟨v3, hv3, hF⟩ := po_b hF
    refine pr_iald dX1_parts_27 (hv3) ?_
    refine pr_iconst (v := 1) dX1_parts_28 (kc_1) ?_
    refine pr_iload_n dX1_parts_29 rfl ?_
    refine pr_ishl dX1_parts_30 ?_
    refine pr_iconst (v := (-1)) dX1_parts_31 (kc_m1) ?_
    refine pr_ixor dX1_parts_32 ?_
    refine pr_iand dX1_parts_33 ?_
    cases hF
    exact J34
  · refine pr_ifF (tgt := 22) dX1_parts_6 (by decide) (pc_eqF hc) ?_
    refine pr_aload_n dX1_parts_9 rfl ?_
    obtain ⟨v4, hv4, hF⟩ := po_b hF
    refine pr_getR dX1_parts_10 tf_1_15 (hv4) ?_
    refine pr_iload_n dX1_parts_13 rfl ?_
    obtain ⟨v5, hv5, hF⟩ := po_b hF
    refine pr_iald dX1_parts_14 (hv5) ?_
    refine pr_iconst (v := 1) dX1_parts_15 (kc_1) ?_
    refine pr_iload_n dX1_parts_16 rfl ?_
    refine pr_ishl dX1_parts_17 ?_
    refine pr_ior dX1_parts_18 ?_
    refine pr_goto (tgt := 34) dX1_parts_19 (by decide) ?_
    cases hF
    exact J34

def F_X17_quarrel (h : pm_H) (a0 : Nat) (x1 : Int32) (x2 : Int32) : Option (pm_H) :=
  (if pm_cl_ h a0 = some 13 then F_X16_place h a0 else none).bind fun q1 =>
  (if pm_cl_ h a0 = some 13 then F_X16_person h a0 else none).bind fun q2 =>
  (if pm_cl_ q2.2 a0 = some 13 then F_X16_isGood q2.2 a0 else none).bind fun q3 =>
  ((
    if q3 = 0 then
      some q2.2
    else
    if x1 = q2.1 then
      (if pm_cl_ q2.2 a0 = some 13 then F_X16_bad q2.2 a0 6 q1 else none).bind fun q4 =>
      some q4
    else
      some q2.2
  ) : Option (pm_H)).bind fun q5 =>
  (if pm_cl_ q5 a0 = some 13 then F_X16_isGood q5 a0 else none).bind fun q6 =>
  ((
    if q6 = 0 then
      some q5
    else
      (pm_fR [(13, 6)] q5 a0).bind fun v7 =>
      (pm_fR [(0, 1)] q5 v7).bind fun v8 =>
      (if pm_cl_ q5 v8 = some 1 then F_X1_isTold q5 v8 q2.1 else none).bind fun q9 =>
      if q9 = 0 then
        (if pm_cl_ q5 a0 = some 13 then F_X16_bad q5 a0 7 q1 else none).bind fun q10 =>
        some q10
      else
        some q5
  ) : Option (pm_H)).bind fun q11 =>
  (if pm_cl_ q11 a0 = some 13 then F_X16_isGood q11 a0 else none).bind fun q12 =>
  if q12 = 0 then
    some q11
  else
    (pm_fR [(13, 6)] q11 a0).bind fun v13 =>
    (pm_fR [(0, 1)] q11 v13).bind fun v14 =>
    (if pm_cl_ q11 v14 = some 1 then F_X1_parts q11 v14 x1 q2.1 x2 else none).bind fun q15 =>
    some q15
theorem ok_F_X17_quarrel {d : Nat} {h : pm_H} {a0 : Nat} {x1 : Int32} {x2 : Int32} {q : pm_H} (hF : F_X17_quarrel h a0 x1 x2 = some q) : pm_E (d + 2) 17 cX17_quarrel (none) 0 [.ref a0, .int x1, .int x2, pm_D, pm_D] [] h (none, q) := by
  unfold F_X17_quarrel at hF
  refine pr_aload_n dX17_quarrel_0 rfl ?_
  obtain ⟨q1, hq1, hF⟩ := po_b hF
  refine po_i hq1 (fun hcl hq => ?_) (fun _ hq => nomatch hq)
  refine pr_V (as := []) (rest := []) dX17_quarrel_1 cv_17_28 hcl rfl rfl rfl rfl (lb rfl) (lb rfl) (lb rfl) (ok_F_X16_place hq) ?_
  refine pr_istore_n (L' := [.ref a0, .int x1, .int x2, .int q1, pm_D]) dX17_quarrel_4 rfl ?_
  refine pr_aload_n dX17_quarrel_5 rfl ?_
  obtain ⟨q2, hq2, hF⟩ := po_b hF
  refine po_i hq2 (fun hcl hq => ?_) (fun _ hq => nomatch hq)
  refine pr_V (as := []) (rest := []) dX17_quarrel_6 cv_17_66 hcl rfl rfl rfl rfl (lb rfl) (lb rfl) (lb rfl) (ok_F_X16_person hq) ?_
  refine pr_istore (L' := [.ref a0, .int x1, .int x2, .int q1, .int q2.1]) dX17_quarrel_9 rfl ?_
  refine pr_aload_n dX17_quarrel_11 rfl ?_
  obtain ⟨q3, hq3, hF⟩ := po_b hF
  refine po_i hq3 (fun hcl hq => ?_) (fun _ hq => nomatch hq)
  refine pr_V (as := []) (rest := []) dX17_quarrel_12 cv_17_40 hcl rfl rfl rfl rfl (lb rfl) (lb rfl) (lb rfl) (ok_F_X16_isGood hq) ?_
  obtain ⟨q5, hq5, hF⟩ := po_b hF
  have J31 : pm_E (d + 2) 17 cX17_quarrel (none) 31 [.ref a0, .int x1, .int x2, .int q1, .int q2.1] [] q5 (none, q) := by
    refine pr_aload_n dX17_quarrel_31 rfl ?_
    obtain ⟨q6, hq6, hF⟩ := po_b hF
    refine po_i hq6 (fun hcl hq => ?_) (fun _ hq => nomatch hq)
    refine pr_V (as := []) (rest := []) dX17_quarrel_32 cv_17_40 hcl rfl rfl rfl rfl (lb rfl) (lb rfl) (lb rfl) (ok_F_X16_isGood hq) ?_
    obtain ⟨q11, hq11, hF⟩ := po_b hF
    have J60 : pm_E (d + 2) 17 cX17_quarrel (none) 60 [.ref a0, .int x1, .int x2, .int q1, .int q2.1] [] q11 (none, q) := by
      refine pr_aload_n dX17_quarrel_60 rfl ?_
      obtain ⟨q12, hq12, hF⟩ := po_b hF
      refine po_i hq12 (fun hcl hq => ?_) (fun _ hq => nomatch hq)
      refine pr_V (as := []) (rest := []) dX17_quarrel_61 cv_17_40 hcl rfl rfl rfl rfl (lb rfl) (lb rfl) (lb rfl) (ok_F_X16_isGood hq) ?_
      refine po_i hF (fun hc hF => ?_) (fun hc hF => ?_)
      · refine pr_ifT (tgt := 81) dX17_quarrel_64 (by decide) (pc_eqT hc) ?_
        cases hF
        exact pr_vret dX17_quarrel_81 rfl rfl
      · refine pr_ifF (tgt := 81) dX17_quarrel_64 (by decide) (pc_eqF hc) ?_
        refine pr_aload_n dX17_quarrel_67 rfl ?_
        obtain ⟨v13, hv13, hF⟩ := po_b hF
        refine pr_getR dX17_quarrel_68 tf_17_3 (hv13) ?_
        obtain ⟨v14, hv14, hF⟩ := po_b hF
        refine pr_getR dX17_quarrel_71 tf_17_15 (hv14) ?_
        refine pr_iload_n dX17_quarrel_74 rfl ?_
        refine pr_iload dX17_quarrel_75 rfl ?_
        refine pr_iload_n dX17_quarrel_77 rfl ?_
        obtain ⟨q15, hq15, hF⟩ := po_b hF
        refine po_i hq15 (fun hcl hq => ?_) (fun _ hq => nomatch hq)
        refine pr_V (as := [.int x1, .int q2.1, .int x2]) (rest := []) dX17_quarrel_78 cv_17_69 hcl rfl rfl rfl rfl (lb rfl) (lb rfl) (lb rfl) (ok_F_X1_parts hq) ?_
        cases hF
        exact pr_vret dX17_quarrel_81 rfl rfl
    clear hF
    have hF := hq11
    refine po_i hF (fun hc hF => ?_) (fun hc hF => ?_)
    · refine pr_ifT (tgt := 60) dX17_quarrel_35 (by decide) (pc_eqT hc) ?_
      cases hF
      exact J60
    · refine pr_ifF (tgt := 60) dX17_quarrel_35 (by decide) (pc_eqF hc) ?_
      refine pr_aload_n dX17_quarrel_38 rfl ?_
      obtain ⟨v7, hv7, hF⟩ := po_b hF
      refine pr_getR dX17_quarrel_39 tf_17_3 (hv7) ?_
      obtain ⟨v8, hv8, hF⟩ := po_b hF
      refine pr_getR dX17_quarrel_42 tf_17_15 (hv8) ?_
      refine pr_iload dX17_quarrel_45 rfl ?_
      obtain ⟨q9, hq9, hF⟩ := po_b hF
      refine po_i hq9 (fun hcl hq => ?_) (fun _ hq => nomatch hq)
      refine pr_V (as := [.int q2.1]) (rest := []) dX17_quarrel_47 cv_17_55 hcl rfl rfl rfl rfl (lb rfl) (lb rfl) (lb rfl) (ok_F_X1_isTold hq) ?_
      refine po_i hF (fun hc hF => ?_) (fun hc hF => ?_)
      · refine pr_ifF (tgt := 60) dX17_quarrel_50 (by decide) (pc_neF hc) ?_
        refine pr_aload_n dX17_quarrel_53 rfl ?_
        refine pr_bipush (v := 7) dX17_quarrel_54 (kb_7) ?_
        refine pr_iload_n dX17_quarrel_56 rfl ?_
        obtain ⟨q10, hq10, hF⟩ := po_b hF
        refine po_i hq10 (fun hcl hq => ?_) (fun _ hq => nomatch hq)
        refine pr_V (as := [.int 7, .int q1]) (rest := []) dX17_quarrel_57 cv_17_36 hcl rfl rfl rfl rfl (lb rfl) (lb rfl) (lb rfl) (ok_F_X16_bad hq) ?_
        cases hF
        exact J60
      · refine pr_ifT (tgt := 60) dX17_quarrel_50 (by decide) (pc_neT hc) ?_
        cases hF
        exact J60
  clear hF
  have hF := hq5
  refine po_i hF (fun hc hF => ?_) (fun hc hF => ?_)
  · refine pr_ifT (tgt := 31) dX17_quarrel_15 (by decide) (pc_eqT hc) ?_
    cases hF
    exact J31
  · refine pr_ifF (tgt := 31) dX17_quarrel_15 (by decide) (pc_eqF hc) ?_
    refine pr_iload_n dX17_quarrel_18 rfl ?_
    refine pr_iload dX17_quarrel_19 rfl ?_
    refine po_i hF (fun hc hF => ?_) (fun hc hF => ?_)
    · refine pr_icF (tgt := 31) dX17_quarrel_21 (by decide) (pc_neF hc) ?_
      refine pr_aload_n dX17_quarrel_24 rfl ?_
      refine pr_bipush (v := 6) dX17_quarrel_25 (kb_6) ?_
      refine pr_iload_n dX17_quarrel_27 rfl ?_
      obtain ⟨q4, hq4, hF⟩ := po_b hF
      refine po_i hq4 (fun hcl hq => ?_) (fun _ hq => nomatch hq)
      refine pr_V (as := [.int 6, .int q1]) (rest := []) dX17_quarrel_28 cv_17_36 hcl rfl rfl rfl rfl (lb rfl) (lb rfl) (lb rfl) (ok_F_X16_bad hq) ?_
      cases hF
      exact J31
    · refine pr_icT (tgt := 31) dX17_quarrel_21 (by decide) (pc_neT hc) ?_
      cases hF
      exact J31

def F_X17_line (n : Nat) (h : pm_H) (a0 : Nat) : Option (pm_H) :=
  (if pm_cl_ h a0 = some 13 then F_X16_place h a0 else none).bind fun q1 =>
  (if pm_cl_ h a0 = some 13 then F_X16_person h a0 else none).bind fun q2 =>
  (if pm_cl_ q2.2 a0 = some 13 then F_X16_isGood q2.2 a0 else none).bind fun q3 =>
  ((
    if q3 = 0 then
      some q2.2
    else
      (pm_fI [(13, 5)] q2.2 a0).bind fun v4 =>
      if v4 = 24 then
        (if pm_cl_ q2.2 a0 = some 13 then F_X16_bad q2.2 a0 4 q1 else none).bind fun q5 =>
        some q5
      else
        some q2.2
  ) : Option (pm_H)).bind fun q6 =>
  (pm_fI [(13, 5)] q6 a0).bind fun v7 =>
  (pm_put [(13, 5, 0)] q6 a0 (.int (v7 + 1))).bind fun h8 =>
  (if pm_cl_ h8 a0 = some 13 then F_X16_here h8 a0 else none).bind fun q9 =>
  (if pm_cl_ h8 a0 = some 13 then F_X16_isGood h8 a0 else none).bind fun q10 =>
  ((
    if q10 = 0 then
      some h8
    else
    if q9 = 0 then
      (if pm_cl_ h8 a0 = some 13 then F_X16_place h8 a0 else none).bind fun q11 =>
      (if pm_cl_ h8 a0 = some 13 then F_X16_bad h8 a0 1 q11 else none).bind fun q12 =>
      some q12
    else
      (if pm_cl_ h8 3 = some 30 then F_J0_indexOf n h8 3 q9 else none).bind fun q13 =>
      if q13 < 0 then
        (if pm_cl_ h8 a0 = some 13 then F_X16_place h8 a0 else none).bind fun q14 =>
        (if pm_cl_ h8 a0 = some 13 then F_X16_bad h8 a0 1 q14 else none).bind fun q15 =>
        some q15
      else
        some h8
  ) : Option (pm_H)).bind fun q16 =>
  (if pm_cl_ q16 a0 = some 13 then F_X16_isGood q16 a0 else none).bind fun q17 =>
  ((
    if q17 = 0 then
      some q16
    else
    if q9 = 64 then
      some q16
    else
      (pm_fR [(13, 6)] q16 a0).bind fun v18 =>
      (pm_fR [(0, 1)] q16 v18).bind fun v19 =>
      (if pm_cl_ q16 v19 = some 1 then F_X1_isTold q16 v19 q2.1 else none).bind fun q20 =>
      if q20 = 0 then
        (if pm_cl_ q16 a0 = some 13 then F_X16_bad q16 a0 7 q1 else none).bind fun q21 =>
        some q21
      else
        some q16
  ) : Option (pm_H)).bind fun q22 =>
  (if pm_cl_ q22 a0 = some 13 then F_X16_goesOn q22 a0 else none).bind fun q23 =>
  (if pm_cl_ q23 a0 = some 13 then F_X16_isGood q23 a0 else none).bind fun q24 =>
  if q24 = 0 then
    some q23
  else
  if q9 = 35 then
    (pm_fR [(13, 6)] q23 a0).bind fun v25 =>
    (pm_fR [(0, 1)] q23 v25).bind fun v26 =>
    (pm_fI [(1, 3)] q23 v26).bind fun v27 =>
    (pm_put [(1, 3, 0)] q23 v26 (.int (v27 &&& ((pm_shl 1 q2.1) ^^^ (-1))))).bind fun h28 =>
    some h28
  else if q9 = 61 then
    (pm_fR [(13, 6)] q23 a0).bind fun v29 =>
    (pm_fR [(0, 1)] q23 v29).bind fun v30 =>
    (pm_fI [(1, 3)] q23 v30).bind fun v31 =>
    (pm_put [(1, 3, 0)] q23 v30 (.int (v31 ||| (pm_shl 1 q2.1)))).bind fun h32 =>
    some h32
  else if q9 = 64 then
    (if pm_cl_ q23 a0 = some 13 then F_X17_house n q23 a0 q2.1 else none).bind fun q33 =>
    some q33
  else
    if q9 = 42 then
      (if pm_cl_ q23 a0 = some 13 then F_X17_quarrel q23 a0 q2.1 1 else none).bind fun q35 =>
      some q35
    else
      (if pm_cl_ q23 a0 = some 13 then F_X17_quarrel q23 a0 q2.1 0 else none).bind fun q34 =>
      some q34
theorem ok_F_X17_line {d n : Nat} {h : pm_H} {a0 : Nat} {q : pm_H} (hF : F_X17_line n h a0 = some q) : pm_E (d + 4) 17 cX17_line (none) 0 [.ref a0, pm_D, pm_D, pm_D] [] h (none, q) := by
  unfold F_X17_line at hF
  refine pr_aload_n dX17_line_0 rfl ?_
  obtain ⟨q1, hq1, hF⟩ := po_b hF
  refine po_i hq1 (fun hcl hq => ?_) (fun _ hq => nomatch hq)
  refine pr_V (as := []) (rest := []) dX17_line_1 cv_17_28 hcl rfl rfl rfl rfl (lb rfl) (lb rfl) (lb rfl) (ok_F_X16_place hq) ?_
  refine pr_istore_n (L' := [.ref a0, .int q1, pm_D, pm_D]) dX17_line_4 rfl ?_
  refine pr_aload_n dX17_line_5 rfl ?_
  obtain ⟨q2, hq2, hF⟩ := po_b hF
  refine po_i hq2 (fun hcl hq => ?_) (fun _ hq => nomatch hq)
  refine pr_V (as := []) (rest := []) dX17_line_6 cv_17_66 hcl rfl rfl rfl rfl (lb rfl) (lb rfl) (lb rfl) (ok_F_X16_person hq) ?_
  refine pr_istore_n (L' := [.ref a0, .int q1, .int q2.1, pm_D]) dX17_line_9 rfl ?_
  refine pr_aload_n dX17_line_10 rfl ?_
  obtain ⟨q3, hq3, hF⟩ := po_b hF
  refine po_i hq3 (fun hcl hq => ?_) (fun _ hq => nomatch hq)
  refine pr_V (as := []) (rest := []) dX17_line_11 cv_17_40 hcl rfl rfl rfl rfl (lb rfl) (lb rfl) (lb rfl) (ok_F_X16_isGood hq) ?_
  obtain ⟨q6, hq6, hF⟩ := po_b hF
  have J32 : pm_E (d + 4) 17 cX17_line (none) 32 [.ref a0, .int q1, .int q2.1, pm_D] [] q6 (none, q) := by
    refine pr_aload_n dX17_line_32 rfl ?_
    refine pr_dup dX17_line_33 rfl ?_
    obtain ⟨v7, hv7, hF⟩ := po_b hF
    refine pr_getI dX17_line_34 tf_17_73 (hv7) ?_
    refine pr_iconst (v := 1) dX17_line_37 (kc_1) ?_
    refine pr_iadd dX17_line_38 ?_
    obtain ⟨h8, hh8, hF⟩ := po_b hF
    refine pr_put dX17_line_39 tp_17_73 (hh8) ?_
    refine pr_aload_n dX17_line_42 rfl ?_
    obtain ⟨q9, hq9, hF⟩ := po_b hF
    refine po_i hq9 (fun hcl hq => ?_) (fun _ hq => nomatch hq)
    refine pr_V (as := []) (rest := []) dX17_line_43 cv_17_44 hcl rfl rfl rfl rfl (lb rfl) (lb rfl) (lb rfl) (ok_F_X16_here hq) ?_
    refine pr_istore_n (L' := [.ref a0, .int q1, .int q2.1, .int q9]) dX17_line_46 rfl ?_
    refine pr_aload_n dX17_line_47 rfl ?_
    obtain ⟨q10, hq10, hF⟩ := po_b hF
    refine po_i hq10 (fun hcl hq => ?_) (fun _ hq => nomatch hq)
    refine pr_V (as := []) (rest := []) dX17_line_48 cv_17_40 hcl rfl rfl rfl rfl (lb rfl) (lb rfl) (lb rfl) (ok_F_X16_isGood hq) ?_
    obtain ⟨q16, hq16, hF⟩ := po_b hF
    have J76 : pm_E (d + 4) 17 cX17_line (none) 76 [.ref a0, .int q1, .int q2.1, .int q9] [] q16 (none, q) := by
      refine pr_aload_n dX17_line_76 rfl ?_
      obtain ⟨q17, hq17, hF⟩ := po_b hF
      refine po_i hq17 (fun hcl hq => ?_) (fun _ hq => nomatch hq)
      refine pr_V (as := []) (rest := []) dX17_line_77 cv_17_40 hcl rfl rfl rfl rfl (lb rfl) (lb rfl) (lb rfl) (ok_F_X16_isGood hq) ?_
      obtain ⟨q22, hq22, hF⟩ := po_b hF
      have J110 : pm_E (d + 4) 17 cX17_line (none) 110 [.ref a0, .int q1, .int q2.1, .int q9] [] q22 (none, q) := by
        refine pr_aload_n dX17_line_110 rfl ?_
        obtain ⟨q23, hq23, hF⟩ := po_b hF
        refine po_i hq23 (fun hcl hq => ?_) (fun _ hq => nomatch hq)
        refine pr_V (as := []) (rest := []) dX17_line_111 cv_17_47 hcl rfl rfl rfl rfl (lb rfl) (lb rfl) (lb rfl) (ok_F_X16_goesOn hq) ?_
        refine pr_aload_n dX17_line_114 rfl ?_
        obtain ⟨q24, hq24, hF⟩ := po_b hF
        refine po_i hq24 (fun hcl hq => ?_) (fun _ hq => nomatch hq)
        refine pr_V (as := []) (rest := []) dX17_line_115 cv_17_40 hcl rfl rfl rfl rfl (lb rfl) (lb rfl) (lb rfl) (ok_F_X16_isGood hq) ?_
        refine po_i hF (fun hc hF => ?_) (fun hc hF => ?_)
        · refine pr_ifF (tgt := 122) dX17_line_118 (by decide) (pc_neF hc) ?_
          cases hF
          exact pr_vret dX17_line_121 rfl rfl
        · refine pr_ifT (tgt := 122) dX17_line_118 (by decide) (pc_neT hc) ?_
          refine pr_iload_n dX17_line_122 rfl ?_
          refine po_i hF (fun he hF => ?_) (fun he35 hF => ?_)
          · refine pr_look (off := 41) (tgt := 164) dX17_line_123 rfl (by show Op.lookupswitch.offset [(35, 41), (61, 64), (64, 33)] 85 (Int32.toInt q9) = _; rw [he]; rfl) (by decide) ?_
            refine pr_aload_n dX17_line_164 rfl ?_
            obtain ⟨v25, hv25, hF⟩ := po_b hF
            refine pr_getR dX17_line_165 tf_17_3 (hv25) ?_
            obtain ⟨v26, hv26, hF⟩ := po_b hF
            refine pr_getR dX17_line_168 tf_17_15 (hv26) ?_
            refine pr_dup dX17_line_171 rfl ?_
            obtain ⟨v27, hv27, hF⟩ := po_b hF
            refine pr_getI dX17_line_172 tf_17_51 (hv27) ?_
            refine pr_iconst (v := 1) dX17_line_175 (kc_1) ?_
            refine pr_iload_n dX17_line_176 rfl ?_
            refine pr_ishl dX17_line_177 ?_
            refine pr_iconst (v := (-1)) dX17_line_178 (kc_m1) ?_
            refine pr_ixor dX17_line_179 ?_
            refine pr_iand dX17_line_180 ?_
            obtain ⟨h28, hh28, hF⟩ := po_b hF
            refine pr_put dX17_line_181 tp_17_51 (hh28) ?_
            refine pr_goto (tgt := 224) dX17_line_184 (by decide) ?_
            cases hF
            exact pr_vret dX17_line_224 rfl rfl
          refine po_i hF (fun he hF => ?_) (fun he61 hF => ?_)
          · refine pr_look (off := 64) (tgt := 187) dX17_line_123 rfl (by show Op.lookupswitch.offset [(35, 41), (61, 64), (64, 33)] 85 (Int32.toInt q9) = _; rw [lv_osw he35 (by decide)]; rw [he]; rfl) (by decide) ?_
            refine pr_aload_n dX17_line_187 rfl ?_
            obtain ⟨v29, hv29, hF⟩ := po_b hF
            refine pr_getR dX17_line_188 tf_17_3 (hv29) ?_
            obtain ⟨v30, hv30, hF⟩ := po_b hF
            refine pr_getR dX17_line_191 tf_17_15 (hv30) ?_
            refine pr_dup dX17_line_194 rfl ?_
            obtain ⟨v31, hv31, hF⟩ := po_b hF
            refine pr_getI dX17_line_195 tf_17_51 (hv31) ?_
            refine pr_iconst (v := 1) dX17_line_198 (kc_1) ?_
            refine pr_iload_n dX17_line_199 rfl ?_
            refine pr_ishl dX17_line_200 ?_
            refine pr_ior dX17_line_201 ?_
            obtain ⟨h32, hh32, hF⟩ := po_b hF
            refine pr_put dX17_line_202 tp_17_51 (hh32) ?_
            refine pr_goto (tgt := 224) dX17_line_205 (by decide) ?_
            cases hF
            exact pr_vret dX17_line_224 rfl rfl
          refine po_i hF (fun he hF => ?_) (fun he64 hF => ?_)
          · refine pr_look (off := 33) (tgt := 156) dX17_line_123 rfl (by show Op.lookupswitch.offset [(35, 41), (61, 64), (64, 33)] 85 (Int32.toInt q9) = _; rw [lv_osw he35 (by decide)]; rw [lv_osw he61 (by decide)]; rw [he]; rfl) (by decide) ?_
            refine pr_aload_n dX17_line_156 rfl ?_
            refine pr_iload_n dX17_line_157 rfl ?_
            obtain ⟨q33, hq33, hF⟩ := po_b hF
            refine po_i hq33 (fun hcl hq => ?_) (fun _ hq => nomatch hq)
            refine pr_V (as := [.int q2.1]) (rest := []) dX17_line_158 cv_17_84 hcl rfl rfl rfl rfl (lb rfl) (lb rfl) (lb rfl) (ok_F_X17_house hq) ?_
            refine pr_goto (tgt := 224) dX17_line_161 (by decide) ?_
            cases hF
            exact pr_vret dX17_line_224 rfl rfl
          refine pr_look (off := 85) (tgt := 208) dX17_line_123 rfl (by show Op.lookupswitch.offset [(35, 41), (61, 64), (64, 33)] 85 (Int32.toInt q9) = _; rw [lv_osw he35 (by decide)]; rw [lv_osw he61 (by decide)]; rw [lv_osw he64 (by decide)]; rfl) (by decide) ?_
          refine pr_aload_n dX17_line_208 rfl ?_
          refine pr_iload_n dX17_line_209 rfl ?_
          refine pr_iload_n dX17_line_210 rfl ?_
          refine pr_bipush (v := 42) dX17_line_211 (kb_42) ?_
          refine po_i hF (fun hc hF => ?_) (fun hc hF => ?_)
          · refine pr_icF (tgt := 220) dX17_line_213 (by decide) (pc_neF hc) ?_
            refine pr_iconst (v := 1) dX17_line_216 (kc_1) ?_
            refine pr_goto (tgt := 221) dX17_line_217 (by decide) ?_
            obtain ⟨q35, hq35, hF⟩ := po_b hF
            refine po_i hq35 (fun hcl hq => ?_) (fun _ hq => nomatch hq)
            refine pr_V (as := [.int q2.1, .int 1]) (rest := []) dX17_line_221 cv_17_88 hcl rfl rfl rfl rfl (lb rfl) (lb rfl) (lb rfl) (ok_F_X17_quarrel hq) ?_
            cases hF
            exact pr_vret dX17_line_224 rfl rfl
          · refine pr_icT (tgt := 220) dX17_line_213 (by decide) (pc_neT hc) ?_
            refine pr_iconst (v := 0) dX17_line_220 (kc_0) ?_
            obtain ⟨q34, hq34, hF⟩ := po_b hF
            refine po_i hq34 (fun hcl hq => ?_) (fun _ hq => nomatch hq)
            refine pr_V (as := [.int q2.1, .int 0]) (rest := []) dX17_line_221 cv_17_88 hcl rfl rfl rfl rfl (lb rfl) (lb rfl) (lb rfl) (ok_F_X17_quarrel hq) ?_
            cases hF
            exact pr_vret dX17_line_224 rfl rfl
      clear hF
      have hF := hq22
      refine po_i hF (fun hc hF => ?_) (fun hc hF => ?_)
      · refine pr_ifT (tgt := 110) dX17_line_80 (by decide) (pc_eqT hc) ?_
        cases hF
        exact J110
      · refine pr_ifF (tgt := 110) dX17_line_80 (by decide) (pc_eqF hc) ?_
        refine pr_iload_n dX17_line_83 rfl ?_
        refine pr_bipush (v := 64) dX17_line_84 (kb_64) ?_
        refine po_i hF (fun hc hF => ?_) (fun hc hF => ?_)
        · refine pr_icT (tgt := 110) dX17_line_86 (by decide) (pc_eqT hc) ?_
          cases hF
          exact J110
        · refine pr_icF (tgt := 110) dX17_line_86 (by decide) (pc_eqF hc) ?_
          refine pr_aload_n dX17_line_89 rfl ?_
          obtain ⟨v18, hv18, hF⟩ := po_b hF
          refine pr_getR dX17_line_90 tf_17_3 (hv18) ?_
          obtain ⟨v19, hv19, hF⟩ := po_b hF
          refine pr_getR dX17_line_93 tf_17_15 (hv19) ?_
          refine pr_iload_n dX17_line_96 rfl ?_
          obtain ⟨q20, hq20, hF⟩ := po_b hF
          refine po_i hq20 (fun hcl hq => ?_) (fun _ hq => nomatch hq)
          refine pr_V (as := [.int q2.1]) (rest := []) dX17_line_97 cv_17_55 hcl rfl rfl rfl rfl (lb rfl) (lb rfl) (lb rfl) (ok_F_X1_isTold hq) ?_
          refine po_i hF (fun hc hF => ?_) (fun hc hF => ?_)
          · refine pr_ifF (tgt := 110) dX17_line_100 (by decide) (pc_neF hc) ?_
            refine pr_aload_n dX17_line_103 rfl ?_
            refine pr_bipush (v := 7) dX17_line_104 (kb_7) ?_
            refine pr_iload_n dX17_line_106 rfl ?_
            obtain ⟨q21, hq21, hF⟩ := po_b hF
            refine po_i hq21 (fun hcl hq => ?_) (fun _ hq => nomatch hq)
            refine pr_V (as := [.int 7, .int q1]) (rest := []) dX17_line_107 cv_17_36 hcl rfl rfl rfl rfl (lb rfl) (lb rfl) (lb rfl) (ok_F_X16_bad hq) ?_
            cases hF
            exact J110
          · refine pr_ifT (tgt := 110) dX17_line_100 (by decide) (pc_neT hc) ?_
            cases hF
            exact J110
    clear hF
    have hF := hq16
    refine po_i hF (fun hc hF => ?_) (fun hc hF => ?_)
    · refine pr_ifT (tgt := 76) dX17_line_51 (by decide) (pc_eqT hc) ?_
      cases hF
      exact J76
    · refine pr_ifF (tgt := 76) dX17_line_51 (by decide) (pc_eqF hc) ?_
      refine pr_iload_n dX17_line_54 rfl ?_
      refine po_i hF (fun hc hF => ?_) (fun hc hF => ?_)
      · refine pr_ifT (tgt := 67) dX17_line_55 (by decide) (pc_eqT hc) ?_
        refine pr_aload_n dX17_line_67 rfl ?_
        refine pr_iconst (v := 1) dX17_line_68 (kc_1) ?_
        refine pr_aload_n dX17_line_69 rfl ?_
        obtain ⟨q11, hq11, hF⟩ := po_b hF
        refine po_i hq11 (fun hcl hq => ?_) (fun _ hq => nomatch hq)
        refine pr_V (as := []) (rest := [.int 1, .ref a0]) dX17_line_70 cv_17_28 hcl rfl rfl rfl rfl (lb rfl) (lb rfl) (lb rfl) (ok_F_X16_place hq) ?_
        obtain ⟨q12, hq12, hF⟩ := po_b hF
        refine po_i hq12 (fun hcl hq => ?_) (fun _ hq => nomatch hq)
        refine pr_V (as := [.int 1, .int q11]) (rest := []) dX17_line_73 cv_17_36 hcl rfl rfl rfl rfl (lb rfl) (lb rfl) (lb rfl) (ok_F_X16_bad hq) ?_
        cases hF
        exact J76
      · refine pr_ifF (tgt := 67) dX17_line_55 (by decide) (pc_eqF hc) ?_
        refine pr_ldcr (v := 3) dX17_line_58 rfl rfl ?_
        refine pr_iload_n dX17_line_60 rfl ?_
        obtain ⟨q13, hq13, hF⟩ := po_b hF
        refine po_i hq13 (fun hcl hq => ?_) (fun _ hq => nomatch hq)
        refine pr_V (as := [.int q9]) (rest := []) dX17_line_61 cv_17_78 hcl rfl rfl rfl rfl (lb rfl) (lb rfl) (lb rfl) (ok_F_J0_indexOf hq) ?_
        refine po_i hF (fun hc hF => ?_) (fun hc hF => ?_)
        · refine pr_ifF (tgt := 76) dX17_line_64 (by decide) (pc_geF hc) ?_
          refine pr_aload_n dX17_line_67 rfl ?_
          refine pr_iconst (v := 1) dX17_line_68 (kc_1) ?_
          refine pr_aload_n dX17_line_69 rfl ?_
          obtain ⟨q14, hq14, hF⟩ := po_b hF
          refine po_i hq14 (fun hcl hq => ?_) (fun _ hq => nomatch hq)
          refine pr_V (as := []) (rest := [.int 1, .ref a0]) dX17_line_70 cv_17_28 hcl rfl rfl rfl rfl (lb rfl) (lb rfl) (lb rfl) (ok_F_X16_place hq) ?_
          obtain ⟨q15, hq15, hF⟩ := po_b hF
          refine po_i hq15 (fun hcl hq => ?_) (fun _ hq => nomatch hq)
          refine pr_V (as := [.int 1, .int q14]) (rest := []) dX17_line_73 cv_17_36 hcl rfl rfl rfl rfl (lb rfl) (lb rfl) (lb rfl) (ok_F_X16_bad hq) ?_
          cases hF
          exact J76
        · refine pr_ifT (tgt := 76) dX17_line_64 (by decide) (pc_geT hc) ?_
          cases hF
          exact J76
  clear hF
  have hF := hq6
  refine po_i hF (fun hc hF => ?_) (fun hc hF => ?_)
  · refine pr_ifT (tgt := 32) dX17_line_14 (by decide) (pc_eqT hc) ?_
    cases hF
    exact J32
  · refine pr_ifF (tgt := 32) dX17_line_14 (by decide) (pc_eqF hc) ?_
    refine pr_aload_n dX17_line_17 rfl ?_
    obtain ⟨v4, hv4, hF⟩ := po_b hF
    refine pr_getI dX17_line_18 tf_17_73 (hv4) ?_
    refine pr_bipush (v := 24) dX17_line_21 (kb_24) ?_
    refine po_i hF (fun hc hF => ?_) (fun hc hF => ?_)
    · refine pr_icF (tgt := 32) dX17_line_23 (by decide) (pc_neF hc) ?_
      refine pr_aload_n dX17_line_26 rfl ?_
      refine pr_iconst (v := 4) dX17_line_27 (kc_4) ?_
      refine pr_iload_n dX17_line_28 rfl ?_
      obtain ⟨q5, hq5, hF⟩ := po_b hF
      refine po_i hq5 (fun hcl hq => ?_) (fun _ hq => nomatch hq)
      refine pr_V (as := [.int 4, .int q1]) (rest := []) dX17_line_29 cv_17_36 hcl rfl rfl rfl rfl (lb rfl) (lb rfl) (lb rfl) (ok_F_X16_bad hq) ?_
      cases hF
      exact J32
    · refine pr_icT (tgt := 32) dX17_line_23 (by decide) (pc_neT hc) ?_
      cases hF
      exact J32

def F_X16_isEnd (h : pm_H) (a0 : Nat) : Option (Int32) :=
  (pm_fI [(13, 1), (14, 1)] h a0).bind fun v1 =>
  (pm_fI [(13, 0), (14, 0)] h a0).bind fun v2 =>
  if v1 < v2 then
    some 0
  else
    some 1
theorem ok_F_X16_isEnd {d : Nat} {h : pm_H} {a0 : Nat} {q : Int32} (hF : F_X16_isEnd h a0 = some q) : pm_E (d + 0) 16 cX16_isEnd (some .boolean) 0 [.ref a0] [] h (some (.int q), h) := by
  unfold F_X16_isEnd at hF
  refine pr_aload_n dX16_isEnd_0 rfl ?_
  obtain ⟨v1, hv1, hF⟩ := po_b hF
  refine pr_getI dX16_isEnd_1 tf_16_19 (hv1) ?_
  refine pr_aload_n dX16_isEnd_4 rfl ?_
  obtain ⟨v2, hv2, hF⟩ := po_b hF
  refine pr_getI dX16_isEnd_5 tf_16_15 (hv2) ?_
  refine po_i hF (fun hc hF => ?_) (fun hc hF => ?_)
  · refine pr_icT (tgt := 15) dX16_isEnd_8 (by decide) (pc_ltT hc) ?_
    refine pr_iconst (v := 0) dX16_isEnd_15 (kc_0) ?_
    cases hF
    exact pr_iret dX16_isEnd_16 rfl nb_0 rfl
  · refine pr_icF (tgt := 15) dX16_isEnd_8 (by decide) (pc_ltF hc) ?_
    refine pr_iconst (v := 1) dX16_isEnd_11 (kc_1) ?_
    refine pr_goto (tgt := 16) dX16_isEnd_12 (by decide) ?_
    cases hF
    exact pr_iret dX16_isEnd_16 rfl nb_1 rfl

def F_X16_answer (h : pm_H) (a0 : Nat) (x1 : Int32) : Option (Int32) :=
  (if pm_cl_ h a0 = some 13 then F_X16_isGood h a0 else (if pm_cl_ h a0 = some 14 then F_X16_isGood h a0 else none)).bind fun q1 =>
  if q1 = 0 then
    (pm_fI [(13, 2), (14, 2)] h a0).bind fun v2 =>
    (pm_fI [(13, 3), (14, 3)] h a0).bind fun v3 =>
    some (((-1000) * v2) - v3)
  else
    some x1
theorem ok_F_X16_answer {d : Nat} {h : pm_H} {a0 : Nat} {x1 : Int32} {q : Int32} (hF : F_X16_answer h a0 x1 = some q) : pm_E (d + 1) 16 cX16_answer (some .int) 0 [.ref a0, .int x1] [] h (some (.int q), h) := by
  unfold F_X16_answer at hF
  refine pr_aload_n dX16_answer_0 rfl ?_
  obtain ⟨q1, hq1, hF⟩ := po_b hF
  refine pr_VD (as := []) (rest := []) (r := some (.int q1)) (h' := h) dX16_answer_1 cv_16_32 (po_i hq1 (fun hcl hq => pm_vok 13 _ hcl rfl (lb rfl) (lb rfl) (ok_F_X16_isGood hq)) (fun _ hq => po_i hq (fun hcl hq => pm_vok 14 _ hcl rfl (lb rfl) (lb rfl) (ok_F_X16_isGood hq)) (fun _ hq => nomatch hq))) rfl rfl rfl (lb rfl) ?_
  refine po_i hF (fun hc hF => ?_) (fun hc hF => ?_)
  · refine pr_ifT (tgt := 11) dX16_answer_4 (by decide) (pc_eqT hc) ?_
    refine pr_sipush (v := (-1000)) dX16_answer_11 (ks_m1000) ?_
    refine pr_aload_n dX16_answer_14 rfl ?_
    obtain ⟨v2, hv2, hF⟩ := po_b hF
    refine pr_getI dX16_answer_15 tf_16_26 (hv2) ?_
    refine pr_imul dX16_answer_18 ?_
    refine pr_aload_n dX16_answer_19 rfl ?_
    obtain ⟨v3, hv3, hF⟩ := po_b hF
    refine pr_getI dX16_answer_20 tf_16_29 (hv3) ?_
    refine pr_isub dX16_answer_23 ?_
    cases hF
    exact pr_iret dX16_answer_24 rfl rfl rfl
  · refine pr_ifF (tgt := 11) dX16_answer_4 (by decide) (pc_eqF hc) ?_
    refine pr_iload_n dX16_answer_7 rfl ?_
    refine pr_goto (tgt := 24) dX16_answer_8 (by decide) ?_
    cases hF
    exact pr_iret dX16_answer_24 rfl rfl rfl

def L_X17_read_4 : Nat → Nat → pm_H → Option (pm_H)
  | 0, _, _ => none
  | n + 1, x0, h =>
    (if pm_cl_ h x0 = some 13 then F_X16_isGood h x0 else none).bind fun q2 =>
    if q2 = 0 then
      some h
    else
      (if pm_cl_ h x0 = some 13 then F_X16_isEnd h x0 else none).bind fun q3 =>
      if q3 = 0 then
        (if pm_cl_ h x0 = some 13 then F_X16_here h x0 else none).bind fun q4 =>
        ((
          if q4 = 59 then
            some h
          else
            (if pm_cl_ h x0 = some 13 then F_X16_place h x0 else none).bind fun q5 =>
            (if pm_cl_ h x0 = some 13 then F_X16_bad h x0 1 q5 else none).bind fun q6 =>
            some q6
        ) : Option (pm_H)).bind fun q7 =>
        (if pm_cl_ q7 x0 = some 13 then F_X16_goesOn q7 x0 else none).bind fun q8 =>
        (if pm_cl_ q8 x0 = some 13 then F_X16_isGood q8 x0 else none).bind fun q9 =>
        if q9 = 0 then
          L_X17_read_4 n x0 q8
        else
          (if pm_cl_ q8 x0 = some 13 then F_X17_line n q8 x0 else none).bind fun q10 =>
          L_X17_read_4 n x0 q10
      else
        some h
theorem ok_L_X17_read_4 {d : Nat} : ∀ (n : Nat) {x0 : Nat} {h : pm_H} {q : pm_H} {res : Option Value × pm_H}, L_X17_read_4 n x0 h = some q → (pm_E (d + 5) 17 cX17_read (some .int) 54 [.ref x0] [] q res) → pm_E (d + 5) 17 cX17_read (some .int) 4 [.ref x0] [] h res := by
  intro n
  induction n with
  | zero =>
    intro x0 h q res hF hk
    rw [L_X17_read_4] at hF
    cases hF
  | succ n ih =>
    intro x0 h q res hF hk
    rw [L_X17_read_4] at hF
    refine pr_aload_n dX17_read_4 rfl ?_
    obtain ⟨q2, hq2, hF⟩ := po_b hF
    refine po_i hq2 (fun hcl hq => ?_) (fun _ hq => nomatch hq)
    refine pr_V (as := []) (rest := []) dX17_read_5 cv_17_40 hcl rfl rfl rfl rfl (lb rfl) (lb rfl) (lb rfl) (ok_F_X16_isGood hq) ?_
    refine po_i hF (fun hc hF => ?_) (fun hc hF => ?_)
    · refine pr_ifT (tgt := 54) dX17_read_8 (by decide) (pc_eqT hc) ?_
      cases hF
      exact hk
    · refine pr_ifF (tgt := 54) dX17_read_8 (by decide) (pc_eqF hc) ?_
      refine pr_aload_n dX17_read_11 rfl ?_
      obtain ⟨q3, hq3, hF⟩ := po_b hF
      refine po_i hq3 (fun hcl hq => ?_) (fun _ hq => nomatch hq)
      refine pr_V (as := []) (rest := []) dX17_read_12 cv_17_95 hcl rfl rfl rfl rfl (lb rfl) (lb rfl) (lb rfl) (ok_F_X16_isEnd hq) ?_
      refine po_i hF (fun hc hF => ?_) (fun hc hF => ?_)
      · refine pr_ifF (tgt := 54) dX17_read_15 (by decide) (pc_neF hc) ?_
        refine pr_aload_n dX17_read_18 rfl ?_
        obtain ⟨q4, hq4, hF⟩ := po_b hF
        refine po_i hq4 (fun hcl hq => ?_) (fun _ hq => nomatch hq)
        refine pr_V (as := []) (rest := []) dX17_read_19 cv_17_44 hcl rfl rfl rfl rfl (lb rfl) (lb rfl) (lb rfl) (ok_F_X16_here hq) ?_
        refine pr_bipush (v := 59) dX17_read_22 (kb_59) ?_
        obtain ⟨q7, hq7, hF⟩ := po_b hF
        have J36 : pm_E (d + 5) 17 cX17_read (some .int) 36 [.ref x0] [] q7 res := by
          refine pr_aload_n dX17_read_36 rfl ?_
          obtain ⟨q8, hq8, hF⟩ := po_b hF
          refine po_i hq8 (fun hcl hq => ?_) (fun _ hq => nomatch hq)
          refine pr_V (as := []) (rest := []) dX17_read_37 cv_17_47 hcl rfl rfl rfl rfl (lb rfl) (lb rfl) (lb rfl) (ok_F_X16_goesOn hq) ?_
          refine pr_aload_n dX17_read_40 rfl ?_
          obtain ⟨q9, hq9, hF⟩ := po_b hF
          refine po_i hq9 (fun hcl hq => ?_) (fun _ hq => nomatch hq)
          refine pr_V (as := []) (rest := []) dX17_read_41 cv_17_40 hcl rfl rfl rfl rfl (lb rfl) (lb rfl) (lb rfl) (ok_F_X16_isGood hq) ?_
          refine po_i hF (fun hc hF => ?_) (fun hc hF => ?_)
          · refine pr_ifT (tgt := 4) dX17_read_44 (by decide) (pc_eqT hc) ?_
            exact ih hF hk
          · refine pr_ifF (tgt := 4) dX17_read_44 (by decide) (pc_eqF hc) ?_
            refine pr_aload_n dX17_read_47 rfl ?_
            obtain ⟨q10, hq10, hF⟩ := po_b hF
            refine po_i hq10 (fun hcl hq => ?_) (fun _ hq => nomatch hq)
            refine pr_V (as := []) (rest := []) dX17_read_48 cv_17_92 hcl rfl rfl rfl rfl (lb rfl) (lb rfl) (lb rfl) (ok_F_X17_line hq) ?_
            refine pr_goto (tgt := 4) dX17_read_51 (by decide) ?_
            exact ih hF hk
        clear hF
        have hF := hq7
        refine po_i hF (fun hc hF => ?_) (fun hc hF => ?_)
        · refine pr_icT (tgt := 36) dX17_read_24 (by decide) (pc_eqT hc) ?_
          cases hF
          exact J36
        · refine pr_icF (tgt := 36) dX17_read_24 (by decide) (pc_eqF hc) ?_
          refine pr_aload_n dX17_read_27 rfl ?_
          refine pr_iconst (v := 1) dX17_read_28 (kc_1) ?_
          refine pr_aload_n dX17_read_29 rfl ?_
          obtain ⟨q5, hq5, hF⟩ := po_b hF
          refine po_i hq5 (fun hcl hq => ?_) (fun _ hq => nomatch hq)
          refine pr_V (as := []) (rest := [.int 1, .ref x0]) dX17_read_30 cv_17_28 hcl rfl rfl rfl rfl (lb rfl) (lb rfl) (lb rfl) (ok_F_X16_place hq) ?_
          obtain ⟨q6, hq6, hF⟩ := po_b hF
          refine po_i hq6 (fun hcl hq => ?_) (fun _ hq => nomatch hq)
          refine pr_V (as := [.int 1, .int q5]) (rest := []) dX17_read_33 cv_17_36 hcl rfl rfl rfl rfl (lb rfl) (lb rfl) (lb rfl) (ok_F_X16_bad hq) ?_
          cases hF
          exact J36
      · refine pr_ifT (tgt := 54) dX17_read_15 (by decide) (pc_neT hc) ?_
        cases hF
        exact hk
def F_X17_read (n : Nat) (h : pm_H) (a0 : Nat) : Option (Int32 × pm_H) :=
  (if pm_cl_ h a0 = some 13 then F_X17_line n h a0 else none).bind fun q1 =>
  (L_X17_read_4 n a0 q1).bind fun q11 =>
  (pm_fI [(13, 5)] q11 a0).bind fun v12 =>
  (if pm_cl_ q11 a0 = some 13 then F_X16_answer q11 a0 v12 else none).bind fun q13 =>
  some (q13, q11)
theorem ok_F_X17_read {d n : Nat} {h : pm_H} {a0 : Nat} {q : Int32 × pm_H} (hF : F_X17_read n h a0 = some q) : pm_E (d + 5) 17 cX17_read (some .int) 0 [.ref a0] [] h (some (.int q.1), q.2) := by
  unfold F_X17_read at hF
  refine pr_aload_n dX17_read_0 rfl ?_
  obtain ⟨q1, hq1, hF⟩ := po_b hF
  refine po_i hq1 (fun hcl hq => ?_) (fun _ hq => nomatch hq)
  refine pr_V (as := []) (rest := []) dX17_read_1 cv_17_92 hcl rfl rfl rfl rfl (lb rfl) (lb rfl) (lb rfl) (ok_F_X17_line hq) ?_
  obtain ⟨q11, hq11, hF⟩ := po_b hF
  refine ok_L_X17_read_4 n hq11 ?_
  refine pr_aload_n dX17_read_54 rfl ?_
  refine pr_aload_n dX17_read_55 rfl ?_
  obtain ⟨v12, hv12, hF⟩ := po_b hF
  refine pr_getI dX17_read_56 tf_17_73 (hv12) ?_
  obtain ⟨q13, hq13, hF⟩ := po_b hF
  refine po_i hq13 (fun hcl hq => ?_) (fun _ hq => nomatch hq)
  refine pr_V (as := [.int v12]) (rest := []) dX17_read_59 cv_17_98 hcl rfl rfl rfl rfl (lb rfl) (lb rfl) (lb rfl) (ok_F_X16_answer hq) ?_
  cases hF
  exact pr_iret dX17_read_62 rfl rfl rfl

def F_X0_orders (n : Nat) (h : pm_H) (a0 : Nat) (x1 : Int32) : Option (Int32 × pm_H) :=
  (F_X0_within x1 1 160).bind fun q1 =>
  if q1 = 0 then
    some ((-1), h)
  else
    (pm_fI [(0, 8)] h a0).bind fun v2 =>
    if v2 < x1 then
      some ((-1), h)
    else
      (pm_put [(0, 8, 0)] h a0 (.int 0)).bind fun h3 =>
      (F_X17_init n (pm_nw h3 13) h3.2.1 a0 x1).bind fun q4 =>
      (if pm_cl_ q4 h3.2.1 = some 13 then F_X17_read n q4 h3.2.1 else none).bind fun q5 =>
      if q5.1 < 0 then
        some (q5.1, q5.2)
      else
        (pm_fR [(0, 0)] q5.2 a0).bind fun v6 =>
        (pm_fR [(0, 1)] q5.2 a0).bind fun v7 =>
        (if pm_cl_ q5.2 v6 = some 1 then F_X1_takes n q5.2 v6 v7 else none).bind fun q8 =>
        some (q5.1, q8)
theorem ok_F_X0_orders {d n : Nat} {h : pm_H} {a0 : Nat} {x1 : Int32} {q : Int32 × pm_H} (hF : F_X0_orders n h a0 x1 = some q) : pm_E (d + 6) 0 cX0_orders (some .int) 0 [.ref a0, .int x1, pm_D, pm_D] [] h (some (.int q.1), q.2) := by
  unfold F_X0_orders at hF
  refine pr_iload_n dX0_orders_0 rfl ?_
  refine pr_iconst (v := 1) dX0_orders_1 (kc_1) ?_
  refine pr_sipush (v := 160) dX0_orders_2 (ks_160) ?_
  obtain ⟨q1, hq1, hF⟩ := po_b hF
  refine pr_S dX0_orders_5 cs_0_120 (as := [.int x1, .int 1, .int 160]) (rest := []) rfl rfl rfl (lb rfl) (lb rfl) (lb rfl) (ok_F_X0_within hq1) ?_
  refine po_i hF (fun hc hF => ?_) (fun hc hF => ?_)
  · refine pr_ifT (tgt := 19) dX0_orders_8 (by decide) (pc_eqT hc) ?_
    refine pr_iconst (v := (-1)) dX0_orders_19 (kc_m1) ?_
    cases hF
    exact pr_iret dX0_orders_20 rfl rfl rfl
  · refine pr_ifF (tgt := 19) dX0_orders_8 (by decide) (pc_eqF hc) ?_
    refine pr_iload_n dX0_orders_11 rfl ?_
    refine pr_aload_n dX0_orders_12 rfl ?_
    obtain ⟨v2, hv2, hF⟩ := po_b hF
    refine pr_getI dX0_orders_13 tf_0_113 (hv2) ?_
    refine po_i hF (fun hc hF => ?_) (fun hc hF => ?_)
    · refine pr_icF (tgt := 21) dX0_orders_16 (by decide) (pc_leF hc) ?_
      refine pr_iconst (v := (-1)) dX0_orders_19 (kc_m1) ?_
      cases hF
      exact pr_iret dX0_orders_20 rfl rfl rfl
    · refine pr_icT (tgt := 21) dX0_orders_16 (by decide) (pc_leT hc) ?_
      refine pr_aload_n dX0_orders_21 rfl ?_
      refine pr_iconst (v := 0) dX0_orders_22 (kc_0) ?_
      obtain ⟨h3, hh3, hF⟩ := po_b hF
      refine pr_put dX0_orders_23 tp_0_113 (hh3) ?_
      refine pr_new (c := 13) dX0_orders_26 rfl ?_
      refine pr_dup dX0_orders_29 rfl ?_
      refine pr_aload_n dX0_orders_30 rfl ?_
      refine pr_iload_n dX0_orders_31 rfl ?_
      obtain ⟨q4, hq4, hF⟩ := po_b hF
      refine pr_I dX0_orders_32 ci_0_138 (as := [.ref a0, .int x1]) (rest := [.ref h3.2.1]) rfl rfl rfl (lb rfl) (lb rfl) (lb rfl) (ok_F_X17_init hq4) ?_
      refine pr_astore_n (L' := [.ref a0, .int x1, .ref h3.2.1, pm_D]) dX0_orders_35 (Or.inr ⟨_, rfl⟩) rfl ?_
      refine pr_aload_n dX0_orders_36 rfl ?_
      obtain ⟨q5, hq5, hF⟩ := po_b hF
      refine po_i hq5 (fun hcl hq => ?_) (fun _ hq => nomatch hq)
      refine pr_V (as := []) (rest := []) dX0_orders_37 cv_0_139 hcl rfl rfl rfl rfl (lb rfl) (lb rfl) (lb rfl) (ok_F_X17_read hq) ?_
      refine pr_istore_n (L' := [.ref a0, .int x1, .ref h3.2.1, .int q5.1]) dX0_orders_40 rfl ?_
      refine pr_iload_n dX0_orders_41 rfl ?_
      refine po_i hF (fun hc hF => ?_) (fun hc hF => ?_)
      · refine pr_ifT (tgt := 56) dX0_orders_42 (by decide) (pc_ltT hc) ?_
        refine pr_iload_n dX0_orders_56 rfl ?_
        cases hF
        exact pr_iret dX0_orders_57 rfl rfl rfl
      · refine pr_ifF (tgt := 56) dX0_orders_42 (by decide) (pc_ltF hc) ?_
        refine pr_aload_n dX0_orders_45 rfl ?_
        obtain ⟨v6, hv6, hF⟩ := po_b hF
        refine pr_getR dX0_orders_46 tf_0_16 (hv6) ?_
        refine pr_aload_n dX0_orders_49 rfl ?_
        obtain ⟨v7, hv7, hF⟩ := po_b hF
        refine pr_getR dX0_orders_50 tf_0_52 (hv7) ?_
        obtain ⟨q8, hq8, hF⟩ := po_b hF
        refine po_i hq8 (fun hcl hq => ?_) (fun _ hq => nomatch hq)
        refine pr_V (as := [.ref v7]) (rest := []) dX0_orders_53 cv_0_140 hcl rfl rfl rfl rfl (lb rfl) (lb rfl) (lb rfl) (ok_F_X1_takes hq) ?_
        refine pr_iload_n dX0_orders_56 rfl ?_
        cases hF
        exact pr_iret dX0_orders_57 rfl rfl rfl

def L_X18_init_21 : Nat → Nat → Nat → Int32 → pm_H → Option (pm_H)
  | 0, _, _, _, _ => none
  | n + 1, x0, x1, x3, h =>
    if x3 < 16 then
      (pm_fR [(14, 5)] h x0).bind fun v5 =>
      (pm_fR [(0, 0)] h x1).bind fun v6 =>
      (pm_fR [(1, 0)] h v6).bind fun v7 =>
      (pm_ai 0 h v7 x3).bind fun v8 =>
      (pm_si 0 h v5 x3 v8).bind fun h9 =>
      L_X18_init_21 n x0 x1 (x3 + 1) h9
    else
      some h
theorem ok_L_X18_init_21 {d : Nat} : ∀ (n : Nat) {x0 : Nat} {x1 : Nat} {x3 : Int32} {w2 : Value} {h : pm_H} {q : pm_H} {res : Option Value × pm_H}, L_X18_init_21 n x0 x1 x3 h = some q → pm_nolong w2 = true → (∀ z3 : Value, pm_nolong z3 = true → pm_E (d + 1) 68 cX18_init (none) 48 [.ref x0, .ref x1, w2, z3] [] q res) → pm_E (d + 1) 68 cX18_init (none) 21 [.ref x0, .ref x1, w2, .int x3] [] h res := by
  intro n
  induction n with
  | zero =>
    intro x0 x1 x3 w2 h q res hF hw2 hk
    rw [L_X18_init_21] at hF
    cases hF
  | succ n ih =>
    intro x0 x1 x3 w2 h q res hF hw2 hk
    rw [L_X18_init_21] at hF
    refine pr_iload_n dX18_init_21 rfl ?_
    refine pr_bipush (v := 16) dX18_init_22 (kb_16) ?_
    refine po_i hF (fun hc hF => ?_) (fun hc hF => ?_)
    · refine pr_icF (tgt := 48) dX18_init_24 (by decide) (pc_geF hc) ?_
      refine pr_aload_n dX18_init_27 rfl ?_
      obtain ⟨v5, hv5, hF⟩ := po_b hF
      refine pr_getR dX18_init_28 tf_68_15 (hv5) ?_
      refine pr_iload_n dX18_init_31 rfl ?_
      refine pr_aload_n dX18_init_32 rfl ?_
      obtain ⟨v6, hv6, hF⟩ := po_b hF
      refine pr_getR dX18_init_33 tf_68_19 (hv6) ?_
      obtain ⟨v7, hv7, hF⟩ := po_b hF
      refine pr_getR dX18_init_36 tf_68_23 (hv7) ?_
      refine pr_iload_n dX18_init_39 rfl ?_
      obtain ⟨v8, hv8, hF⟩ := po_b hF
      refine pr_iald dX18_init_40 (hv8) ?_
      obtain ⟨h9, hh9, hF⟩ := po_b hF
      refine pr_iast dX18_init_41 (hh9) ?_
      refine pr_iinc (v := 1) (L' := [.ref x0, .ref x1, w2, .int (x3 + 1)]) dX18_init_42 rfl (kc_1) (pm_st_w (i := 2) rfl rfl hw2 rfl) ?_
      refine pr_goto (tgt := 21) dX18_init_45 (by decide) ?_
      exact ih hF hw2 hk
    · refine pr_icT (tgt := 48) dX18_init_24 (by decide) (pc_geT hc) ?_
      cases hF
      exact hk _ rfl
def F_X18_init (n : Nat) (h : pm_H) (a0 : Nat) (a1 : Nat) (x2 : Int32) : Option (pm_H) :=
  (pm_put [(14, 9, 2)] h a0 (.ref a1)).bind fun h1 =>
  (F_X16_init h1 a0 a1 x2).bind fun q2 =>
  (pm_na q2 0 16).bind fun h3 =>
  (pm_put [(14, 5, 2)] h3 a0 (.ref q2.2.1)).bind fun h4 =>
  (L_X18_init_21 n a0 a1 0 h4).bind fun q10 =>
  some q10
theorem ok_F_X18_init {d n : Nat} {h : pm_H} {a0 : Nat} {a1 : Nat} {x2 : Int32} {q : pm_H} (hF : F_X18_init n h a0 a1 x2 = some q) : pm_E (d + 1) 68 cX18_init (none) 0 [.ref a0, .ref a1, .int x2, pm_D] [] h (none, q) := by
  unfold F_X18_init at hF
  refine pr_aload_n dX18_init_0 rfl ?_
  refine pr_aload_n dX18_init_1 rfl ?_
  obtain ⟨h1, hh1, hF⟩ := po_b hF
  refine pr_put dX18_init_2 tp_68_3 (hh1) ?_
  refine pr_aload_n dX18_init_5 rfl ?_
  refine pr_aload_n dX18_init_6 rfl ?_
  refine pr_iload_n dX18_init_7 rfl ?_
  obtain ⟨q2, hq2, hF⟩ := po_b hF
  refine pr_I dX18_init_8 ci_68_9 (as := [.ref a1, .int x2]) (rest := []) rfl rfl rfl (lb rfl) (lb rfl) (lb rfl) (ok_F_X16_init hq2) ?_
  refine pr_aload_n dX18_init_11 rfl ?_
  refine pr_bipush (v := 16) dX18_init_12 (kb_16) ?_
  obtain ⟨h3, hh3, hF⟩ := po_b hF
  refine pr_newa (t := 0) dX18_init_14 rfl (hh3) ?_
  obtain ⟨h4, hh4, hF⟩ := po_b hF
  refine pr_put dX18_init_16 tp_68_15 (hh4) ?_
  refine pr_iconst (v := 0) dX18_init_19 (kc_0) ?_
  refine pr_istore_n (L' := [.ref a0, .ref a1, .int x2, .int 0]) dX18_init_20 rfl ?_
  obtain ⟨q10, hq10, hF⟩ := po_b hF
  refine ok_L_X18_init_21 n hq10 rfl (fun z3 hz3 => ?_)
  cases hF
  exact pr_vret dX18_init_48 rfl rfl

def F_X0_has (x0 : Int32) (x1 : Int32) : Option (Int32) :=
  if ((pm_shr x0 x1) &&& 1) = 1 then
    some 1
  else
    some 0
theorem ok_F_X0_has {d : Nat} {h : pm_H} {x0 : Int32} {x1 : Int32} {q : Int32} (hF : F_X0_has x0 x1 = some q) : pm_E (d + 0) 0 cX0_has (some .boolean) 0 [.int x0, .int x1] [] h (some (.int q), h) := by
  unfold F_X0_has at hF
  refine pr_iload_n dX0_has_0 rfl ?_
  refine pr_iload_n dX0_has_1 rfl ?_
  refine pr_ishr dX0_has_2 ?_
  refine pr_iconst (v := 1) dX0_has_3 (kc_1) ?_
  refine pr_iand dX0_has_4 ?_
  refine pr_iconst (v := 1) dX0_has_5 (kc_1) ?_
  refine po_i hF (fun hc hF => ?_) (fun hc hF => ?_)
  · refine pr_icF (tgt := 13) dX0_has_6 (by decide) (pc_neF hc) ?_
    refine pr_iconst (v := 1) dX0_has_9 (kc_1) ?_
    refine pr_goto (tgt := 14) dX0_has_10 (by decide) ?_
    cases hF
    exact pr_iret dX0_has_14 rfl nb_1 rfl
  · refine pr_icT (tgt := 13) dX0_has_6 (by decide) (pc_neT hc) ?_
    refine pr_iconst (v := 0) dX0_has_13 (kc_0) ?_
    cases hF
    exact pr_iret dX0_has_14 rfl nb_0 rfl

def F_X18_two (h : pm_H) (a0 : Nat) : Option (pm_H) :=
  (if pm_cl_ h a0 = some 14 then F_X16_place h a0 else none).bind fun q1 =>
  (if pm_cl_ h a0 = some 14 then F_X16_person h a0 else none).bind fun q2 =>
  (if pm_cl_ q2.2 a0 = some 14 then F_X16_isGood q2.2 a0 else none).bind fun q3 =>
  ((
    if q3 = 0 then
      some q2.2
    else
      (pm_fR [(14, 9)] q2.2 a0).bind fun v4 =>
      (pm_fR [(0, 0)] q2.2 v4).bind fun v5 =>
      (if pm_cl_ q2.2 v5 = some 1 then F_X1_isTold q2.2 v5 q2.1 else none).bind fun q6 =>
      if q6 = 0 then
        (if pm_cl_ q2.2 a0 = some 14 then F_X16_bad q2.2 a0 7 q1 else none).bind fun q7 =>
        some q7
      else
        some q2.2
  ) : Option (pm_H)).bind fun q8 =>
  (if pm_cl_ q8 a0 = some 14 then F_X16_isGood q8 a0 else none).bind fun q9 =>
  ((
    if q9 = 0 then
      some q8
    else
      (pm_fR [(14, 9)] q8 a0).bind fun v10 =>
      (pm_fR [(0, 0)] q8 v10).bind fun v11 =>
      (pm_fI [(1, 3)] q8 v11).bind fun v12 =>
      (F_X0_has v12 q2.1).bind fun q13 =>
      if q13 = 0 then
        (if pm_cl_ q8 a0 = some 14 then F_X16_bad q8 a0 8 q1 else none).bind fun q14 =>
        some q14
      else
        (pm_fI [(14, 6)] q8 a0).bind fun v15 =>
        (F_X0_has v15 q2.1).bind fun q16 =>
        if q16 = 0 then
          some q8
        else
          (if pm_cl_ q8 a0 = some 14 then F_X16_bad q8 a0 8 q1 else none).bind fun q17 =>
          some q17
  ) : Option (pm_H)).bind fun q18 =>
  (if pm_cl_ q18 a0 = some 14 then F_X16_place q18 a0 else none).bind fun q19 =>
  (if pm_cl_ q18 a0 = some 14 then F_X16_person q18 a0 else none).bind fun q20 =>
  (if pm_cl_ q20.2 a0 = some 14 then F_X16_isGood q20.2 a0 else none).bind fun q21 =>
  ((
    if q21 = 0 then
      some q20.2
    else
    if q2.1 = q20.1 then
      (if pm_cl_ q20.2 a0 = some 14 then F_X16_bad q20.2 a0 6 q19 else none).bind fun q22 =>
      some q22
    else
      some q20.2
  ) : Option (pm_H)).bind fun q23 =>
  (if pm_cl_ q23 a0 = some 14 then F_X16_isGood q23 a0 else none).bind fun q24 =>
  ((
    if q24 = 0 then
      some q23
    else
      (pm_fR [(14, 9)] q23 a0).bind fun v25 =>
      (pm_fR [(0, 0)] q23 v25).bind fun v26 =>
      (if pm_cl_ q23 v26 = some 1 then F_X1_isTold q23 v26 q20.1 else none).bind fun q27 =>
      if q27 = 0 then
        (if pm_cl_ q23 a0 = some 14 then F_X16_bad q23 a0 7 q19 else none).bind fun q28 =>
        some q28
      else
        some q23
  ) : Option (pm_H)).bind fun q29 =>
  (if pm_cl_ q29 a0 = some 14 then F_X16_isGood q29 a0 else none).bind fun q30 =>
  ((
    if q30 = 0 then
      some q29
    else
      (pm_fI [(14, 6)] q29 a0).bind fun v31 =>
      (F_X0_has v31 q20.1).bind fun q32 =>
      if q32 = 0 then
        (pm_fR [(14, 9)] q29 a0).bind fun v34 =>
        (pm_fR [(0, 0)] q29 v34).bind fun v35 =>
        (pm_fR [(1, 1)] q29 v35).bind fun v36 =>
        (pm_ai 0 q29 v36 q2.1).bind fun v37 =>
        (F_X0_has v37 q20.1).bind fun q38 =>
        if q38 = 0 then
          some q29
        else
          (if pm_cl_ q29 a0 = some 14 then F_X16_bad q29 a0 9 q19 else none).bind fun q39 =>
          some q39
      else
        (if pm_cl_ q29 a0 = some 14 then F_X16_bad q29 a0 9 q19 else none).bind fun q33 =>
        some q33
  ) : Option (pm_H)).bind fun q40 =>
  (if pm_cl_ q40 a0 = some 14 then F_X16_isGood q40 a0 else none).bind fun q41 =>
  if q41 = 0 then
    some q40
  else
    (pm_fI [(14, 6)] q40 a0).bind fun v42 =>
    (pm_put [(14, 6, 0)] q40 a0 (.int (v42 ||| (pm_shl 1 q2.1)))).bind fun h43 =>
    (pm_fI [(14, 7)] h43 a0).bind fun v44 =>
    (pm_put [(14, 7, 0)] h43 a0 (.int (v44 + 1))).bind fun h45 =>
    (pm_fI [(14, 8)] h45 a0).bind fun v46 =>
    (pm_fR [(14, 5)] h45 a0).bind fun v47 =>
    (pm_ai 0 h45 v47 q20.1).bind fun v48 =>
    (pm_fR [(14, 9)] h45 a0).bind fun v49 =>
    (pm_fR [(0, 0)] h45 v49).bind fun v50 =>
    (pm_fR [(1, 0)] h45 v50).bind fun v51 =>
    (pm_ai 0 h45 v51 q2.1).bind fun v52 =>
    (F_J2_abs (v48 - v52)).bind fun q53 =>
    (pm_put [(14, 8, 0)] h45 a0 (.int (v46 + q53))).bind fun h54 =>
    (pm_fR [(14, 5)] h54 a0).bind fun v55 =>
    (pm_fR [(14, 9)] h54 a0).bind fun v56 =>
    (pm_fR [(0, 0)] h54 v56).bind fun v57 =>
    (pm_fR [(1, 0)] h54 v57).bind fun v58 =>
    (pm_ai 0 h54 v58 q2.1).bind fun v59 =>
    (pm_si 0 h54 v55 q20.1 v59).bind fun h60 =>
    some h60
theorem ok_F_X18_two {d : Nat} {h : pm_H} {a0 : Nat} {q : pm_H} (hF : F_X18_two h a0 = some q) : pm_E (d + 2) 18 cX18_two (none) 0 [.ref a0, pm_D, pm_D, pm_D, pm_D] [] h (none, q) := by
  unfold F_X18_two at hF
  refine pr_aload_n dX18_two_0 rfl ?_
  obtain ⟨q1, hq1, hF⟩ := po_b hF
  refine po_i hq1 (fun hcl hq => ?_) (fun _ hq => nomatch hq)
  refine pr_V (as := []) (rest := []) dX18_two_1 cv_18_28 hcl rfl rfl rfl rfl (lb rfl) (lb rfl) (lb rfl) (ok_F_X16_place hq) ?_
  refine pr_istore_n (L' := [.ref a0, .int q1, pm_D, pm_D, pm_D]) dX18_two_4 rfl ?_
  refine pr_aload_n dX18_two_5 rfl ?_
  obtain ⟨q2, hq2, hF⟩ := po_b hF
  refine po_i hq2 (fun hcl hq => ?_) (fun _ hq => nomatch hq)
  refine pr_V (as := []) (rest := []) dX18_two_6 cv_18_32 hcl rfl rfl rfl rfl (lb rfl) (lb rfl) (lb rfl) (ok_F_X16_person hq) ?_
  refine pr_istore_n (L' := [.ref a0, .int q1, .int q2.1, pm_D, pm_D]) dX18_two_9 rfl ?_
  refine pr_aload_n dX18_two_10 rfl ?_
  obtain ⟨q3, hq3, hF⟩ := po_b hF
  refine po_i hq3 (fun hcl hq => ?_) (fun _ hq => nomatch hq)
  refine pr_V (as := []) (rest := []) dX18_two_11 cv_18_35 hcl rfl rfl rfl rfl (lb rfl) (lb rfl) (lb rfl) (ok_F_X16_isGood hq) ?_
  obtain ⟨q8, hq8, hF⟩ := po_b hF
  have J38 : pm_E (d + 2) 18 cX18_two (none) 38 [.ref a0, .int q1, .int q2.1, pm_D, pm_D] [] q8 (none, q) := by
    refine pr_aload_n dX18_two_38 rfl ?_
    obtain ⟨q9, hq9, hF⟩ := po_b hF
    refine po_i hq9 (fun hcl hq => ?_) (fun _ hq => nomatch hq)
    refine pr_V (as := []) (rest := []) dX18_two_39 cv_18_35 hcl rfl rfl rfl rfl (lb rfl) (lb rfl) (lb rfl) (ok_F_X16_isGood hq) ?_
    obtain ⟨q18, hq18, hF⟩ := po_b hF
    have J80 : pm_E (d + 2) 18 cX18_two (none) 80 [.ref a0, .int q1, .int q2.1, pm_D, pm_D] [] q18 (none, q) := by
      refine pr_aload_n dX18_two_80 rfl ?_
      obtain ⟨q19, hq19, hF⟩ := po_b hF
      refine po_i hq19 (fun hcl hq => ?_) (fun _ hq => nomatch hq)
      refine pr_V (as := []) (rest := []) dX18_two_81 cv_18_28 hcl rfl rfl rfl rfl (lb rfl) (lb rfl) (lb rfl) (ok_F_X16_place hq) ?_
      refine pr_istore_n (L' := [.ref a0, .int q1, .int q2.1, .int q19, pm_D]) dX18_two_84 rfl ?_
      refine pr_aload_n dX18_two_85 rfl ?_
      obtain ⟨q20, hq20, hF⟩ := po_b hF
      refine po_i hq20 (fun hcl hq => ?_) (fun _ hq => nomatch hq)
      refine pr_V (as := []) (rest := []) dX18_two_86 cv_18_32 hcl rfl rfl rfl rfl (lb rfl) (lb rfl) (lb rfl) (ok_F_X16_person hq) ?_
      refine pr_istore (L' := [.ref a0, .int q1, .int q2.1, .int q19, .int q20.1]) dX18_two_89 rfl ?_
      refine pr_aload_n dX18_two_91 rfl ?_
      obtain ⟨q21, hq21, hF⟩ := po_b hF
      refine po_i hq21 (fun hcl hq => ?_) (fun _ hq => nomatch hq)
      refine pr_V (as := []) (rest := []) dX18_two_92 cv_18_35 hcl rfl rfl rfl rfl (lb rfl) (lb rfl) (lb rfl) (ok_F_X16_isGood hq) ?_
      obtain ⟨q23, hq23, hF⟩ := po_b hF
      have J111 : pm_E (d + 2) 18 cX18_two (none) 111 [.ref a0, .int q1, .int q2.1, .int q19, .int q20.1] [] q23 (none, q) := by
        refine pr_aload_n dX18_two_111 rfl ?_
        obtain ⟨q24, hq24, hF⟩ := po_b hF
        refine po_i hq24 (fun hcl hq => ?_) (fun _ hq => nomatch hq)
        refine pr_V (as := []) (rest := []) dX18_two_112 cv_18_35 hcl rfl rfl rfl rfl (lb rfl) (lb rfl) (lb rfl) (ok_F_X16_isGood hq) ?_
        obtain ⟨q29, hq29, hF⟩ := po_b hF
        have J140 : pm_E (d + 2) 18 cX18_two (none) 140 [.ref a0, .int q1, .int q2.1, .int q19, .int q20.1] [] q29 (none, q) := by
          refine pr_aload_n dX18_two_140 rfl ?_
          obtain ⟨q30, hq30, hF⟩ := po_b hF
          refine po_i hq30 (fun hcl hq => ?_) (fun _ hq => nomatch hq)
          refine pr_V (as := []) (rest := []) dX18_two_141 cv_18_35 hcl rfl rfl rfl rfl (lb rfl) (lb rfl) (lb rfl) (ok_F_X16_isGood hq) ?_
          obtain ⟨q40, hq40, hF⟩ := po_b hF
          have J186 : pm_E (d + 2) 18 cX18_two (none) 186 [.ref a0, .int q1, .int q2.1, .int q19, .int q20.1] [] q40 (none, q) := by
            refine pr_aload_n dX18_two_186 rfl ?_
            obtain ⟨q41, hq41, hF⟩ := po_b hF
            refine po_i hq41 (fun hcl hq => ?_) (fun _ hq => nomatch hq)
            refine pr_V (as := []) (rest := []) dX18_two_187 cv_18_35 hcl rfl rfl rfl rfl (lb rfl) (lb rfl) (lb rfl) (ok_F_X16_isGood hq) ?_
            refine po_i hF (fun hc hF => ?_) (fun hc hF => ?_)
            · refine pr_ifF (tgt := 194) dX18_two_190 (by decide) (pc_neF hc) ?_
              cases hF
              exact pr_vret dX18_two_193 rfl rfl
            · refine pr_ifT (tgt := 194) dX18_two_190 (by decide) (pc_neT hc) ?_
              refine pr_aload_n dX18_two_194 rfl ?_
              refine pr_dup dX18_two_195 rfl ?_
              obtain ⟨v42, hv42, hF⟩ := po_b hF
              refine pr_getI dX18_two_196 tf_18_55 (hv42) ?_
              refine pr_iconst (v := 1) dX18_two_199 (kc_1) ?_
              refine pr_iload_n dX18_two_200 rfl ?_
              refine pr_ishl dX18_two_201 ?_
              refine pr_ior dX18_two_202 ?_
              obtain ⟨h43, hh43, hF⟩ := po_b hF
              refine pr_put dX18_two_203 tp_18_55 (hh43) ?_
              refine pr_aload_n dX18_two_206 rfl ?_
              refine pr_dup dX18_two_207 rfl ?_
              obtain ⟨v44, hv44, hF⟩ := po_b hF
              refine pr_getI dX18_two_208 tf_18_61 (hv44) ?_
              refine pr_iconst (v := 1) dX18_two_211 (kc_1) ?_
              refine pr_iadd dX18_two_212 ?_
              obtain ⟨h45, hh45, hF⟩ := po_b hF
              refine pr_put dX18_two_213 tp_18_61 (hh45) ?_
              refine pr_aload_n dX18_two_216 rfl ?_
              refine pr_dup dX18_two_217 rfl ?_
              obtain ⟨v46, hv46, hF⟩ := po_b hF
              refine pr_getI dX18_two_218 tf_18_64 (hv46) ?_
              refine pr_aload_n dX18_two_221 rfl ?_
              obtain ⟨v47, hv47, hF⟩ := po_b hF
              refine pr_getR dX18_two_222 tf_18_15 (hv47) ?_
              refine pr_iload dX18_two_225 rfl ?_
              obtain ⟨v48, hv48, hF⟩ := po_b hF
              refine pr_iald dX18_two_227 (hv48) ?_
              refine pr_aload_n dX18_two_228 rfl ?_
              obtain ⟨v49, hv49, hF⟩ := po_b hF
              refine pr_getR dX18_two_229 tf_18_3 (hv49) ?_
              obtain ⟨v50, hv50, hF⟩ := po_b hF
              refine pr_getR dX18_two_232 tf_18_19 (hv50) ?_
              obtain ⟨v51, hv51, hF⟩ := po_b hF
              refine pr_getR dX18_two_235 tf_18_23 (hv51) ?_
              refine pr_iload_n dX18_two_238 rfl ?_
              obtain ⟨v52, hv52, hF⟩ := po_b hF
              refine pr_iald dX18_two_239 (hv52) ?_
              refine pr_isub dX18_two_240 ?_
              obtain ⟨q53, hq53, hF⟩ := po_b hF
              refine pr_S dX18_two_241 cs_18_67 (as := [.int (v48 - v52)]) (rest := [.int v46, .ref a0]) rfl rfl rfl (lb rfl) (lb rfl) (lb rfl) (ok_F_J2_abs hq53) ?_
              refine pr_iadd dX18_two_244 ?_
              obtain ⟨h54, hh54, hF⟩ := po_b hF
              refine pr_put dX18_two_245 tp_18_64 (hh54) ?_
              refine pr_aload_n dX18_two_248 rfl ?_
              obtain ⟨v55, hv55, hF⟩ := po_b hF
              refine pr_getR dX18_two_249 tf_18_15 (hv55) ?_
              refine pr_iload dX18_two_252 rfl ?_
              refine pr_aload_n dX18_two_254 rfl ?_
              obtain ⟨v56, hv56, hF⟩ := po_b hF
              refine pr_getR dX18_two_255 tf_18_3 (hv56) ?_
              obtain ⟨v57, hv57, hF⟩ := po_b hF
              refine pr_getR dX18_two_258 tf_18_19 (hv57) ?_
              obtain ⟨v58, hv58, hF⟩ := po_b hF
              refine pr_getR dX18_two_261 tf_18_23 (hv58) ?_
              refine pr_iload_n dX18_two_264 rfl ?_
              obtain ⟨v59, hv59, hF⟩ := po_b hF
              refine pr_iald dX18_two_265 (hv59) ?_
              obtain ⟨h60, hh60, hF⟩ := po_b hF
              refine pr_iast dX18_two_266 (hh60) ?_
              cases hF
              exact pr_vret dX18_two_267 rfl rfl
          clear hF
          have hF := hq40
          refine po_i hF (fun hc hF => ?_) (fun hc hF => ?_)
          · refine pr_ifT (tgt := 186) dX18_two_144 (by decide) (pc_eqT hc) ?_
            cases hF
            exact J186
          · refine pr_ifF (tgt := 186) dX18_two_144 (by decide) (pc_eqF hc) ?_
            refine pr_aload_n dX18_two_147 rfl ?_
            obtain ⟨v31, hv31, hF⟩ := po_b hF
            refine pr_getI dX18_two_148 tf_18_55 (hv31) ?_
            refine pr_iload dX18_two_151 rfl ?_
            obtain ⟨q32, hq32, hF⟩ := po_b hF
            refine pr_S dX18_two_153 cs_18_51 (as := [.int v31, .int q20.1]) (rest := []) rfl rfl rfl (lb rfl) (lb rfl) (lb rfl) (ok_F_X0_has hq32) ?_
            refine po_i hF (fun hc hF => ?_) (fun hc hF => ?_)
            · refine pr_ifF (tgt := 179) dX18_two_156 (by decide) (pc_neF hc) ?_
              refine pr_aload_n dX18_two_159 rfl ?_
              obtain ⟨v34, hv34, hF⟩ := po_b hF
              refine pr_getR dX18_two_160 tf_18_3 (hv34) ?_
              obtain ⟨v35, hv35, hF⟩ := po_b hF
              refine pr_getR dX18_two_163 tf_18_19 (hv35) ?_
              obtain ⟨v36, hv36, hF⟩ := po_b hF
              refine pr_getR dX18_two_166 tf_18_58 (hv36) ?_
              refine pr_iload_n dX18_two_169 rfl ?_
              obtain ⟨v37, hv37, hF⟩ := po_b hF
              refine pr_iald dX18_two_170 (hv37) ?_
              refine pr_iload dX18_two_171 rfl ?_
              obtain ⟨q38, hq38, hF⟩ := po_b hF
              refine pr_S dX18_two_173 cs_18_51 (as := [.int v37, .int q20.1]) (rest := []) rfl rfl rfl (lb rfl) (lb rfl) (lb rfl) (ok_F_X0_has hq38) ?_
              refine po_i hF (fun hc hF => ?_) (fun hc hF => ?_)
              · refine pr_ifT (tgt := 186) dX18_two_176 (by decide) (pc_eqT hc) ?_
                cases hF
                exact J186
              · refine pr_ifF (tgt := 186) dX18_two_176 (by decide) (pc_eqF hc) ?_
                refine pr_aload_n dX18_two_179 rfl ?_
                refine pr_bipush (v := 9) dX18_two_180 (kb_9) ?_
                refine pr_iload_n dX18_two_182 rfl ?_
                obtain ⟨q39, hq39, hF⟩ := po_b hF
                refine po_i hq39 (fun hcl hq => ?_) (fun _ hq => nomatch hq)
                refine pr_V (as := [.int 9, .int q19]) (rest := []) dX18_two_183 cv_18_43 hcl rfl rfl rfl rfl (lb rfl) (lb rfl) (lb rfl) (ok_F_X16_bad hq) ?_
                cases hF
                exact J186
            · refine pr_ifT (tgt := 179) dX18_two_156 (by decide) (pc_neT hc) ?_
              refine pr_aload_n dX18_two_179 rfl ?_
              refine pr_bipush (v := 9) dX18_two_180 (kb_9) ?_
              refine pr_iload_n dX18_two_182 rfl ?_
              obtain ⟨q33, hq33, hF⟩ := po_b hF
              refine po_i hq33 (fun hcl hq => ?_) (fun _ hq => nomatch hq)
              refine pr_V (as := [.int 9, .int q19]) (rest := []) dX18_two_183 cv_18_43 hcl rfl rfl rfl rfl (lb rfl) (lb rfl) (lb rfl) (ok_F_X16_bad hq) ?_
              cases hF
              exact J186
        clear hF
        have hF := hq29
        refine po_i hF (fun hc hF => ?_) (fun hc hF => ?_)
        · refine pr_ifT (tgt := 140) dX18_two_115 (by decide) (pc_eqT hc) ?_
          cases hF
          exact J140
        · refine pr_ifF (tgt := 140) dX18_two_115 (by decide) (pc_eqF hc) ?_
          refine pr_aload_n dX18_two_118 rfl ?_
          obtain ⟨v25, hv25, hF⟩ := po_b hF
          refine pr_getR dX18_two_119 tf_18_3 (hv25) ?_
          obtain ⟨v26, hv26, hF⟩ := po_b hF
          refine pr_getR dX18_two_122 tf_18_19 (hv26) ?_
          refine pr_iload dX18_two_125 rfl ?_
          obtain ⟨q27, hq27, hF⟩ := po_b hF
          refine po_i hq27 (fun hcl hq => ?_) (fun _ hq => nomatch hq)
          refine pr_V (as := [.int q20.1]) (rest := []) dX18_two_127 cv_18_39 hcl rfl rfl rfl rfl (lb rfl) (lb rfl) (lb rfl) (ok_F_X1_isTold hq) ?_
          refine po_i hF (fun hc hF => ?_) (fun hc hF => ?_)
          · refine pr_ifF (tgt := 140) dX18_two_130 (by decide) (pc_neF hc) ?_
            refine pr_aload_n dX18_two_133 rfl ?_
            refine pr_bipush (v := 7) dX18_two_134 (kb_7) ?_
            refine pr_iload_n dX18_two_136 rfl ?_
            obtain ⟨q28, hq28, hF⟩ := po_b hF
            refine po_i hq28 (fun hcl hq => ?_) (fun _ hq => nomatch hq)
            refine pr_V (as := [.int 7, .int q19]) (rest := []) dX18_two_137 cv_18_43 hcl rfl rfl rfl rfl (lb rfl) (lb rfl) (lb rfl) (ok_F_X16_bad hq) ?_
            cases hF
            exact J140
          · refine pr_ifT (tgt := 140) dX18_two_130 (by decide) (pc_neT hc) ?_
            cases hF
            exact J140
      clear hF
      have hF := hq23
      refine po_i hF (fun hc hF => ?_) (fun hc hF => ?_)
      · refine pr_ifT (tgt := 111) dX18_two_95 (by decide) (pc_eqT hc) ?_
        cases hF
        exact J111
      · refine pr_ifF (tgt := 111) dX18_two_95 (by decide) (pc_eqF hc) ?_
        refine pr_iload_n dX18_two_98 rfl ?_
        refine pr_iload dX18_two_99 rfl ?_
        refine po_i hF (fun hc hF => ?_) (fun hc hF => ?_)
        · refine pr_icF (tgt := 111) dX18_two_101 (by decide) (pc_neF hc) ?_
          refine pr_aload_n dX18_two_104 rfl ?_
          refine pr_bipush (v := 6) dX18_two_105 (kb_6) ?_
          refine pr_iload_n dX18_two_107 rfl ?_
          obtain ⟨q22, hq22, hF⟩ := po_b hF
          refine po_i hq22 (fun hcl hq => ?_) (fun _ hq => nomatch hq)
          refine pr_V (as := [.int 6, .int q19]) (rest := []) dX18_two_108 cv_18_43 hcl rfl rfl rfl rfl (lb rfl) (lb rfl) (lb rfl) (ok_F_X16_bad hq) ?_
          cases hF
          exact J111
        · refine pr_icT (tgt := 111) dX18_two_101 (by decide) (pc_neT hc) ?_
          cases hF
          exact J111
    clear hF
    have hF := hq18
    refine po_i hF (fun hc hF => ?_) (fun hc hF => ?_)
    · refine pr_ifT (tgt := 80) dX18_two_42 (by decide) (pc_eqT hc) ?_
      cases hF
      exact J80
    · refine pr_ifF (tgt := 80) dX18_two_42 (by decide) (pc_eqF hc) ?_
      refine pr_aload_n dX18_two_45 rfl ?_
      obtain ⟨v10, hv10, hF⟩ := po_b hF
      refine pr_getR dX18_two_46 tf_18_3 (hv10) ?_
      obtain ⟨v11, hv11, hF⟩ := po_b hF
      refine pr_getR dX18_two_49 tf_18_19 (hv11) ?_
      obtain ⟨v12, hv12, hF⟩ := po_b hF
      refine pr_getI dX18_two_52 tf_18_47 (hv12) ?_
      refine pr_iload_n dX18_two_55 rfl ?_
      obtain ⟨q13, hq13, hF⟩ := po_b hF
      refine pr_S dX18_two_56 cs_18_51 (as := [.int v12, .int q2.1]) (rest := []) rfl rfl rfl (lb rfl) (lb rfl) (lb rfl) (ok_F_X0_has hq13) ?_
      refine po_i hF (fun hc hF => ?_) (fun hc hF => ?_)
      · refine pr_ifT (tgt := 73) dX18_two_59 (by decide) (pc_eqT hc) ?_
        refine pr_aload_n dX18_two_73 rfl ?_
        refine pr_bipush (v := 8) dX18_two_74 (kb_8) ?_
        refine pr_iload_n dX18_two_76 rfl ?_
        obtain ⟨q14, hq14, hF⟩ := po_b hF
        refine po_i hq14 (fun hcl hq => ?_) (fun _ hq => nomatch hq)
        refine pr_V (as := [.int 8, .int q1]) (rest := []) dX18_two_77 cv_18_43 hcl rfl rfl rfl rfl (lb rfl) (lb rfl) (lb rfl) (ok_F_X16_bad hq) ?_
        cases hF
        exact J80
      · refine pr_ifF (tgt := 73) dX18_two_59 (by decide) (pc_eqF hc) ?_
        refine pr_aload_n dX18_two_62 rfl ?_
        obtain ⟨v15, hv15, hF⟩ := po_b hF
        refine pr_getI dX18_two_63 tf_18_55 (hv15) ?_
        refine pr_iload_n dX18_two_66 rfl ?_
        obtain ⟨q16, hq16, hF⟩ := po_b hF
        refine pr_S dX18_two_67 cs_18_51 (as := [.int v15, .int q2.1]) (rest := []) rfl rfl rfl (lb rfl) (lb rfl) (lb rfl) (ok_F_X0_has hq16) ?_
        refine po_i hF (fun hc hF => ?_) (fun hc hF => ?_)
        · refine pr_ifT (tgt := 80) dX18_two_70 (by decide) (pc_eqT hc) ?_
          cases hF
          exact J80
        · refine pr_ifF (tgt := 80) dX18_two_70 (by decide) (pc_eqF hc) ?_
          refine pr_aload_n dX18_two_73 rfl ?_
          refine pr_bipush (v := 8) dX18_two_74 (kb_8) ?_
          refine pr_iload_n dX18_two_76 rfl ?_
          obtain ⟨q17, hq17, hF⟩ := po_b hF
          refine po_i hq17 (fun hcl hq => ?_) (fun _ hq => nomatch hq)
          refine pr_V (as := [.int 8, .int q1]) (rest := []) dX18_two_77 cv_18_43 hcl rfl rfl rfl rfl (lb rfl) (lb rfl) (lb rfl) (ok_F_X16_bad hq) ?_
          cases hF
          exact J80
  clear hF
  have hF := hq8
  refine po_i hF (fun hc hF => ?_) (fun hc hF => ?_)
  · refine pr_ifT (tgt := 38) dX18_two_14 (by decide) (pc_eqT hc) ?_
    cases hF
    exact J38
  · refine pr_ifF (tgt := 38) dX18_two_14 (by decide) (pc_eqF hc) ?_
    refine pr_aload_n dX18_two_17 rfl ?_
    obtain ⟨v4, hv4, hF⟩ := po_b hF
    refine pr_getR dX18_two_18 tf_18_3 (hv4) ?_
    obtain ⟨v5, hv5, hF⟩ := po_b hF
    refine pr_getR dX18_two_21 tf_18_19 (hv5) ?_
    refine pr_iload_n dX18_two_24 rfl ?_
    obtain ⟨q6, hq6, hF⟩ := po_b hF
    refine po_i hq6 (fun hcl hq => ?_) (fun _ hq => nomatch hq)
    refine pr_V (as := [.int q2.1]) (rest := []) dX18_two_25 cv_18_39 hcl rfl rfl rfl rfl (lb rfl) (lb rfl) (lb rfl) (ok_F_X1_isTold hq) ?_
    refine po_i hF (fun hc hF => ?_) (fun hc hF => ?_)
    · refine pr_ifF (tgt := 38) dX18_two_28 (by decide) (pc_neF hc) ?_
      refine pr_aload_n dX18_two_31 rfl ?_
      refine pr_bipush (v := 7) dX18_two_32 (kb_7) ?_
      refine pr_iload_n dX18_two_34 rfl ?_
      obtain ⟨q7, hq7, hF⟩ := po_b hF
      refine po_i hq7 (fun hcl hq => ?_) (fun _ hq => nomatch hq)
      refine pr_V (as := [.int 7, .int q1]) (rest := []) dX18_two_35 cv_18_43 hcl rfl rfl rfl rfl (lb rfl) (lb rfl) (lb rfl) (ok_F_X16_bad hq) ?_
      cases hF
      exact J38
    · refine pr_ifT (tgt := 38) dX18_two_28 (by decide) (pc_neT hc) ?_
      cases hF
      exact J38
