set_option maxRecDepth 100000
def F_X6_takes (h : pm_H) (a0 : Nat) (x1 : Int32) : Option (Int32 × pm_H) :=
  (if pm_cl_ h a0 = some 5 then F_X6_here h a0 else none).bind fun q1 =>
  if q1 = x1 then
    (pm_fI [(5, 13)] h a0).bind fun v2 =>
    (pm_put [(5, 13, 0)] h a0 (.int (v2 + 1))).bind fun h3 =>
    some (1, h3)
  else
    (pm_fI [(5, 13)] h a0).bind fun v4 =>
    (if pm_cl_ h a0 = some 5 then F_X6_wrongAt h a0 1 v4 else none).bind fun q5 =>
    if q5.1 = 0 ∨ q5.1 = 1 then
      some (q5.1, q5.2)
    else none
theorem ok_F_X6_takes {d : Nat} {h : pm_H} {a0 : Nat} {x1 : Int32} {q : Int32 × pm_H} (hF : F_X6_takes h a0 x1 = some q) : pm_E (d + 1) 6 cX6_takes (some .boolean) 0 [.ref a0, .int x1] [] h (some (.int q.1), q.2) := by
  unfold F_X6_takes at hF
  refine pr_aload_n dX6_takes_0 rfl ?_
  obtain ⟨q1, hq1, hF⟩ := po_b hF
  refine po_i hq1 (fun hcl hq => ?_) (fun _ hq => nomatch hq)
  refine pr_V (as := []) (rest := []) dX6_takes_1 cv_6_129 hcl rfl rfl rfl rfl (lb rfl) (lb rfl) (lb rfl) (ok_F_X6_here hq) ?_
  refine pr_iload_n dX6_takes_4 rfl ?_
  refine po_i hF (fun hc hF => ?_) (fun hc hF => ?_)
  · refine pr_icT (tgt := 18) dX6_takes_5 (by decide) (pc_eqT hc) ?_
    refine pr_aload_n dX6_takes_18 rfl ?_
    refine pr_aload_n dX6_takes_19 rfl ?_
    obtain ⟨v2, hv2, hF⟩ := po_b hF
    refine pr_getI dX6_takes_20 tf_6_123 (hv2) ?_
    refine pr_iconst (v := 1) dX6_takes_23 (kc_1) ?_
    refine pr_iadd dX6_takes_24 ?_
    obtain ⟨h3, hh3, hF⟩ := po_b hF
    refine pr_put dX6_takes_25 tp_6_123 (hh3) ?_
    refine pr_iconst (v := 1) dX6_takes_28 (kc_1) ?_
    cases hF
    exact pr_iret dX6_takes_29 rfl nb_1 rfl
  · refine pr_icF (tgt := 18) dX6_takes_5 (by decide) (pc_eqF hc) ?_
    refine pr_aload_n dX6_takes_8 rfl ?_
    refine pr_iconst (v := 1) dX6_takes_9 (kc_1) ?_
    refine pr_aload_n dX6_takes_10 rfl ?_
    obtain ⟨v4, hv4, hF⟩ := po_b hF
    refine pr_getI dX6_takes_11 tf_6_123 (hv4) ?_
    obtain ⟨q5, hq5, hF⟩ := po_b hF
    refine po_i hq5 (fun hcl hq => ?_) (fun _ hq => nomatch hq)
    refine pr_V (as := [.int 1, .int v4]) (rest := []) dX6_takes_14 cv_6_136 hcl rfl rfl rfl rfl (lb rfl) (lb rfl) (lb rfl) (ok_F_X6_wrongAt hq) ?_
    refine po_i hF (fun hg hF => ?_) (fun _ hF => nomatch hF)
    cases hF
    exact pr_iret dX6_takes_17 rfl (nb_of hg) rfl

def L_X6_law_31 : Nat → Nat → Int32 → pm_H → Option (Int32 × pm_H)
  | 0, _, _, _ => none
  | n + 1, x0, x2, h =>
    if x2 = 0 then
      some (x2, h)
    else
      (pm_fI [(5, 13)] h x0).bind fun v5 =>
      (pm_fI [(5, 14)] h x0).bind fun v6 =>
      if v5 < v6 then
        (if pm_cl_ h x0 = some 5 then F_X6_takes h x0 59 else none).bind fun q7 =>
        if q7.1 = 0 then
          L_X6_law_31 n x0 0 q7.2
        else
          (if pm_cl_ q7.2 x0 = some 5 then F_X6_readsRule n q7.2 x0 else none).bind fun q8 =>
          if q8.1 = 0 then
            L_X6_law_31 n x0 0 q8.2
          else
            L_X6_law_31 n x0 1 q8.2
      else
        some (x2, h)
theorem ok_L_X6_law_31 {d : Nat} : ∀ (n : Nat) {x0 : Nat} {x2 : Int32} {w1 : Value} {h : pm_H} {q : Int32 × pm_H} {res : Option Value × pm_H}, L_X6_law_31 n x0 x2 h = some q → pm_nolong w1 = true → (pm_E (d + 8) 6 cX6_law (some .int) 71 [.ref x0, w1, .int q.1, pm_D] [] q.2 res) → pm_E (d + 8) 6 cX6_law (some .int) 31 [.ref x0, w1, .int x2, pm_D] [] h res := by
  intro n
  induction n with
  | zero =>
    intro x0 x2 w1 h q res hF hw1 hk
    rw [L_X6_law_31] at hF
    cases hF
  | succ n ih =>
    intro x0 x2 w1 h q res hF hw1 hk
    rw [L_X6_law_31] at hF
    refine pr_iload_n dX6_law_31 rfl ?_
    refine po_i hF (fun hc hF => ?_) (fun hc hF => ?_)
    · refine pr_ifT (tgt := 71) dX6_law_32 (by decide) (pc_eqT hc) ?_
      cases hF
      exact hk
    · refine pr_ifF (tgt := 71) dX6_law_32 (by decide) (pc_eqF hc) ?_
      refine pr_aload_n dX6_law_35 rfl ?_
      obtain ⟨v5, hv5, hF⟩ := po_b hF
      refine pr_getI dX6_law_36 tf_6_123 (hv5) ?_
      refine pr_aload_n dX6_law_39 rfl ?_
      obtain ⟨v6, hv6, hF⟩ := po_b hF
      refine pr_getI dX6_law_40 tf_6_126 (hv6) ?_
      refine po_i hF (fun hc hF => ?_) (fun hc hF => ?_)
      · refine pr_icF (tgt := 71) dX6_law_43 (by decide) (pc_geF hc) ?_
        refine pr_aload_n dX6_law_46 rfl ?_
        refine pr_bipush (v := 59) dX6_law_47 (kb_59) ?_
        obtain ⟨q7, hq7, hF⟩ := po_b hF
        refine po_i hq7 (fun hcl hq => ?_) (fun _ hq => nomatch hq)
        refine pr_V (as := [.int 59]) (rest := []) dX6_law_49 cv_6_213 hcl rfl rfl rfl rfl (lb rfl) (lb rfl) (lb rfl) (ok_F_X6_takes hq) ?_
        refine po_i hF (fun hc hF => ?_) (fun hc hF => ?_)
        · refine pr_ifT (tgt := 66) dX6_law_52 (by decide) (pc_eqT hc) ?_
          refine pr_iconst (v := 0) dX6_law_66 (kc_0) ?_
          refine pr_istore_n (L' := [.ref x0, w1, .int 0, pm_D]) dX6_law_67 (pm_st_w (i := 1) rfl rfl hw1 rfl) ?_
          refine pr_goto (tgt := 31) dX6_law_68 (by decide) ?_
          exact ih hF hw1 hk
        · refine pr_ifF (tgt := 66) dX6_law_52 (by decide) (pc_eqF hc) ?_
          refine pr_aload_n dX6_law_55 rfl ?_
          obtain ⟨q8, hq8, hF⟩ := po_b hF
          refine po_i hq8 (fun hcl hq => ?_) (fun _ hq => nomatch hq)
          refine pr_V (as := []) (rest := []) dX6_law_56 cv_6_210 hcl rfl rfl rfl rfl (lb rfl) (lb rfl) (lb rfl) (ok_F_X6_readsRule hq) ?_
          refine po_i hF (fun hc hF => ?_) (fun hc hF => ?_)
          · refine pr_ifT (tgt := 66) dX6_law_59 (by decide) (pc_eqT hc) ?_
            refine pr_iconst (v := 0) dX6_law_66 (kc_0) ?_
            refine pr_istore_n (L' := [.ref x0, w1, .int 0, pm_D]) dX6_law_67 (pm_st_w (i := 1) rfl rfl hw1 rfl) ?_
            refine pr_goto (tgt := 31) dX6_law_68 (by decide) ?_
            exact ih hF hw1 hk
          · refine pr_ifF (tgt := 66) dX6_law_59 (by decide) (pc_eqF hc) ?_
            refine pr_iconst (v := 1) dX6_law_62 (kc_1) ?_
            refine pr_goto (tgt := 67) dX6_law_63 (by decide) ?_
            refine pr_istore_n (L' := [.ref x0, w1, .int 1, pm_D]) dX6_law_67 (pm_st_w (i := 1) rfl rfl hw1 rfl) ?_
            refine pr_goto (tgt := 31) dX6_law_68 (by decide) ?_
            exact ih hF hw1 hk
      · refine pr_icT (tgt := 71) dX6_law_43 (by decide) (pc_geT hc) ?_
        cases hF
        exact hk
def L_X6_law_95 : Nat → Nat → Int32 → pm_H → Option (pm_H)
  | 0, _, _, _ => none
  | n + 1, x0, x3, h =>
    (pm_fI [(5, 18)] h x0).bind fun v13 =>
    if x3 < v13 then
      (pm_fR [(5, 28)] h x0).bind fun v14 =>
      (pm_fR [(5, 22)] h x0).bind fun v15 =>
      (pm_ai 0 h v15 x3).bind fun v16 =>
      (pm_si 0 h v14 x3 v16).bind fun h17 =>
      L_X6_law_95 n x0 (x3 + 1) h17
    else
      some h
theorem ok_L_X6_law_95 {d : Nat} : ∀ (n : Nat) {x0 : Nat} {x3 : Int32} {w1 w2 : Value} {h : pm_H} {q : pm_H} {res : Option Value × pm_H}, L_X6_law_95 n x0 x3 h = some q → pm_nolong w1 = true → pm_nolong w2 = true → (∀ z3 : Value, pm_nolong z3 = true → pm_E (d + 8) 6 cX6_law (some .int) 121 [.ref x0, w1, w2, z3] [] q res) → pm_E (d + 8) 6 cX6_law (some .int) 95 [.ref x0, w1, w2, .int x3] [] h res := by
  intro n
  induction n with
  | zero =>
    intro x0 x3 w1 w2 h q res hF hw1 hw2 hk
    rw [L_X6_law_95] at hF
    cases hF
  | succ n ih =>
    intro x0 x3 w1 w2 h q res hF hw1 hw2 hk
    rw [L_X6_law_95] at hF
    refine pr_iload_n dX6_law_95 rfl ?_
    refine pr_aload_n dX6_law_96 rfl ?_
    obtain ⟨v13, hv13, hF⟩ := po_b hF
    refine pr_getI dX6_law_97 tf_6_146 (hv13) ?_
    refine po_i hF (fun hc hF => ?_) (fun hc hF => ?_)
    · refine pr_icF (tgt := 121) dX6_law_100 (by decide) (pc_geF hc) ?_
      refine pr_aload_n dX6_law_103 rfl ?_
      obtain ⟨v14, hv14, hF⟩ := po_b hF
      refine pr_getR dX6_law_104 tf_6_53 (hv14) ?_
      refine pr_iload_n dX6_law_107 rfl ?_
      refine pr_aload_n dX6_law_108 rfl ?_
      obtain ⟨v15, hv15, hF⟩ := po_b hF
      refine pr_getR dX6_law_109 tf_6_35 (hv15) ?_
      refine pr_iload_n dX6_law_112 rfl ?_
      obtain ⟨v16, hv16, hF⟩ := po_b hF
      refine pr_iald dX6_law_113 (hv16) ?_
      obtain ⟨h17, hh17, hF⟩ := po_b hF
      refine pr_iast dX6_law_114 (hh17) ?_
      refine pr_iinc (v := 1) (L' := [.ref x0, w1, w2, .int (x3 + 1)]) dX6_law_115 rfl (kc_1) (pm_st_w (i := 2) rfl rfl hw2 rfl) ?_
      refine pr_goto (tgt := 95) dX6_law_118 (by decide) ?_
      exact ih hF hw1 hw2 hk
    · refine pr_icT (tgt := 121) dX6_law_100 (by decide) (pc_geT hc) ?_
      cases hF
      exact hk _ rfl
def L_X6_law_123 : Nat → Nat → Int32 → pm_H → Option (pm_H)
  | 0, _, _, _ => none
  | n + 1, x0, x3, h =>
    (pm_fI [(5, 20)] h x0).bind fun v19 =>
    if x3 < v19 then
      (pm_fR [(5, 29)] h x0).bind fun v20 =>
      (pm_fR [(5, 24)] h x0).bind fun v21 =>
      (pm_ai 0 h v21 x3).bind fun v22 =>
      (pm_si 0 h v20 x3 v22).bind fun h23 =>
      (pm_fR [(5, 30)] h23 x0).bind fun v24 =>
      (pm_fR [(5, 25)] h23 x0).bind fun v25 =>
      (pm_ai 0 h23 v25 x3).bind fun v26 =>
      (pm_si 0 h23 v24 x3 v26).bind fun h27 =>
      (pm_fR [(5, 31)] h27 x0).bind fun v28 =>
      (pm_fR [(5, 26)] h27 x0).bind fun v29 =>
      (pm_ai 0 h27 v29 x3).bind fun v30 =>
      (pm_si 0 h27 v28 x3 v30).bind fun h31 =>
      (pm_fR [(5, 32)] h31 x0).bind fun v32 =>
      (pm_fR [(5, 27)] h31 x0).bind fun v33 =>
      (pm_ai 0 h31 v33 x3).bind fun v34 =>
      (pm_si 0 h31 v32 x3 v34).bind fun h35 =>
      L_X6_law_123 n x0 (x3 + 1) h35
    else
      some h
theorem ok_L_X6_law_123 {d : Nat} : ∀ (n : Nat) {x0 : Nat} {x3 : Int32} {w1 w2 : Value} {h : pm_H} {q : pm_H} {res : Option Value × pm_H}, L_X6_law_123 n x0 x3 h = some q → pm_nolong w1 = true → pm_nolong w2 = true → (∀ z3 : Value, pm_nolong z3 = true → pm_E (d + 8) 6 cX6_law (some .int) 185 [.ref x0, w1, w2, z3] [] q res) → pm_E (d + 8) 6 cX6_law (some .int) 123 [.ref x0, w1, w2, .int x3] [] h res := by
  intro n
  induction n with
  | zero =>
    intro x0 x3 w1 w2 h q res hF hw1 hw2 hk
    rw [L_X6_law_123] at hF
    cases hF
  | succ n ih =>
    intro x0 x3 w1 w2 h q res hF hw1 hw2 hk
    rw [L_X6_law_123] at hF
    refine pr_iload_n dX6_law_123 rfl ?_
    refine pr_aload_n dX6_law_124 rfl ?_
    obtain ⟨v19, hv19, hF⟩ := po_b hF
    refine pr_getI dX6_law_125 tf_6_201 (hv19) ?_
    refine po_i hF (fun hc hF => ?_) (fun hc hF => ?_)
    · refine pr_icF (tgt := 185) dX6_law_128 (by decide) (pc_geF hc) ?_
      refine pr_aload_n dX6_law_131 rfl ?_
      obtain ⟨v20, hv20, hF⟩ := po_b hF
      refine pr_getR dX6_law_132 tf_6_56 (hv20) ?_
      refine pr_iload_n dX6_law_135 rfl ?_
      refine pr_aload_n dX6_law_136 rfl ?_
      obtain ⟨v21, hv21, hF⟩ := po_b hF
      refine pr_getR dX6_law_137 tf_6_41 (hv21) ?_
      refine pr_iload_n dX6_law_140 rfl ?_
      obtain ⟨v22, hv22, hF⟩ := po_b hF
      refine pr_iald dX6_law_141 (hv22) ?_
      obtain ⟨h23, hh23, hF⟩ := po_b hF
      refine pr_iast dX6_law_142 (hh23) ?_
      refine pr_aload_n dX6_law_143 rfl ?_
      obtain ⟨v24, hv24, hF⟩ := po_b hF
      refine pr_getR dX6_law_144 tf_6_59 (hv24) ?_
      refine pr_iload_n dX6_law_147 rfl ?_
      refine pr_aload_n dX6_law_148 rfl ?_
      obtain ⟨v25, hv25, hF⟩ := po_b hF
      refine pr_getR dX6_law_149 tf_6_44 (hv25) ?_
      refine pr_iload_n dX6_law_152 rfl ?_
      obtain ⟨v26, hv26, hF⟩ := po_b hF
      refine pr_iald dX6_law_153 (hv26) ?_
      obtain ⟨h27, hh27, hF⟩ := po_b hF
      refine pr_iast dX6_law_154 (hh27) ?_
      refine pr_aload_n dX6_law_155 rfl ?_
      obtain ⟨v28, hv28, hF⟩ := po_b hF
      refine pr_getR dX6_law_156 tf_6_62 (hv28) ?_
      refine pr_iload_n dX6_law_159 rfl ?_
      refine pr_aload_n dX6_law_160 rfl ?_
      obtain ⟨v29, hv29, hF⟩ := po_b hF
      refine pr_getR dX6_law_161 tf_6_47 (hv29) ?_
      refine pr_iload_n dX6_law_164 rfl ?_
      obtain ⟨v30, hv30, hF⟩ := po_b hF
      refine pr_iald dX6_law_165 (hv30) ?_
      obtain ⟨h31, hh31, hF⟩ := po_b hF
      refine pr_iast dX6_law_166 (hh31) ?_
      refine pr_aload_n dX6_law_167 rfl ?_
      obtain ⟨v32, hv32, hF⟩ := po_b hF
      refine pr_getR dX6_law_168 tf_6_65 (hv32) ?_
      refine pr_iload_n dX6_law_171 rfl ?_
      refine pr_aload_n dX6_law_172 rfl ?_
      obtain ⟨v33, hv33, hF⟩ := po_b hF
      refine pr_getR dX6_law_173 tf_6_50 (hv33) ?_
      refine pr_iload_n dX6_law_176 rfl ?_
      obtain ⟨v34, hv34, hF⟩ := po_b hF
      refine pr_iald dX6_law_177 (hv34) ?_
      obtain ⟨h35, hh35, hF⟩ := po_b hF
      refine pr_iast dX6_law_178 (hh35) ?_
      refine pr_iinc (v := 1) (L' := [.ref x0, w1, w2, .int (x3 + 1)]) dX6_law_179 rfl (kc_1) (pm_st_w (i := 2) rfl rfl hw2 rfl) ?_
      refine pr_goto (tgt := 123) dX6_law_182 (by decide) ?_
      exact ih hF hw1 hw2 hk
    · refine pr_icT (tgt := 185) dX6_law_128 (by decide) (pc_geT hc) ?_
      cases hF
      exact hk _ rfl
def F_X6_law (n : Nat) (h : pm_H) (a0 : Nat) (x1 : Int32) : Option (Int32 × pm_H) :=
  (F_X6_in x1 1 240).bind fun q1 =>
  if q1 = 0 then
    some ((-1), h)
  else
    (pm_fI [(5, 12)] h a0).bind fun v2 =>
    if v2 < x1 then
      some ((-1), h)
    else
      (if pm_cl_ h a0 = some 5 then F_X6_beginsText h a0 x1 else none).bind fun q3 =>
      (if pm_cl_ q3 a0 = some 5 then F_X6_readsRule n q3 a0 else none).bind fun q4 =>
      (L_X6_law_31 n a0 q4.1 q4.2).bind fun q9 =>
      (pm_put [(5, 12, 0)] q9.2 a0 (.int 0)).bind fun h10 =>
      if q9.1 = 0 then
        (pm_fI [(5, 15)] h10 a0).bind fun v38 =>
        some (v38, h10)
      else
        (pm_fI [(5, 20)] h10 a0).bind fun v11 =>
        (pm_put [(5, 21, 0)] h10 a0 (.int v11)).bind fun h12 =>
        (L_X6_law_95 n a0 0 h12).bind fun q18 =>
        (L_X6_law_123 n a0 0 q18).bind fun q36 =>
        (pm_fI [(5, 20)] q36 a0).bind fun v37 =>
        some (v37, q36)
theorem ok_F_X6_law {d n : Nat} {h : pm_H} {a0 : Nat} {x1 : Int32} {q : Int32 × pm_H} (hF : F_X6_law n h a0 x1 = some q) : pm_E (d + 8) 6 cX6_law (some .int) 0 [.ref a0, .int x1, pm_D, pm_D] [] h (some (.int q.1), q.2) := by
  unfold F_X6_law at hF
  refine pr_iload_n dX6_law_0 rfl ?_
  refine pr_iconst (v := 1) dX6_law_1 (kc_1) ?_
  refine pr_sipush (v := 240) dX6_law_2 (ks_240) ?_
  obtain ⟨q1, hq1, hF⟩ := po_b hF
  refine pr_S dX6_law_5 cs_6_104 (as := [.int x1, .int 1, .int 240]) (rest := []) rfl rfl rfl (lb rfl) (lb rfl) (lb rfl) (ok_F_X6_in hq1) ?_
  refine po_i hF (fun hc hF => ?_) (fun hc hF => ?_)
  · refine pr_ifT (tgt := 19) dX6_law_8 (by decide) (pc_eqT hc) ?_
    refine pr_iconst (v := (-1)) dX6_law_19 (kc_m1) ?_
    cases hF
    exact pr_iret dX6_law_20 rfl rfl rfl
  · refine pr_ifF (tgt := 19) dX6_law_8 (by decide) (pc_eqF hc) ?_
    refine pr_iload_n dX6_law_11 rfl ?_
    refine pr_aload_n dX6_law_12 rfl ?_
    obtain ⟨v2, hv2, hF⟩ := po_b hF
    refine pr_getI dX6_law_13 tf_6_116 (hv2) ?_
    refine po_i hF (fun hc hF => ?_) (fun hc hF => ?_)
    · refine pr_icF (tgt := 21) dX6_law_16 (by decide) (pc_leF hc) ?_
      refine pr_iconst (v := (-1)) dX6_law_19 (kc_m1) ?_
      cases hF
      exact pr_iret dX6_law_20 rfl rfl rfl
    · refine pr_icT (tgt := 21) dX6_law_16 (by decide) (pc_leT hc) ?_
      refine pr_aload_n dX6_law_21 rfl ?_
      refine pr_iload_n dX6_law_22 rfl ?_
      obtain ⟨q3, hq3, hF⟩ := po_b hF
      refine po_i hq3 (fun hcl hq => ?_) (fun _ hq => nomatch hq)
      refine pr_V (as := [.int x1]) (rest := []) dX6_law_23 cv_6_207 hcl rfl rfl rfl rfl (lb rfl) (lb rfl) (lb rfl) (ok_F_X6_beginsText hq) ?_
      refine pr_aload_n dX6_law_26 rfl ?_
      obtain ⟨q4, hq4, hF⟩ := po_b hF
      refine po_i hq4 (fun hcl hq => ?_) (fun _ hq => nomatch hq)
      refine pr_V (as := []) (rest := []) dX6_law_27 cv_6_210 hcl rfl rfl rfl rfl (lb rfl) (lb rfl) (lb rfl) (ok_F_X6_readsRule hq) ?_
      refine pr_istore_n (L' := [.ref a0, .int x1, .int q4.1, pm_D]) dX6_law_30 rfl ?_
      obtain ⟨q9, hq9, hF⟩ := po_b hF
      refine ok_L_X6_law_31 n hq9 rfl ?_
      refine pr_aload_n dX6_law_71 rfl ?_
      refine pr_iconst (v := 0) dX6_law_72 (kc_0) ?_
      obtain ⟨h10, hh10, hF⟩ := po_b hF
      refine pr_put dX6_law_73 tp_6_116 (hh10) ?_
      refine pr_iload_n dX6_law_76 rfl ?_
      refine po_i hF (fun hc hF => ?_) (fun hc hF => ?_)
      · refine pr_ifF (tgt := 85) dX6_law_77 (by decide) (pc_neF hc) ?_
        refine pr_aload_n dX6_law_80 rfl ?_
        obtain ⟨v38, hv38, hF⟩ := po_b hF
        refine pr_getI dX6_law_81 tf_6_133 (hv38) ?_
        cases hF
        exact pr_iret dX6_law_84 rfl rfl rfl
      · refine pr_ifT (tgt := 85) dX6_law_77 (by decide) (pc_neT hc) ?_
        refine pr_aload_n dX6_law_85 rfl ?_
        refine pr_aload_n dX6_law_86 rfl ?_
        obtain ⟨v11, hv11, hF⟩ := po_b hF
        refine pr_getI dX6_law_87 tf_6_201 (hv11) ?_
        obtain ⟨h12, hh12, hF⟩ := po_b hF
        refine pr_put dX6_law_90 tp_6_216 (hh12) ?_
        refine pr_iconst (v := 0) dX6_law_93 (kc_0) ?_
        refine pr_istore_n (L' := [.ref a0, .int x1, .int q9.1, .int 0]) dX6_law_94 rfl ?_
        obtain ⟨q18, hq18, hF⟩ := po_b hF
        refine ok_L_X6_law_95 n hq18 rfl rfl (fun z3 hz3 => ?_)
        refine pr_iconst (v := 0) dX6_law_121 (kc_0) ?_
        refine pr_istore_n (L' := [.ref a0, .int x1, .int q9.1, .int 0]) dX6_law_122 rfl ?_
        obtain ⟨q36, hq36, hF⟩ := po_b hF
        refine ok_L_X6_law_123 n hq36 rfl rfl (fun z3 hz3 => ?_)
        refine pr_aload_n dX6_law_185 rfl ?_
        obtain ⟨v37, hv37, hF⟩ := po_b hF
        refine pr_getI dX6_law_186 tf_6_201 (hv37) ?_
        cases hF
        exact pr_iret dX6_law_189 rfl rfl rfl

def L_X6_laysAside_18 : Nat → Nat → Int32 → pm_H → Option (pm_H)
  | 0, _, _, _ => none
  | n + 1, x0, x1, h =>
    if x1 < 16 then
      (pm_fR [(5, 5)] h x0).bind fun v5 =>
      (pm_fR [(5, 3)] h x0).bind fun v6 =>
      (pm_ai 0 h v6 x1).bind fun v7 =>
      (pm_si 0 h v5 x1 v7).bind fun h8 =>
      (pm_fR [(5, 6)] h8 x0).bind fun v9 =>
      (pm_fR [(5, 4)] h8 x0).bind fun v10 =>
      (pm_ai 0 h8 v10 x1).bind fun v11 =>
      (pm_si 0 h8 v9 x1 v11).bind fun h12 =>
      L_X6_laysAside_18 n x0 (x1 + 1) h12
    else
      some h
theorem ok_L_X6_laysAside_18 {d : Nat} : ∀ (n : Nat) {x0 : Nat} {x1 : Int32} {h : pm_H} {q : pm_H} {res : Option Value × pm_H}, L_X6_laysAside_18 n x0 x1 h = some q → (∀ z1 : Value, pm_nolong z1 = true → pm_E (d + 0) 6 cX6_laysAside (none) 54 [.ref x0, z1] [] q res) → pm_E (d + 0) 6 cX6_laysAside (none) 18 [.ref x0, .int x1] [] h res := by
  intro n
  induction n with
  | zero =>
    intro x0 x1 h q res hF hk
    rw [L_X6_laysAside_18] at hF
    cases hF
  | succ n ih =>
    intro x0 x1 h q res hF hk
    rw [L_X6_laysAside_18] at hF
    refine pr_iload_n dX6_laysAside_18 rfl ?_
    refine pr_bipush (v := 16) dX6_laysAside_19 (kb_16) ?_
    refine po_i hF (fun hc hF => ?_) (fun hc hF => ?_)
    · refine pr_icF (tgt := 54) dX6_laysAside_21 (by decide) (pc_geF hc) ?_
      refine pr_aload_n dX6_laysAside_24 rfl ?_
      obtain ⟨v5, hv5, hF⟩ := po_b hF
      refine pr_getR dX6_laysAside_25 tf_6_25 (hv5) ?_
      refine pr_iload_n dX6_laysAside_28 rfl ?_
      refine pr_aload_n dX6_laysAside_29 rfl ?_
      obtain ⟨v6, hv6, hF⟩ := po_b hF
      refine pr_getR dX6_laysAside_30 tf_6_19 (hv6) ?_
      refine pr_iload_n dX6_laysAside_33 rfl ?_
      obtain ⟨v7, hv7, hF⟩ := po_b hF
      refine pr_iald dX6_laysAside_34 (hv7) ?_
      obtain ⟨h8, hh8, hF⟩ := po_b hF
      refine pr_iast dX6_laysAside_35 (hh8) ?_
      refine pr_aload_n dX6_laysAside_36 rfl ?_
      obtain ⟨v9, hv9, hF⟩ := po_b hF
      refine pr_getR dX6_laysAside_37 tf_6_28 (hv9) ?_
      refine pr_iload_n dX6_laysAside_40 rfl ?_
      refine pr_aload_n dX6_laysAside_41 rfl ?_
      obtain ⟨v10, hv10, hF⟩ := po_b hF
      refine pr_getR dX6_laysAside_42 tf_6_22 (hv10) ?_
      refine pr_iload_n dX6_laysAside_45 rfl ?_
      obtain ⟨v11, hv11, hF⟩ := po_b hF
      refine pr_iald dX6_laysAside_46 (hv11) ?_
      obtain ⟨h12, hh12, hF⟩ := po_b hF
      refine pr_iast dX6_laysAside_47 (hh12) ?_
      refine pr_iinc (v := 1) (L' := [.ref x0, .int (x1 + 1)]) dX6_laysAside_48 rfl (kc_1) rfl ?_
      refine pr_goto (tgt := 18) dX6_laysAside_51 (by decide) ?_
      exact ih hF hk
    · refine pr_icT (tgt := 54) dX6_laysAside_21 (by decide) (pc_geT hc) ?_
      cases hF
      exact hk _ rfl
def F_X6_laysAside (n : Nat) (h : pm_H) (a0 : Nat) : Option (pm_H) :=
  (pm_fI [(5, 7)] h a0).bind fun v1 =>
  (pm_put [(5, 9, 0)] h a0 (.int v1)).bind fun h2 =>
  (pm_fI [(5, 8)] h2 a0).bind fun v3 =>
  (pm_put [(5, 10, 0)] h2 a0 (.int v3)).bind fun h4 =>
  (L_X6_laysAside_18 n a0 0 h4).bind fun q13 =>
  some q13
theorem ok_F_X6_laysAside {d n : Nat} {h : pm_H} {a0 : Nat} {q : pm_H} (hF : F_X6_laysAside n h a0 = some q) : pm_E (d + 0) 6 cX6_laysAside (none) 0 [.ref a0, pm_D] [] h (none, q) := by
  unfold F_X6_laysAside at hF
  refine pr_aload_n dX6_laysAside_0 rfl ?_
  refine pr_aload_n dX6_laysAside_1 rfl ?_
  obtain ⟨v1, hv1, hF⟩ := po_b hF
  refine pr_getI dX6_laysAside_2 tf_6_108 (hv1) ?_
  obtain ⟨h2, hh2, hF⟩ := po_b hF
  refine pr_put dX6_laysAside_5 tp_6_246 (hh2) ?_
  refine pr_aload_n dX6_laysAside_8 rfl ?_
  refine pr_aload_n dX6_laysAside_9 rfl ?_
  obtain ⟨v3, hv3, hF⟩ := po_b hF
  refine pr_getI dX6_laysAside_10 tf_6_227 (hv3) ?_
  obtain ⟨h4, hh4, hF⟩ := po_b hF
  refine pr_put dX6_laysAside_13 tp_6_249 (hh4) ?_
  refine pr_iconst (v := 0) dX6_laysAside_16 (kc_0) ?_
  refine pr_istore_n (L' := [.ref a0, .int 0]) dX6_laysAside_17 rfl ?_
  obtain ⟨q13, hq13, hF⟩ := po_b hF
  refine ok_L_X6_laysAside_18 n hq13 (fun z1 hz1 => ?_)
  cases hF
  exact pr_vret dX6_laysAside_54 rfl rfl

def F_X6_isLetter (h : pm_H) (a0 : Nat) : Option (Int32) :=
  (if pm_cl_ h a0 = some 5 then F_X6_here h a0 else none).bind fun q1 =>
  (F_X6_in (q1 - 97) 0 15).bind fun q2 =>
  if q2 = 0 ∨ q2 = 1 then
    some q2
  else none
theorem ok_F_X6_isLetter {d : Nat} {h : pm_H} {a0 : Nat} {q : Int32} (hF : F_X6_isLetter h a0 = some q) : pm_E (d + 1) 6 cX6_isLetter (some .boolean) 0 [.ref a0] [] h (some (.int q), h) := by
  unfold F_X6_isLetter at hF
  refine pr_aload_n dX6_isLetter_0 rfl ?_
  obtain ⟨q1, hq1, hF⟩ := po_b hF
  refine po_i hq1 (fun hcl hq => ?_) (fun _ hq => nomatch hq)
  refine pr_V (as := []) (rest := []) dX6_isLetter_1 cv_6_129 hcl rfl rfl rfl rfl (lb rfl) (lb rfl) (lb rfl) (ok_F_X6_here hq) ?_
  refine pr_bipush (v := 97) dX6_isLetter_4 (kb_97) ?_
  refine pr_isub dX6_isLetter_6 ?_
  refine pr_iconst (v := 0) dX6_isLetter_7 (kc_0) ?_
  refine pr_bipush (v := 15) dX6_isLetter_8 (kb_15) ?_
  obtain ⟨q2, hq2, hF⟩ := po_b hF
  refine pr_S dX6_isLetter_10 cs_6_104 (as := [.int (q1 - 97), .int 0, .int 15]) (rest := []) rfl rfl rfl (lb rfl) (lb rfl) (lb rfl) (ok_F_X6_in hq2) ?_
  refine po_i hF (fun hg hF => ?_) (fun _ hF => nomatch hF)
  cases hF
  exact pr_iret dX6_isLetter_13 rfl (nb_of hg) rfl

def F_X6_has (x0 : Int32) (x1 : Int32) : Option (Int32) :=
  if ((pm_shr x0 x1) &&& 1) = 1 then
    some 1
  else
    some 0
theorem ok_F_X6_has {d : Nat} {h : pm_H} {x0 : Int32} {x1 : Int32} {q : Int32} (hF : F_X6_has x0 x1 = some q) : pm_E (d + 0) 6 cX6_has (some .boolean) 0 [.int x0, .int x1] [] h (some (.int q), h) := by
  unfold F_X6_has at hF
  refine pr_iload_n dX6_has_0 rfl ?_
  refine pr_iload_n dX6_has_1 rfl ?_
  refine pr_ishr dX6_has_2 ?_
  refine pr_iconst (v := 1) dX6_has_3 (kc_1) ?_
  refine pr_iand dX6_has_4 ?_
  refine pr_iconst (v := 1) dX6_has_5 (kc_1) ?_
  refine po_i hF (fun hc hF => ?_) (fun hc hF => ?_)
  · refine pr_icF (tgt := 13) dX6_has_6 (by decide) (pc_neF hc) ?_
    refine pr_iconst (v := 1) dX6_has_9 (kc_1) ?_
    refine pr_goto (tgt := 14) dX6_has_10 (by decide) ?_
    cases hF
    exact pr_iret dX6_has_14 rfl nb_1 rfl
  · refine pr_icT (tgt := 13) dX6_has_6 (by decide) (pc_neT hc) ?_
    refine pr_iconst (v := 0) dX6_has_13 (kc_0) ?_
    cases hF
    exact pr_iret dX6_has_14 rfl nb_0 rfl

def L_X6_readsHouse_27 : Nat → Nat → Int32 → pm_H → Option ((Int32 × pm_H) ⊕ (pm_H))
  | 0, _, _, _ => none
  | n + 1, x0, x2, h =>
    (if pm_cl_ h x0 = some 5 then F_X6_isDigit h x0 else none).bind fun q4 =>
    if q4 = 0 then
      some (.inr h)
    else
      (pm_fI [(5, 13)] h x0).bind fun v5 =>
      if v5 = (x2 + 2) then
        (pm_fI [(5, 13)] h x0).bind fun v11 =>
        (if pm_cl_ h x0 = some 5 then F_X6_wrongAt h x0 2 v11 else none).bind fun q12 =>
        if q12.1 = 0 ∨ q12.1 = 1 then
          some (.inl (q12.1, q12.2))
        else none
      else
        (pm_fI [(5, 16)] h x0).bind fun v6 =>
        (if pm_cl_ h x0 = some 5 then F_X6_here h x0 else none).bind fun q7 =>
        (pm_put [(5, 16, 0)] h x0 (.int (((10 * v6) + q7) - 48))).bind fun h8 =>
        (pm_fI [(5, 13)] h8 x0).bind fun v9 =>
        (pm_put [(5, 13, 0)] h8 x0 (.int (v9 + 1))).bind fun h10 =>
        L_X6_readsHouse_27 n x0 x2 h10
theorem ok_L_X6_readsHouse_27 {d : Nat} : ∀ (n : Nat) {x0 : Nat} {x2 : Int32} {w1 : Value} {h : pm_H} {q : (Int32 × pm_H) ⊕ (pm_H)} {res : Option Value × pm_H}, L_X6_readsHouse_27 n x0 x2 h = some q → pm_nolong w1 = true → (∀ r, q = .inl r → res = (some (.int r.1), r.2)) → (∀ e, q = .inr e → pm_E (d + 2) 6 cX6_readsHouse (some .boolean) 86 [.ref x0, w1, .int x2] [] e res) → pm_E (d + 2) 6 cX6_readsHouse (some .boolean) 27 [.ref x0, w1, .int x2] [] h res := by
  intro n
  induction n with
  | zero =>
    intro x0 x2 w1 h q res hF hw1 hr hk
    rw [L_X6_readsHouse_27] at hF
    cases hF
  | succ n ih =>
    intro x0 x2 w1 h q res hF hw1 hr hk
    rw [L_X6_readsHouse_27] at hF
    refine pr_aload_n dX6_readsHouse_27 rfl ?_
    obtain ⟨q4, hq4, hF⟩ := po_b hF
    refine po_i hq4 (fun hcl hq => ?_) (fun _ hq => nomatch hq)
    refine pr_V (as := []) (rest := []) dX6_readsHouse_28 cv_6_142 hcl rfl rfl rfl rfl (lb rfl) (lb rfl) (lb rfl) (ok_F_X6_isDigit hq) ?_
    refine po_i hF (fun hc hF => ?_) (fun hc hF => ?_)
    · refine pr_ifT (tgt := 86) dX6_readsHouse_31 (by decide) (pc_eqT hc) ?_
      cases hF
      exact hk _ rfl
    · refine pr_ifF (tgt := 86) dX6_readsHouse_31 (by decide) (pc_eqF hc) ?_
      refine pr_aload_n dX6_readsHouse_34 rfl ?_
      obtain ⟨v5, hv5, hF⟩ := po_b hF
      refine pr_getI dX6_readsHouse_35 tf_6_123 (hv5) ?_
      refine pr_iload_n dX6_readsHouse_38 rfl ?_
      refine pr_iconst (v := 2) dX6_readsHouse_39 (kc_2) ?_
      refine pr_iadd dX6_readsHouse_40 ?_
      refine po_i hF (fun hc hF => ?_) (fun hc hF => ?_)
      · refine pr_icF (tgt := 54) dX6_readsHouse_41 (by decide) (pc_neF hc) ?_
        refine pr_aload_n dX6_readsHouse_44 rfl ?_
        refine pr_iconst (v := 2) dX6_readsHouse_45 (kc_2) ?_
        refine pr_aload_n dX6_readsHouse_46 rfl ?_
        obtain ⟨v11, hv11, hF⟩ := po_b hF
        refine pr_getI dX6_readsHouse_47 tf_6_123 (hv11) ?_
        obtain ⟨q12, hq12, hF⟩ := po_b hF
        refine po_i hq12 (fun hcl hq => ?_) (fun _ hq => nomatch hq)
        refine pr_V (as := [.int 2, .int v11]) (rest := []) dX6_readsHouse_50 cv_6_136 hcl rfl rfl rfl rfl (lb rfl) (lb rfl) (lb rfl) (ok_F_X6_wrongAt hq) ?_
        refine po_i hF (fun hg hF => ?_) (fun _ hF => nomatch hF)
        cases hF
        exact pr_iret dX6_readsHouse_53 rfl (nb_of hg) (hr _ rfl)
      · refine pr_icT (tgt := 54) dX6_readsHouse_41 (by decide) (pc_neT hc) ?_
        refine pr_aload_n dX6_readsHouse_54 rfl ?_
        refine pr_bipush (v := 10) dX6_readsHouse_55 (kb_10) ?_
        refine pr_aload_n dX6_readsHouse_57 rfl ?_
        obtain ⟨v6, hv6, hF⟩ := po_b hF
        refine pr_getI dX6_readsHouse_58 tf_6_139 (hv6) ?_
        refine pr_imul dX6_readsHouse_61 ?_
        refine pr_aload_n dX6_readsHouse_62 rfl ?_
        obtain ⟨q7, hq7, hF⟩ := po_b hF
        refine po_i hq7 (fun hcl hq => ?_) (fun _ hq => nomatch hq)
        refine pr_V (as := []) (rest := [.int (10 * v6), .ref x0]) dX6_readsHouse_63 cv_6_129 hcl rfl rfl rfl rfl (lb rfl) (lb rfl) (lb rfl) (ok_F_X6_here hq) ?_
        refine pr_iadd dX6_readsHouse_66 ?_
        refine pr_bipush (v := 48) dX6_readsHouse_67 (kb_48) ?_
        refine pr_isub dX6_readsHouse_69 ?_
        obtain ⟨h8, hh8, hF⟩ := po_b hF
        refine pr_put dX6_readsHouse_70 tp_6_139 (hh8) ?_
        refine pr_aload_n dX6_readsHouse_73 rfl ?_
        refine pr_aload_n dX6_readsHouse_74 rfl ?_
        obtain ⟨v9, hv9, hF⟩ := po_b hF
        refine pr_getI dX6_readsHouse_75 tf_6_123 (hv9) ?_
        refine pr_iconst (v := 1) dX6_readsHouse_78 (kc_1) ?_
        refine pr_iadd dX6_readsHouse_79 ?_
        obtain ⟨h10, hh10, hF⟩ := po_b hF
        refine pr_put dX6_readsHouse_80 tp_6_123 (hh10) ?_
        refine pr_goto (tgt := 27) dX6_readsHouse_83 (by decide) ?_
        exact ih hF hw1 hr hk
def F_X6_readsHouse (n : Nat) (h : pm_H) (a0 : Nat) (x1 : Int32) : Option (Int32 × pm_H) :=
  (pm_fI [(5, 13)] h a0).bind fun v1 =>
  (if pm_cl_ h a0 = some 5 then F_X6_isDigit h a0 else none).bind fun q2 =>
  if q2 = 0 then
    (pm_fI [(5, 13)] h a0).bind fun v25 =>
    (if pm_cl_ h a0 = some 5 then F_X6_wrongAt h a0 1 v25 else none).bind fun q26 =>
    if q26.1 = 0 ∨ q26.1 = 1 then
      some (q26.1, q26.2)
    else none
  else
    (pm_put [(5, 16, 0)] h a0 (.int 0)).bind fun h3 =>
    (L_X6_readsHouse_27 n a0 v1 h3).bind fun q13 => po_s q13 (fun r => some r) fun e14 =>
    (pm_fR [(5, 3)] e14 a0).bind fun v15 =>
    (pm_fI [(5, 16)] e14 a0).bind fun v16 =>
    (pm_si 0 e14 v15 x1 v16).bind fun h17 =>
    (pm_fI [(5, 7)] h17 a0).bind fun v18 =>
    (F_X6_has v18 x1).bind fun q19 =>
    ((
      if q19 = 0 then
        (pm_fI [(5, 8)] h17 a0).bind fun v20 =>
        (pm_put [(5, 8, 0)] h17 a0 (.int (v20 ||| (pm_shl 1 x1)))).bind fun h21 =>
        some h21
      else
        some h17
    ) : Option (pm_H)).bind fun q22 =>
    (pm_fI [(5, 7)] q22 a0).bind fun v23 =>
    (pm_put [(5, 7, 0)] q22 a0 (.int (v23 ||| (pm_shl 1 x1)))).bind fun h24 =>
    some (1, h24)
theorem ok_F_X6_readsHouse {d n : Nat} {h : pm_H} {a0 : Nat} {x1 : Int32} {q : Int32 × pm_H} (hF : F_X6_readsHouse n h a0 x1 = some q) : pm_E (d + 2) 6 cX6_readsHouse (some .boolean) 0 [.ref a0, .int x1, pm_D] [] h (some (.int q.1), q.2) := by
  unfold F_X6_readsHouse at hF
  refine pr_aload_n dX6_readsHouse_0 rfl ?_
  obtain ⟨v1, hv1, hF⟩ := po_b hF
  refine pr_getI dX6_readsHouse_1 tf_6_123 (hv1) ?_
  refine pr_istore_n (L' := [.ref a0, .int x1, .int v1]) dX6_readsHouse_4 rfl ?_
  refine pr_aload_n dX6_readsHouse_5 rfl ?_
  obtain ⟨q2, hq2, hF⟩ := po_b hF
  refine po_i hq2 (fun hcl hq => ?_) (fun _ hq => nomatch hq)
  refine pr_V (as := []) (rest := []) dX6_readsHouse_6 cv_6_142 hcl rfl rfl rfl rfl (lb rfl) (lb rfl) (lb rfl) (ok_F_X6_isDigit hq) ?_
  refine po_i hF (fun hc hF => ?_) (fun hc hF => ?_)
  · refine pr_ifF (tgt := 22) dX6_readsHouse_9 (by decide) (pc_neF hc) ?_
    refine pr_aload_n dX6_readsHouse_12 rfl ?_
    refine pr_iconst (v := 1) dX6_readsHouse_13 (kc_1) ?_
    refine pr_aload_n dX6_readsHouse_14 rfl ?_
    obtain ⟨v25, hv25, hF⟩ := po_b hF
    refine pr_getI dX6_readsHouse_15 tf_6_123 (hv25) ?_
    obtain ⟨q26, hq26, hF⟩ := po_b hF
    refine po_i hq26 (fun hcl hq => ?_) (fun _ hq => nomatch hq)
    refine pr_V (as := [.int 1, .int v25]) (rest := []) dX6_readsHouse_18 cv_6_136 hcl rfl rfl rfl rfl (lb rfl) (lb rfl) (lb rfl) (ok_F_X6_wrongAt hq) ?_
    refine po_i hF (fun hg hF => ?_) (fun _ hF => nomatch hF)
    cases hF
    exact pr_iret dX6_readsHouse_21 rfl (nb_of hg) rfl
  · refine pr_ifT (tgt := 22) dX6_readsHouse_9 (by decide) (pc_neT hc) ?_
    refine pr_aload_n dX6_readsHouse_22 rfl ?_
    refine pr_iconst (v := 0) dX6_readsHouse_23 (kc_0) ?_
    obtain ⟨h3, hh3, hF⟩ := po_b hF
    refine pr_put dX6_readsHouse_24 tp_6_139 (hh3) ?_
    obtain ⟨q13, hq13, hF⟩ := po_b hF
    refine ok_L_X6_readsHouse_27 n hq13 rfl (fun r hq => ?_) (fun e14 hq => ?_)
    · subst hq
      replace hF := po_sl hF
      cases hF
      exact rfl
    subst hq
    replace hF := po_sr hF
    refine pr_aload_n dX6_readsHouse_86 rfl ?_
    obtain ⟨v15, hv15, hF⟩ := po_b hF
    refine pr_getR dX6_readsHouse_87 tf_6_19 (hv15) ?_
    refine pr_iload_n dX6_readsHouse_90 rfl ?_
    refine pr_aload_n dX6_readsHouse_91 rfl ?_
    obtain ⟨v16, hv16, hF⟩ := po_b hF
    refine pr_getI dX6_readsHouse_92 tf_6_139 (hv16) ?_
    obtain ⟨h17, hh17, hF⟩ := po_b hF
    refine pr_iast dX6_readsHouse_95 (hh17) ?_
    refine pr_aload_n dX6_readsHouse_96 rfl ?_
    obtain ⟨v18, hv18, hF⟩ := po_b hF
    refine pr_getI dX6_readsHouse_97 tf_6_108 (hv18) ?_
    refine pr_iload_n dX6_readsHouse_100 rfl ?_
    obtain ⟨q19, hq19, hF⟩ := po_b hF
    refine pr_S dX6_readsHouse_101 cs_6_100 (as := [.int v18, .int x1]) (rest := []) rfl rfl rfl (lb rfl) (lb rfl) (lb rfl) (ok_F_X6_has hq19) ?_
    obtain ⟨q22, hq22, hF⟩ := po_b hF
    have J119 : pm_E (d + 2) 6 cX6_readsHouse (some .boolean) 119 [.ref a0, .int x1, .int v1] [] q22 (some (.int q.1), q.2) := by
      refine pr_aload_n dX6_readsHouse_119 rfl ?_
      refine pr_aload_n dX6_readsHouse_120 rfl ?_
      obtain ⟨v23, hv23, hF⟩ := po_b hF
      refine pr_getI dX6_readsHouse_121 tf_6_108 (hv23) ?_
      refine pr_iconst (v := 1) dX6_readsHouse_124 (kc_1) ?_
      refine pr_iload_n dX6_readsHouse_125 rfl ?_
      refine pr_ishl dX6_readsHouse_126 ?_
      refine pr_ior dX6_readsHouse_127 ?_
      obtain ⟨h24, hh24, hF⟩ := po_b hF
      refine pr_put dX6_readsHouse_128 tp_6_108 (hh24) ?_
      refine pr_iconst (v := 1) dX6_readsHouse_131 (kc_1) ?_
      cases hF
      exact pr_iret dX6_readsHouse_132 rfl nb_1 rfl
    clear hF
    have hF := hq22
    refine po_i hF (fun hc hF => ?_) (fun hc hF => ?_)
    · refine pr_ifF (tgt := 119) dX6_readsHouse_104 (by decide) (pc_neF hc) ?_
      refine pr_aload_n dX6_readsHouse_107 rfl ?_
      refine pr_aload_n dX6_readsHouse_108 rfl ?_
      obtain ⟨v20, hv20, hF⟩ := po_b hF
      refine pr_getI dX6_readsHouse_109 tf_6_227 (hv20) ?_
      refine pr_iconst (v := 1) dX6_readsHouse_112 (kc_1) ?_
      refine pr_iload_n dX6_readsHouse_113 rfl ?_
      refine pr_ishl dX6_readsHouse_114 ?_
      refine pr_ior dX6_readsHouse_115 ?_
      obtain ⟨h21, hh21, hF⟩ := po_b hF
      refine pr_put dX6_readsHouse_116 tp_6_227 (hh21) ?_
      cases hF
      exact J119
    · refine pr_ifT (tgt := 119) dX6_readsHouse_104 (by decide) (pc_neT hc) ?_
      cases hF
      exact J119

def F_X6_isTold (h : pm_H) (a0 : Nat) (x1 : Int32) : Option (Int32) :=
  (F_X6_in x1 0 15).bind fun q1 =>
  if q1 = 0 then
    some 0
  else
    (pm_fI [(5, 7)] h a0).bind fun v2 =>
    (F_X6_has v2 x1).bind fun q3 =>
    if q3 = 0 then
      some 0
    else
      some 1
theorem ok_F_X6_isTold {d : Nat} {h : pm_H} {a0 : Nat} {x1 : Int32} {q : Int32} (hF : F_X6_isTold h a0 x1 = some q) : pm_E (d + 1) 6 cX6_isTold (some .boolean) 0 [.ref a0, .int x1] [] h (some (.int q), h) := by
  unfold F_X6_isTold at hF
  refine pr_iload_n dX6_isTold_0 rfl ?_
  refine pr_iconst (v := 0) dX6_isTold_1 (kc_0) ?_
  refine pr_bipush (v := 15) dX6_isTold_2 (kb_15) ?_
  obtain ⟨q1, hq1, hF⟩ := po_b hF
  refine pr_S dX6_isTold_4 cs_6_104 (as := [.int x1, .int 0, .int 15]) (rest := []) rfl rfl rfl (lb rfl) (lb rfl) (lb rfl) (ok_F_X6_in hq1) ?_
  refine po_i hF (fun hc hF => ?_) (fun hc hF => ?_)
  · refine pr_ifT (tgt := 25) dX6_isTold_7 (by decide) (pc_eqT hc) ?_
    refine pr_iconst (v := 0) dX6_isTold_25 (kc_0) ?_
    cases hF
    exact pr_iret dX6_isTold_26 rfl nb_0 rfl
  · refine pr_ifF (tgt := 25) dX6_isTold_7 (by decide) (pc_eqF hc) ?_
    refine pr_aload_n dX6_isTold_10 rfl ?_
    obtain ⟨v2, hv2, hF⟩ := po_b hF
    refine pr_getI dX6_isTold_11 tf_6_108 (hv2) ?_
    refine pr_iload_n dX6_isTold_14 rfl ?_
    obtain ⟨q3, hq3, hF⟩ := po_b hF
    refine pr_S dX6_isTold_15 cs_6_100 (as := [.int v2, .int x1]) (rest := []) rfl rfl rfl (lb rfl) (lb rfl) (lb rfl) (ok_F_X6_has hq3) ?_
    refine po_i hF (fun hc hF => ?_) (fun hc hF => ?_)
    · refine pr_ifT (tgt := 25) dX6_isTold_18 (by decide) (pc_eqT hc) ?_
      refine pr_iconst (v := 0) dX6_isTold_25 (kc_0) ?_
      cases hF
      exact pr_iret dX6_isTold_26 rfl nb_0 rfl
    · refine pr_ifF (tgt := 25) dX6_isTold_18 (by decide) (pc_eqF hc) ?_
      refine pr_iconst (v := 1) dX6_isTold_21 (kc_1) ?_
      refine pr_goto (tgt := 26) dX6_isTold_22 (by decide) ?_
      cases hF
      exact pr_iret dX6_isTold_26 rfl nb_1 rfl

def F_X6_readsOther (h : pm_H) (a0 : Nat) (x1 : Int32) (x2 : Int32) : Option (Int32 × pm_H) :=
  (if pm_cl_ h a0 = some 5 then F_X6_isLetter h a0 else none).bind fun q1 =>
  if q1 = 0 then
    (pm_fI [(5, 13)] h a0).bind fun v24 =>
    (if pm_cl_ h a0 = some 5 then F_X6_wrongAt h a0 1 v24 else none).bind fun q25 =>
    if q25.1 = 0 ∨ q25.1 = 1 then
      some (q25.1, q25.2)
    else none
  else
    (if pm_cl_ h a0 = some 5 then F_X6_here h a0 else none).bind fun q2 =>
    if (q2 - 97) = x1 then
      (pm_fI [(5, 13)] h a0).bind fun v22 =>
      (if pm_cl_ h a0 = some 5 then F_X6_wrongAt h a0 6 v22 else none).bind fun q23 =>
      if q23.1 = 0 ∨ q23.1 = 1 then
        some (q23.1, q23.2)
      else none
    else
      (if pm_cl_ h a0 = some 5 then F_X6_isTold h a0 (q2 - 97) else none).bind fun q3 =>
      if q3 = 0 then
        (pm_fI [(5, 13)] h a0).bind fun v20 =>
        (if pm_cl_ h a0 = some 5 then F_X6_wrongAt h a0 7 v20 else none).bind fun q21 =>
        if q21.1 = 0 ∨ q21.1 = 1 then
          some (q21.1, q21.2)
        else none
      else
        (pm_fI [(5, 13)] h a0).bind fun v4 =>
        (pm_put [(5, 13, 0)] h a0 (.int (v4 + 1))).bind fun h5 =>
        (pm_fR [(5, 4)] h5 a0).bind fun v6 =>
        ((
          if x2 = 0 then
            (pm_fR [(5, 4)] h5 a0).bind fun v7 =>
            (pm_ai 0 h5 v7 x1).bind fun v8 =>
            some (v8 &&& ((pm_shl 1 (q2 - 97)) ^^^ (-1)))
          else
            (pm_fR [(5, 4)] h5 a0).bind fun v9 =>
            (pm_ai 0 h5 v9 x1).bind fun v10 =>
            some (v10 ||| (pm_shl 1 (q2 - 97)))
        ) : Option (Int32)).bind fun q11 =>
        (pm_si 0 h5 v6 x1 q11).bind fun h12 =>
        (pm_fR [(5, 4)] h12 a0).bind fun v13 =>
        if x2 = 0 then
          (pm_fR [(5, 4)] h12 a0).bind fun v14 =>
          (pm_ai 0 h12 v14 (q2 - 97)).bind fun v15 =>
          (pm_si 0 h12 v13 (q2 - 97) (v15 &&& ((pm_shl 1 x1) ^^^ (-1)))).bind fun h16 =>
          some (1, h16)
        else
          (pm_fR [(5, 4)] h12 a0).bind fun v17 =>
          (pm_ai 0 h12 v17 (q2 - 97)).bind fun v18 =>
          (pm_si 0 h12 v13 (q2 - 97) (v18 ||| (pm_shl 1 x1))).bind fun h19 =>
          some (1, h19)
theorem ok_F_X6_readsOther {d : Nat} {h : pm_H} {a0 : Nat} {x1 : Int32} {x2 : Int32} {q : Int32 × pm_H} (hF : F_X6_readsOther h a0 x1 x2 = some q) : pm_E (d + 2) 6 cX6_readsOther (some .boolean) 0 [.ref a0, .int x1, .int x2, pm_D] [] h (some (.int q.1), q.2) := by
  unfold F_X6_readsOther at hF
  refine pr_aload_n dX6_readsOther_0 rfl ?_
  obtain ⟨q1, hq1, hF⟩ := po_b hF
  refine po_i hq1 (fun hcl hq => ?_) (fun _ hq => nomatch hq)
  refine pr_V (as := []) (rest := []) dX6_readsOther_1 cv_6_230 hcl rfl rfl rfl rfl (lb rfl) (lb rfl) (lb rfl) (ok_F_X6_isLetter hq) ?_
  refine po_i hF (fun hc hF => ?_) (fun hc hF => ?_)
  · refine pr_ifF (tgt := 17) dX6_readsOther_4 (by decide) (pc_neF hc) ?_
    refine pr_aload_n dX6_readsOther_7 rfl ?_
    refine pr_iconst (v := 1) dX6_readsOther_8 (kc_1) ?_
    refine pr_aload_n dX6_readsOther_9 rfl ?_
    obtain ⟨v24, hv24, hF⟩ := po_b hF
    refine pr_getI dX6_readsOther_10 tf_6_123 (hv24) ?_
    obtain ⟨q25, hq25, hF⟩ := po_b hF
    refine po_i hq25 (fun hcl hq => ?_) (fun _ hq => nomatch hq)
    refine pr_V (as := [.int 1, .int v24]) (rest := []) dX6_readsOther_13 cv_6_136 hcl rfl rfl rfl rfl (lb rfl) (lb rfl) (lb rfl) (ok_F_X6_wrongAt hq) ?_
    refine po_i hF (fun hg hF => ?_) (fun _ hF => nomatch hF)
    cases hF
    exact pr_iret dX6_readsOther_16 rfl (nb_of hg) rfl
  · refine pr_ifT (tgt := 17) dX6_readsOther_4 (by decide) (pc_neT hc) ?_
    refine pr_aload_n dX6_readsOther_17 rfl ?_
    obtain ⟨q2, hq2, hF⟩ := po_b hF
    refine po_i hq2 (fun hcl hq => ?_) (fun _ hq => nomatch hq)
    refine pr_V (as := []) (rest := []) dX6_readsOther_18 cv_6_129 hcl rfl rfl rfl rfl (lb rfl) (lb rfl) (lb rfl) (ok_F_X6_here hq) ?_
    refine pr_bipush (v := 97) dX6_readsOther_21 (kb_97) ?_
    refine pr_isub dX6_readsOther_23 ?_
    refine pr_istore_n (L' := [.ref a0, .int x1, .int x2, .int (q2 - 97)]) dX6_readsOther_24 rfl ?_
    refine pr_iload_n dX6_readsOther_25 rfl ?_
    refine pr_iload_n dX6_readsOther_26 rfl ?_
    refine po_i hF (fun hc hF => ?_) (fun hc hF => ?_)
    · refine pr_icF (tgt := 41) dX6_readsOther_27 (by decide) (pc_neF hc) ?_
      refine pr_aload_n dX6_readsOther_30 rfl ?_
      refine pr_bipush (v := 6) dX6_readsOther_31 (kb_6) ?_
      refine pr_aload_n dX6_readsOther_33 rfl ?_
      obtain ⟨v22, hv22, hF⟩ := po_b hF
      refine pr_getI dX6_readsOther_34 tf_6_123 (hv22) ?_
      obtain ⟨q23, hq23, hF⟩ := po_b hF
      refine po_i hq23 (fun hcl hq => ?_) (fun _ hq => nomatch hq)
      refine pr_V (as := [.int 6, .int v22]) (rest := []) dX6_readsOther_37 cv_6_136 hcl rfl rfl rfl rfl (lb rfl) (lb rfl) (lb rfl) (ok_F_X6_wrongAt hq) ?_
      refine po_i hF (fun hg hF => ?_) (fun _ hF => nomatch hF)
      cases hF
      exact pr_iret dX6_readsOther_40 rfl (nb_of hg) rfl
    · refine pr_icT (tgt := 41) dX6_readsOther_27 (by decide) (pc_neT hc) ?_
      refine pr_aload_n dX6_readsOther_41 rfl ?_
      refine pr_iload_n dX6_readsOther_42 rfl ?_
      obtain ⟨q3, hq3, hF⟩ := po_b hF
      refine po_i hq3 (fun hcl hq => ?_) (fun _ hq => nomatch hq)
      refine pr_V (as := [.int (q2 - 97)]) (rest := []) dX6_readsOther_43 cv_6_233 hcl rfl rfl rfl rfl (lb rfl) (lb rfl) (lb rfl) (ok_F_X6_isTold hq) ?_
      refine po_i hF (fun hc hF => ?_) (fun hc hF => ?_)
      · refine pr_ifF (tgt := 60) dX6_readsOther_46 (by decide) (pc_neF hc) ?_
        refine pr_aload_n dX6_readsOther_49 rfl ?_
        refine pr_bipush (v := 7) dX6_readsOther_50 (kb_7) ?_
        refine pr_aload_n dX6_readsOther_52 rfl ?_
        obtain ⟨v20, hv20, hF⟩ := po_b hF
        refine pr_getI dX6_readsOther_53 tf_6_123 (hv20) ?_
        obtain ⟨q21, hq21, hF⟩ := po_b hF
        refine po_i hq21 (fun hcl hq => ?_) (fun _ hq => nomatch hq)
        refine pr_V (as := [.int 7, .int v20]) (rest := []) dX6_readsOther_56 cv_6_136 hcl rfl rfl rfl rfl (lb rfl) (lb rfl) (lb rfl) (ok_F_X6_wrongAt hq) ?_
        refine po_i hF (fun hg hF => ?_) (fun _ hF => nomatch hF)
        cases hF
        exact pr_iret dX6_readsOther_59 rfl (nb_of hg) rfl
      · refine pr_ifT (tgt := 60) dX6_readsOther_46 (by decide) (pc_neT hc) ?_
        refine pr_aload_n dX6_readsOther_60 rfl ?_
        refine pr_aload_n dX6_readsOther_61 rfl ?_
        obtain ⟨v4, hv4, hF⟩ := po_b hF
        refine pr_getI dX6_readsOther_62 tf_6_123 (hv4) ?_
        refine pr_iconst (v := 1) dX6_readsOther_65 (kc_1) ?_
        refine pr_iadd dX6_readsOther_66 ?_
        obtain ⟨h5, hh5, hF⟩ := po_b hF
        refine pr_put dX6_readsOther_67 tp_6_123 (hh5) ?_
        refine pr_aload_n dX6_readsOther_70 rfl ?_
        obtain ⟨v6, hv6, hF⟩ := po_b hF
        refine pr_getR dX6_readsOther_71 tf_6_22 (hv6) ?_
        refine pr_iload_n dX6_readsOther_74 rfl ?_
        refine pr_iload_n dX6_readsOther_75 rfl ?_
        obtain ⟨q11, hq11, hF⟩ := po_b hF
        have J104 : pm_E (d + 2) 6 cX6_readsOther (some .boolean) 104 [.ref a0, .int x1, .int x2, .int (q2 - 97)] [.int q11, .int x1, .ref v6] h5 (some (.int q.1), q.2) := by
          obtain ⟨h12, hh12, hF⟩ := po_b hF
          refine pr_iast dX6_readsOther_104 (hh12) ?_
          refine pr_aload_n dX6_readsOther_105 rfl ?_
          obtain ⟨v13, hv13, hF⟩ := po_b hF
          refine pr_getR dX6_readsOther_106 tf_6_22 (hv13) ?_
          refine pr_iload_n dX6_readsOther_109 rfl ?_
          refine pr_iload_n dX6_readsOther_110 rfl ?_
          refine po_i hF (fun hc hF => ?_) (fun hc hF => ?_)
          · refine pr_ifT (tgt := 127) dX6_readsOther_111 (by decide) (pc_eqT hc) ?_
            refine pr_aload_n dX6_readsOther_127 rfl ?_
            obtain ⟨v14, hv14, hF⟩ := po_b hF
            refine pr_getR dX6_readsOther_128 tf_6_22 (hv14) ?_
            refine pr_iload_n dX6_readsOther_131 rfl ?_
            obtain ⟨v15, hv15, hF⟩ := po_b hF
            refine pr_iald dX6_readsOther_132 (hv15) ?_
            refine pr_iconst (v := 1) dX6_readsOther_133 (kc_1) ?_
            refine pr_iload_n dX6_readsOther_134 rfl ?_
            refine pr_ishl dX6_readsOther_135 ?_
            refine pr_iconst (v := (-1)) dX6_readsOther_136 (kc_m1) ?_
            refine pr_ixor dX6_readsOther_137 ?_
            refine pr_iand dX6_readsOther_138 ?_
            obtain ⟨h16, hh16, hF⟩ := po_b hF
            refine pr_iast dX6_readsOther_139 (hh16) ?_
            refine pr_iconst (v := 1) dX6_readsOther_140 (kc_1) ?_
            cases hF
            exact pr_iret dX6_readsOther_141 rfl nb_1 rfl
          · refine pr_ifF (tgt := 127) dX6_readsOther_111 (by decide) (pc_eqF hc) ?_
            refine pr_aload_n dX6_readsOther_114 rfl ?_
            obtain ⟨v17, hv17, hF⟩ := po_b hF
            refine pr_getR dX6_readsOther_115 tf_6_22 (hv17) ?_
            refine pr_iload_n dX6_readsOther_118 rfl ?_
            obtain ⟨v18, hv18, hF⟩ := po_b hF
            refine pr_iald dX6_readsOther_119 (hv18) ?_
            refine pr_iconst (v := 1) dX6_readsOther_120 (kc_1) ?_
            refine pr_iload_n dX6_readsOther_121 rfl ?_
            refine pr_ishl dX6_readsOther_122 ?_
            refine pr_ior dX6_readsOther_123 ?_
            refine pr_goto (tgt := 139) dX6_readsOther_124 (by decide) ?_
            obtain ⟨h19, hh19, hF⟩ := po_b hF
            refine pr_iast dX6_readsOther_139 (hh19) ?_
            refine pr_iconst (v := 1) dX6_readsOther_140 (kc_1) ?_
            cases hF
            exact pr_iret dX6_readsOther_141 rfl nb_1 rfl
        clear hF
        have hF := hq11
        refine po_i hF (fun hc hF => ?_) (fun hc hF => ?_)
        · refine pr_ifT (tgt := 92) dX6_readsOther_76 (by decide) (pc_eqT hc) ?_
          refine pr_aload_n dX6_readsOther_92 rfl ?_
          obtain ⟨v7, hv7, hF⟩ := po_b hF
          refine pr_getR dX6_readsOther_93 tf_6_22 (hv7) ?_
          refine pr_iload_n dX6_readsOther_96 rfl ?_
          obtain ⟨v8, hv8, hF⟩ := po_b hF
          refine pr_iald dX6_readsOther_97 (hv8) ?_
          refine pr_iconst (v := 1) dX6_readsOther_98 (kc_1) ?_
          refine pr_iload_n dX6_readsOther_99 rfl ?_
          refine pr_ishl dX6_readsOther_100 ?_
          refine pr_iconst (v := (-1)) dX6_readsOther_101 (kc_m1) ?_
          refine pr_ixor dX6_readsOther_102 ?_
          refine pr_iand dX6_readsOther_103 ?_
          cases hF
          exact J104
        · refine pr_ifF (tgt := 92) dX6_readsOther_76 (by decide) (pc_eqF hc) ?_
          refine pr_aload_n dX6_readsOther_79 rfl ?_
          obtain ⟨v9, hv9, hF⟩ := po_b hF
          refine pr_getR dX6_readsOther_80 tf_6_22 (hv9) ?_
          refine pr_iload_n dX6_readsOther_83 rfl ?_
          obtain ⟨v10, hv10, hF⟩ := po_b hF
          refine pr_iald dX6_readsOther_84 (hv10) ?_
          refine pr_iconst (v := 1) dX6_readsOther_85 (kc_1) ?_
          refine pr_iload_n dX6_readsOther_86 rfl ?_
          refine pr_ishl dX6_readsOther_87 ?_
          refine pr_ior dX6_readsOther_88 ?_
          refine pr_goto (tgt := 104) dX6_readsOther_89 (by decide) ?_
          cases hF
          exact J104

def F_X6_readsOrder (n : Nat) (h : pm_H) (a0 : Nat) : Option (Int32 × pm_H) :=
  (if pm_cl_ h a0 = some 5 then F_X6_isLetter h a0 else none).bind fun q1 =>
  if q1 = 0 then
    (pm_fI [(5, 13)] h a0).bind fun v79 =>
    (if pm_cl_ h a0 = some 5 then F_X6_wrongAt h a0 1 v79 else none).bind fun q80 =>
    if q80.1 = 0 ∨ q80.1 = 1 then
      some (q80.1, q80.2)
    else none
  else
    (pm_fI [(5, 35)] h a0).bind fun v2 =>
    if v2 = 24 then
      (pm_fI [(5, 13)] h a0).bind fun v77 =>
      (if pm_cl_ h a0 = some 5 then F_X6_wrongAt h a0 4 v77 else none).bind fun q78 =>
      if q78.1 = 0 ∨ q78.1 = 1 then
        some (q78.1, q78.2)
      else none
    else
      (pm_fI [(5, 35)] h a0).bind fun v3 =>
      (pm_put [(5, 35, 0)] h a0 (.int (v3 + 1))).bind fun h4 =>
      (pm_fI [(5, 13)] h4 a0).bind fun v5 =>
      (if pm_cl_ h4 a0 = some 5 then F_X6_here h4 a0 else none).bind fun q6 =>
      (pm_fI [(5, 13)] h4 a0).bind fun v7 =>
      (pm_put [(5, 13, 0)] h4 a0 (.int (v7 + 1))).bind fun h8 =>
      (if pm_cl_ h8 a0 = some 5 then F_X6_here h8 a0 else none).bind fun q9 =>
      if q9 = 64 then
        (pm_fI [(5, 13)] h8 a0).bind fun v10 =>
        (pm_put [(5, 13, 0)] h8 a0 (.int (v10 + 1))).bind fun h11 =>
        if q9 = 64 then
          (if pm_cl_ h11 a0 = some 5 then F_X6_readsHouse n h11 a0 (q6 - 97) else none).bind fun q22 =>
          if q22.1 = 0 ∨ q22.1 = 1 then
            some (q22.1, q22.2)
          else none
        else
          (if pm_cl_ h11 a0 = some 5 then F_X6_isTold h11 a0 (q6 - 97) else none).bind fun q12 =>
          if q12 = 0 then
            (if pm_cl_ h11 a0 = some 5 then F_X6_wrongAt h11 a0 7 v5 else none).bind fun q21 =>
            if q21.1 = 0 ∨ q21.1 = 1 then
              some (q21.1, q21.2)
            else none
          else
          if q9 = 42 then
            if q9 = 42 then
              (if pm_cl_ h11 a0 = some 5 then F_X6_readsOther h11 a0 (q6 - 97) 1 else none).bind fun q14 =>
              if q14.1 = 0 ∨ q14.1 = 1 then
                some (q14.1, q14.2)
              else none
            else
              (if pm_cl_ h11 a0 = some 5 then F_X6_readsOther h11 a0 (q6 - 97) 0 else none).bind fun q13 =>
              if q13.1 = 0 ∨ q13.1 = 1 then
                some (q13.1, q13.2)
              else none
          else
          if q9 = 38 then
            if q9 = 42 then
              (if pm_cl_ h11 a0 = some 5 then F_X6_readsOther h11 a0 (q6 - 97) 1 else none).bind fun q20 =>
              if q20.1 = 0 ∨ q20.1 = 1 then
                some (q20.1, q20.2)
              else none
            else
              (if pm_cl_ h11 a0 = some 5 then F_X6_readsOther h11 a0 (q6 - 97) 0 else none).bind fun q19 =>
              if q19.1 = 0 ∨ q19.1 = 1 then
                some (q19.1, q19.2)
              else none
          else
          if q9 = 61 then
            (pm_fI [(5, 8)] h11 a0).bind fun v17 =>
            (pm_put [(5, 8, 0)] h11 a0 (.int (v17 ||| (pm_shl 1 (q6 - 97))))).bind fun h18 =>
            some (1, h18)
          else
            (pm_fI [(5, 8)] h11 a0).bind fun v15 =>
            (pm_put [(5, 8, 0)] h11 a0 (.int (v15 &&& ((pm_shl 1 (q6 - 97)) ^^^ (-1))))).bind fun h16 =>
            some (1, h16)
      else
      if q9 = 35 then
        (pm_fI [(5, 13)] h8 a0).bind fun v23 =>
        (pm_put [(5, 13, 0)] h8 a0 (.int (v23 + 1))).bind fun h24 =>
        if q9 = 64 then
          (if pm_cl_ h24 a0 = some 5 then F_X6_readsHouse n h24 a0 (q6 - 97) else none).bind fun q35 =>
          if q35.1 = 0 ∨ q35.1 = 1 then
            some (q35.1, q35.2)
          else none
        else
          (if pm_cl_ h24 a0 = some 5 then F_X6_isTold h24 a0 (q6 - 97) else none).bind fun q25 =>
          if q25 = 0 then
            (if pm_cl_ h24 a0 = some 5 then F_X6_wrongAt h24 a0 7 v5 else none).bind fun q34 =>
            if q34.1 = 0 ∨ q34.1 = 1 then
              some (q34.1, q34.2)
            else none
          else
          if q9 = 42 then
            if q9 = 42 then
              (if pm_cl_ h24 a0 = some 5 then F_X6_readsOther h24 a0 (q6 - 97) 1 else none).bind fun q27 =>
              if q27.1 = 0 ∨ q27.1 = 1 then
                some (q27.1, q27.2)
              else none
            else
              (if pm_cl_ h24 a0 = some 5 then F_X6_readsOther h24 a0 (q6 - 97) 0 else none).bind fun q26 =>
              if q26.1 = 0 ∨ q26.1 = 1 then
                some (q26.1, q26.2)
              else none
          else
          if q9 = 38 then
            if q9 = 42 then
              (if pm_cl_ h24 a0 = some 5 then F_X6_readsOther h24 a0 (q6 - 97) 1 else none).bind fun q33 =>
              if q33.1 = 0 ∨ q33.1 = 1 then
                some (q33.1, q33.2)
              else none
            else
              (if pm_cl_ h24 a0 = some 5 then F_X6_readsOther h24 a0 (q6 - 97) 0 else none).bind fun q32 =>
              if q32.1 = 0 ∨ q32.1 = 1 then
                some (q32.1, q32.2)
              else none
          else
          if q9 = 61 then
            (pm_fI [(5, 8)] h24 a0).bind fun v30 =>
            (pm_put [(5, 8, 0)] h24 a0 (.int (v30 ||| (pm_shl 1 (q6 - 97))))).bind fun h31 =>
            some (1, h31)
          else
            (pm_fI [(5, 8)] h24 a0).bind fun v28 =>
            (pm_put [(5, 8, 0)] h24 a0 (.int (v28 &&& ((pm_shl 1 (q6 - 97)) ^^^ (-1))))).bind fun h29 =>
            some (1, h29)
      else
      if q9 = 61 then
        (pm_fI [(5, 13)] h8 a0).bind fun v36 =>
        (pm_put [(5, 13, 0)] h8 a0 (.int (v36 + 1))).bind fun h37 =>
        if q9 = 64 then
          (if pm_cl_ h37 a0 = some 5 then F_X6_readsHouse n h37 a0 (q6 - 97) else none).bind fun q48 =>
          if q48.1 = 0 ∨ q48.1 = 1 then
            some (q48.1, q48.2)
          else none
        else
          (if pm_cl_ h37 a0 = some 5 then F_X6_isTold h37 a0 (q6 - 97) else none).bind fun q38 =>
          if q38 = 0 then
            (if pm_cl_ h37 a0 = some 5 then F_X6_wrongAt h37 a0 7 v5 else none).bind fun q47 =>
            if q47.1 = 0 ∨ q47.1 = 1 then
              some (q47.1, q47.2)
            else none
          else
          if q9 = 42 then
            if q9 = 42 then
              (if pm_cl_ h37 a0 = some 5 then F_X6_readsOther h37 a0 (q6 - 97) 1 else none).bind fun q40 =>
              if q40.1 = 0 ∨ q40.1 = 1 then
                some (q40.1, q40.2)
              else none
            else
              (if pm_cl_ h37 a0 = some 5 then F_X6_readsOther h37 a0 (q6 - 97) 0 else none).bind fun q39 =>
              if q39.1 = 0 ∨ q39.1 = 1 then
                some (q39.1, q39.2)
              else none
          else
          if q9 = 38 then
            if q9 = 42 then
              (if pm_cl_ h37 a0 = some 5 then F_X6_readsOther h37 a0 (q6 - 97) 1 else none).bind fun q46 =>
              if q46.1 = 0 ∨ q46.1 = 1 then
                some (q46.1, q46.2)
              else none
            else
              (if pm_cl_ h37 a0 = some 5 then F_X6_readsOther h37 a0 (q6 - 97) 0 else none).bind fun q45 =>
              if q45.1 = 0 ∨ q45.1 = 1 then
                some (q45.1, q45.2)
              else none
          else
          if q9 = 61 then
            (pm_fI [(5, 8)] h37 a0).bind fun v43 =>
            (pm_put [(5, 8, 0)] h37 a0 (.int (v43 ||| (pm_shl 1 (q6 - 97))))).bind fun h44 =>
            some (1, h44)
          else
            (pm_fI [(5, 8)] h37 a0).bind fun v41 =>
            (pm_put [(5, 8, 0)] h37 a0 (.int (v41 &&& ((pm_shl 1 (q6 - 97)) ^^^ (-1))))).bind fun h42 =>
            some (1, h42)
      else
      if q9 = 42 then
        (pm_fI [(5, 13)] h8 a0).bind fun v49 =>
        (pm_put [(5, 13, 0)] h8 a0 (.int (v49 + 1))).bind fun h50 =>
        if q9 = 64 then
          (if pm_cl_ h50 a0 = some 5 then F_X6_readsHouse n h50 a0 (q6 - 97) else none).bind fun q61 =>
          if q61.1 = 0 ∨ q61.1 = 1 then
            some (q61.1, q61.2)
          else none
        else
          (if pm_cl_ h50 a0 = some 5 then F_X6_isTold h50 a0 (q6 - 97) else none).bind fun q51 =>
          if q51 = 0 then
            (if pm_cl_ h50 a0 = some 5 then F_X6_wrongAt h50 a0 7 v5 else none).bind fun q60 =>
            if q60.1 = 0 ∨ q60.1 = 1 then
              some (q60.1, q60.2)
            else none
          else
          if q9 = 42 then
            if q9 = 42 then
              (if pm_cl_ h50 a0 = some 5 then F_X6_readsOther h50 a0 (q6 - 97) 1 else none).bind fun q53 =>
              if q53.1 = 0 ∨ q53.1 = 1 then
                some (q53.1, q53.2)
              else none
            else
              (if pm_cl_ h50 a0 = some 5 then F_X6_readsOther h50 a0 (q6 - 97) 0 else none).bind fun q52 =>
              if q52.1 = 0 ∨ q52.1 = 1 then
                some (q52.1, q52.2)
              else none
          else
          if q9 = 38 then
            if q9 = 42 then
              (if pm_cl_ h50 a0 = some 5 then F_X6_readsOther h50 a0 (q6 - 97) 1 else none).bind fun q59 =>
              if q59.1 = 0 ∨ q59.1 = 1 then
                some (q59.1, q59.2)
              else none
            else
              (if pm_cl_ h50 a0 = some 5 then F_X6_readsOther h50 a0 (q6 - 97) 0 else none).bind fun q58 =>
              if q58.1 = 0 ∨ q58.1 = 1 then
                some (q58.1, q58.2)
              else none
          else
          if q9 = 61 then
            (pm_fI [(5, 8)] h50 a0).bind fun v56 =>
            (pm_put [(5, 8, 0)] h50 a0 (.int (v56 ||| (pm_shl 1 (q6 - 97))))).bind fun h57 =>
            some (1, h57)
          else
            (pm_fI [(5, 8)] h50 a0).bind fun v54 =>
            (pm_put [(5, 8, 0)] h50 a0 (.int (v54 &&& ((pm_shl 1 (q6 - 97)) ^^^ (-1))))).bind fun h55 =>
            some (1, h55)
      else
      if q9 = 38 then
        (pm_fI [(5, 13)] h8 a0).bind fun v62 =>
        (pm_put [(5, 13, 0)] h8 a0 (.int (v62 + 1))).bind fun h63 =>
        if q9 = 64 then
          (if pm_cl_ h63 a0 = some 5 then F_X6_readsHouse n h63 a0 (q6 - 97) else none).bind fun q74 =>
          if q74.1 = 0 ∨ q74.1 = 1 then
            some (q74.1, q74.2)
          else none
        else
          (if pm_cl_ h63 a0 = some 5 then F_X6_isTold h63 a0 (q6 - 97) else none).bind fun q64 =>
          if q64 = 0 then
            (if pm_cl_ h63 a0 = some 5 then F_X6_wrongAt h63 a0 7 v5 else none).bind fun q73 =>
            if q73.1 = 0 ∨ q73.1 = 1 then
              some (q73.1, q73.2)
            else none
          else
          if q9 = 42 then
            if q9 = 42 then
              (if pm_cl_ h63 a0 = some 5 then F_X6_readsOther h63 a0 (q6 - 97) 1 else none).bind fun q66 =>
              if q66.1 = 0 ∨ q66.1 = 1 then
                some (q66.1, q66.2)
              else none
            else
              (if pm_cl_ h63 a0 = some 5 then F_X6_readsOther h63 a0 (q6 - 97) 0 else none).bind fun q65 =>
              if q65.1 = 0 ∨ q65.1 = 1 then
                some (q65.1, q65.2)
              else none
          else
          if q9 = 38 then
            if q9 = 42 then
              (if pm_cl_ h63 a0 = some 5 then F_X6_readsOther h63 a0 (q6 - 97) 1 else none).bind fun q72 =>
              if q72.1 = 0 ∨ q72.1 = 1 then
                some (q72.1, q72.2)
              else none
            else
              (if pm_cl_ h63 a0 = some 5 then F_X6_readsOther h63 a0 (q6 - 97) 0 else none).bind fun q71 =>
              if q71.1 = 0 ∨ q71.1 = 1 then
                some (q71.1, q71.2)
              else none
          else
          if q9 = 61 then
            (pm_fI [(5, 8)] h63 a0).bind fun v69 =>
            (pm_put [(5, 8, 0)] h63 a0 (.int (v69 ||| (pm_shl 1 (q6 - 97))))).bind fun h70 =>
            some (1, h70)
          else
            (pm_fI [(5, 8)] h63 a0).bind fun v67 =>
            (pm_put [(5, 8, 0)] h63 a0 (.int (v67 &&& ((pm_shl 1 (q6 - 97)) ^^^ (-1))))).bind fun h68 =>
            some (1, h68)
      else
        (pm_fI [(5, 13)] h8 a0).bind fun v75 =>
        (if pm_cl_ h8 a0 = some 5 then F_X6_wrongAt h8 a0 1 v75 else none).bind fun q76 =>
        if q76.1 = 0 ∨ q76.1 = 1 then
          some (q76.1, q76.2)
        else none
theorem ok_F_X6_readsOrder {d n : Nat} {h : pm_H} {a0 : Nat} {q : Int32 × pm_H} (hF : F_X6_readsOrder n h a0 = some q) : pm_E (d + 3) 6 cX6_readsOrder (some .boolean) 0 [.ref a0, pm_D, pm_D, pm_D] [] h (some (.int q.1), q.2) := by
  unfold F_X6_readsOrder at hF
  refine pr_aload_n dX6_readsOrder_0 rfl ?_
  obtain ⟨q1, hq1, hF⟩ := po_b hF
  refine po_i hq1 (fun hcl hq => ?_) (fun _ hq => nomatch hq)
  refine pr_V (as := []) (rest := []) dX6_readsOrder_1 cv_6_230 hcl rfl rfl rfl rfl (lb rfl) (lb rfl) (lb rfl) (ok_F_X6_isLetter hq) ?_
  refine po_i hF (fun hc hF => ?_) (fun hc hF => ?_)
  · refine pr_ifF (tgt := 17) dX6_readsOrder_4 (by decide) (pc_neF hc) ?_
    refine pr_aload_n dX6_readsOrder_7 rfl ?_
    refine pr_iconst (v := 1) dX6_readsOrder_8 (kc_1) ?_
    refine pr_aload_n dX6_readsOrder_9 rfl ?_
    obtain ⟨v79, hv79, hF⟩ := po_b hF
    refine pr_getI dX6_readsOrder_10 tf_6_123 (hv79) ?_
    obtain ⟨q80, hq80, hF⟩ := po_b hF
    refine po_i hq80 (fun hcl hq => ?_) (fun _ hq => nomatch hq)
    refine pr_V (as := [.int 1, .int v79]) (rest := []) dX6_readsOrder_13 cv_6_136 hcl rfl rfl rfl rfl (lb rfl) (lb rfl) (lb rfl) (ok_F_X6_wrongAt hq) ?_
    refine po_i hF (fun hg hF => ?_) (fun _ hF => nomatch hF)
    cases hF
    exact pr_iret dX6_readsOrder_16 rfl (nb_of hg) rfl
  · refine pr_ifT (tgt := 17) dX6_readsOrder_4 (by decide) (pc_neT hc) ?_
    refine pr_aload_n dX6_readsOrder_17 rfl ?_
    obtain ⟨v2, hv2, hF⟩ := po_b hF
    refine pr_getI dX6_readsOrder_18 tf_6_236 (hv2) ?_
    refine pr_bipush (v := 24) dX6_readsOrder_21 (kb_24) ?_
    refine po_i hF (fun hc hF => ?_) (fun hc hF => ?_)
    · refine pr_icF (tgt := 36) dX6_readsOrder_23 (by decide) (pc_neF hc) ?_
      refine pr_aload_n dX6_readsOrder_26 rfl ?_
      refine pr_iconst (v := 4) dX6_readsOrder_27 (kc_4) ?_
      refine pr_aload_n dX6_readsOrder_28 rfl ?_
      obtain ⟨v77, hv77, hF⟩ := po_b hF
      refine pr_getI dX6_readsOrder_29 tf_6_123 (hv77) ?_
      obtain ⟨q78, hq78, hF⟩ := po_b hF
      refine po_i hq78 (fun hcl hq => ?_) (fun _ hq => nomatch hq)
      refine pr_V (as := [.int 4, .int v77]) (rest := []) dX6_readsOrder_32 cv_6_136 hcl rfl rfl rfl rfl (lb rfl) (lb rfl) (lb rfl) (ok_F_X6_wrongAt hq) ?_
      refine po_i hF (fun hg hF => ?_) (fun _ hF => nomatch hF)
      cases hF
      exact pr_iret dX6_readsOrder_35 rfl (nb_of hg) rfl
    · refine pr_icT (tgt := 36) dX6_readsOrder_23 (by decide) (pc_neT hc) ?_
      refine pr_aload_n dX6_readsOrder_36 rfl ?_
      refine pr_aload_n dX6_readsOrder_37 rfl ?_
      obtain ⟨v3, hv3, hF⟩ := po_b hF
      refine pr_getI dX6_readsOrder_38 tf_6_236 (hv3) ?_
      refine pr_iconst (v := 1) dX6_readsOrder_41 (kc_1) ?_
      refine pr_iadd dX6_readsOrder_42 ?_
      obtain ⟨h4, hh4, hF⟩ := po_b hF
      refine pr_put dX6_readsOrder_43 tp_6_236 (hh4) ?_
      refine pr_aload_n dX6_readsOrder_46 rfl ?_
      obtain ⟨v5, hv5, hF⟩ := po_b hF
      refine pr_getI dX6_readsOrder_47 tf_6_123 (hv5) ?_
      refine pr_istore_n (L' := [.ref a0, .int v5, pm_D, pm_D]) dX6_readsOrder_50 rfl ?_
      refine pr_aload_n dX6_readsOrder_51 rfl ?_
      obtain ⟨q6, hq6, hF⟩ := po_b hF
      refine po_i hq6 (fun hcl hq => ?_) (fun _ hq => nomatch hq)
      refine pr_V (as := []) (rest := []) dX6_readsOrder_52 cv_6_129 hcl rfl rfl rfl rfl (lb rfl) (lb rfl) (lb rfl) (ok_F_X6_here hq) ?_
      refine pr_bipush (v := 97) dX6_readsOrder_55 (kb_97) ?_
      refine pr_isub dX6_readsOrder_57 ?_
      refine pr_istore_n (L' := [.ref a0, .int v5, .int (q6 - 97), pm_D]) dX6_readsOrder_58 rfl ?_
      refine pr_aload_n dX6_readsOrder_59 rfl ?_
      refine pr_aload_n dX6_readsOrder_60 rfl ?_
      obtain ⟨v7, hv7, hF⟩ := po_b hF
      refine pr_getI dX6_readsOrder_61 tf_6_123 (hv7) ?_
      refine pr_iconst (v := 1) dX6_readsOrder_64 (kc_1) ?_
      refine pr_iadd dX6_readsOrder_65 ?_
      obtain ⟨h8, hh8, hF⟩ := po_b hF
      refine pr_put dX6_readsOrder_66 tp_6_123 (hh8) ?_
      refine pr_aload_n dX6_readsOrder_69 rfl ?_
      obtain ⟨q9, hq9, hF⟩ := po_b hF
      refine po_i hq9 (fun hcl hq => ?_) (fun _ hq => nomatch hq)
      refine pr_V (as := []) (rest := []) dX6_readsOrder_70 cv_6_129 hcl rfl rfl rfl rfl (lb rfl) (lb rfl) (lb rfl) (ok_F_X6_here hq) ?_
      refine pr_istore_n (L' := [.ref a0, .int v5, .int (q6 - 97), .int q9]) dX6_readsOrder_73 rfl ?_
      refine pr_iload_n dX6_readsOrder_74 rfl ?_
      refine pr_bipush (v := 64) dX6_readsOrder_75 (kb_64) ?_
      refine po_i hF (fun hc hF => ?_) (fun hc hF => ?_)
      · refine pr_icT (tgt := 114) dX6_readsOrder_77 (by decide) (pc_eqT hc) ?_
        refine pr_aload_n dX6_readsOrder_114 rfl ?_
        refine pr_aload_n dX6_readsOrder_115 rfl ?_
        obtain ⟨v10, hv10, hF⟩ := po_b hF
        refine pr_getI dX6_readsOrder_116 tf_6_123 (hv10) ?_
        refine pr_iconst (v := 1) dX6_readsOrder_119 (kc_1) ?_
        refine pr_iadd dX6_readsOrder_120 ?_
        obtain ⟨h11, hh11, hF⟩ := po_b hF
        refine pr_put dX6_readsOrder_121 tp_6_123 (hh11) ?_
        refine pr_iload_n dX6_readsOrder_124 rfl ?_
        refine pr_bipush (v := 64) dX6_readsOrder_125 (kb_64) ?_
        refine po_i hF (fun hc hF => ?_) (fun hc hF => ?_)
        · refine pr_icF (tgt := 136) dX6_readsOrder_127 (by decide) (pc_neF hc) ?_
          refine pr_aload_n dX6_readsOrder_130 rfl ?_
          refine pr_iload_n dX6_readsOrder_131 rfl ?_
          obtain ⟨q22, hq22, hF⟩ := po_b hF
          refine po_i hq22 (fun hcl hq => ?_) (fun _ hq => nomatch hq)
          refine pr_V (as := [.int (q6 - 97)]) (rest := []) dX6_readsOrder_132 cv_6_239 hcl rfl rfl rfl rfl (lb rfl) (lb rfl) (lb rfl) (ok_F_X6_readsHouse hq) ?_
          refine po_i hF (fun hg hF => ?_) (fun _ hF => nomatch hF)
          cases hF
          exact pr_iret dX6_readsOrder_135 rfl (nb_of hg) rfl
        · refine pr_icT (tgt := 136) dX6_readsOrder_127 (by decide) (pc_neT hc) ?_
          refine pr_aload_n dX6_readsOrder_136 rfl ?_
          refine pr_iload_n dX6_readsOrder_137 rfl ?_
          obtain ⟨q12, hq12, hF⟩ := po_b hF
          refine po_i hq12 (fun hcl hq => ?_) (fun _ hq => nomatch hq)
          refine pr_V (as := [.int (q6 - 97)]) (rest := []) dX6_readsOrder_138 cv_6_233 hcl rfl rfl rfl rfl (lb rfl) (lb rfl) (lb rfl) (ok_F_X6_isTold hq) ?_
          refine po_i hF (fun hc hF => ?_) (fun hc hF => ?_)
          · refine pr_ifF (tgt := 152) dX6_readsOrder_141 (by decide) (pc_neF hc) ?_
            refine pr_aload_n dX6_readsOrder_144 rfl ?_
            refine pr_bipush (v := 7) dX6_readsOrder_145 (kb_7) ?_
            refine pr_iload_n dX6_readsOrder_147 rfl ?_
            obtain ⟨q21, hq21, hF⟩ := po_b hF
            refine po_i hq21 (fun hcl hq => ?_) (fun _ hq => nomatch hq)
            refine pr_V (as := [.int 7, .int v5]) (rest := []) dX6_readsOrder_148 cv_6_136 hcl rfl rfl rfl rfl (lb rfl) (lb rfl) (lb rfl) (ok_F_X6_wrongAt hq) ?_
            refine po_i hF (fun hg hF => ?_) (fun _ hF => nomatch hF)
            cases hF
            exact pr_iret dX6_readsOrder_151 rfl (nb_of hg) rfl
          · refine pr_ifT (tgt := 152) dX6_readsOrder_141 (by decide) (pc_neT hc) ?_
            refine pr_iload_n dX6_readsOrder_152 rfl ?_
            refine pr_bipush (v := 42) dX6_readsOrder_153 (kb_42) ?_
            refine po_i hF (fun hc hF => ?_) (fun hc hF => ?_)
            · refine pr_icT (tgt := 164) dX6_readsOrder_155 (by decide) (pc_eqT hc) ?_
              refine pr_aload_n dX6_readsOrder_164 rfl ?_
              refine pr_iload_n dX6_readsOrder_165 rfl ?_
              refine pr_iload_n dX6_readsOrder_166 rfl ?_
              refine pr_bipush (v := 42) dX6_readsOrder_167 (kb_42) ?_
              refine po_i hF (fun hc hF => ?_) (fun hc hF => ?_)
              · refine pr_icF (tgt := 176) dX6_readsOrder_169 (by decide) (pc_neF hc) ?_
                refine pr_iconst (v := 1) dX6_readsOrder_172 (kc_1) ?_
                refine pr_goto (tgt := 177) dX6_readsOrder_173 (by decide) ?_
                obtain ⟨q14, hq14, hF⟩ := po_b hF
                refine po_i hq14 (fun hcl hq => ?_) (fun _ hq => nomatch hq)
                refine pr_V (as := [.int (q6 - 97), .int 1]) (rest := []) dX6_readsOrder_177 cv_6_242 hcl rfl rfl rfl rfl (lb rfl) (lb rfl) (lb rfl) (ok_F_X6_readsOther hq) ?_
                refine po_i hF (fun hg hF => ?_) (fun _ hF => nomatch hF)
                cases hF
                exact pr_iret dX6_readsOrder_180 rfl (nb_of hg) rfl
              · refine pr_icT (tgt := 176) dX6_readsOrder_169 (by decide) (pc_neT hc) ?_
                refine pr_iconst (v := 0) dX6_readsOrder_176 (kc_0) ?_
                obtain ⟨q13, hq13, hF⟩ := po_b hF
                refine po_i hq13 (fun hcl hq => ?_) (fun _ hq => nomatch hq)
                refine pr_V (as := [.int (q6 - 97), .int 0]) (rest := []) dX6_readsOrder_177 cv_6_242 hcl rfl rfl rfl rfl (lb rfl) (lb rfl) (lb rfl) (ok_F_X6_readsOther hq) ?_
                refine po_i hF (fun hg hF => ?_) (fun _ hF => nomatch hF)
                cases hF
                exact pr_iret dX6_readsOrder_180 rfl (nb_of hg) rfl
            · refine pr_icF (tgt := 164) dX6_readsOrder_155 (by decide) (pc_eqF hc) ?_
              refine pr_iload_n dX6_readsOrder_158 rfl ?_
              refine pr_bipush (v := 38) dX6_readsOrder_159 (kb_38) ?_
              refine po_i hF (fun hc hF => ?_) (fun hc hF => ?_)
              · refine pr_icF (tgt := 181) dX6_readsOrder_161 (by decide) (pc_neF hc) ?_
                refine pr_aload_n dX6_readsOrder_164 rfl ?_
                refine pr_iload_n dX6_readsOrder_165 rfl ?_
                refine pr_iload_n dX6_readsOrder_166 rfl ?_
                refine pr_bipush (v := 42) dX6_readsOrder_167 (kb_42) ?_
                refine po_i hF (fun hc hF => ?_) (fun hc hF => ?_)
                · refine pr_icF (tgt := 176) dX6_readsOrder_169 (by decide) (pc_neF hc) ?_
                  refine pr_iconst (v := 1) dX6_readsOrder_172 (kc_1) ?_
                  refine pr_goto (tgt := 177) dX6_readsOrder_173 (by decide) ?_
                  obtain ⟨q20, hq20, hF⟩ := po_b hF
                  refine po_i hq20 (fun hcl hq => ?_) (fun _ hq => nomatch hq)
                  refine pr_V (as := [.int (q6 - 97), .int 1]) (rest := []) dX6_readsOrder_177 cv_6_242 hcl rfl rfl rfl rfl (lb rfl) (lb rfl) (lb rfl) (ok_F_X6_readsOther hq) ?_
                  refine po_i hF (fun hg hF => ?_) (fun _ hF => nomatch hF)
                  cases hF
                  exact pr_iret dX6_readsOrder_180 rfl (nb_of hg) rfl
                · refine pr_icT (tgt := 176) dX6_readsOrder_169 (by decide) (pc_neT hc) ?_
                  refine pr_iconst (v := 0) dX6_readsOrder_176 (kc_0) ?_
                  obtain ⟨q19, hq19, hF⟩ := po_b hF
                  refine po_i hq19 (fun hcl hq => ?_) (fun _ hq => nomatch hq)
                  refine pr_V (as := [.int (q6 - 97), .int 0]) (rest := []) dX6_readsOrder_177 cv_6_242 hcl rfl rfl rfl rfl (lb rfl) (lb rfl) (lb rfl) (ok_F_X6_readsOther hq) ?_
                  refine po_i hF (fun hg hF => ?_) (fun _ hF => nomatch hF)
                  cases hF
                  exact pr_iret dX6_readsOrder_180 rfl (nb_of hg) rfl
              · refine pr_icT (tgt := 181) dX6_readsOrder_161 (by decide) (pc_neT hc) ?_
                refine pr_aload_n dX6_readsOrder_181 rfl ?_
                refine pr_iload_n dX6_readsOrder_182 rfl ?_
                refine pr_bipush (v := 61) dX6_readsOrder_183 (kb_61) ?_
                refine po_i hF (fun hc hF => ?_) (fun hc hF => ?_)
                · refine pr_icF (tgt := 199) dX6_readsOrder_185 (by decide) (pc_neF hc) ?_
                  refine pr_aload_n dX6_readsOrder_188 rfl ?_
                  obtain ⟨v17, hv17, hF⟩ := po_b hF
                  refine pr_getI dX6_readsOrder_189 tf_6_227 (hv17) ?_
                  refine pr_iconst (v := 1) dX6_readsOrder_192 (kc_1) ?_
                  refine pr_iload_n dX6_readsOrder_193 rfl ?_
                  refine pr_ishl dX6_readsOrder_194 ?_
                  refine pr_ior dX6_readsOrder_195 ?_
                  refine pr_goto (tgt := 209) dX6_readsOrder_196 (by decide) ?_
                  obtain ⟨h18, hh18, hF⟩ := po_b hF
                  refine pr_put dX6_readsOrder_209 tp_6_227 (hh18) ?_
                  refine pr_iconst (v := 1) dX6_readsOrder_212 (kc_1) ?_
                  cases hF
                  exact pr_iret dX6_readsOrder_213 rfl nb_1 rfl
                · refine pr_icT (tgt := 199) dX6_readsOrder_185 (by decide) (pc_neT hc) ?_
                  refine pr_aload_n dX6_readsOrder_199 rfl ?_
                  obtain ⟨v15, hv15, hF⟩ := po_b hF
                  refine pr_getI dX6_readsOrder_200 tf_6_227 (hv15) ?_
                  refine pr_iconst (v := 1) dX6_readsOrder_203 (kc_1) ?_
                  refine pr_iload_n dX6_readsOrder_204 rfl ?_
                  refine pr_ishl dX6_readsOrder_205 ?_
                  refine pr_iconst (v := (-1)) dX6_readsOrder_206 (kc_m1) ?_
                  refine pr_ixor dX6_readsOrder_207 ?_
                  refine pr_iand dX6_readsOrder_208 ?_
                  obtain ⟨h16, hh16, hF⟩ := po_b hF
                  refine pr_put dX6_readsOrder_209 tp_6_227 (hh16) ?_
                  refine pr_iconst (v := 1) dX6_readsOrder_212 (kc_1) ?_
                  cases hF
                  exact pr_iret dX6_readsOrder_213 rfl nb_1 rfl
      · refine pr_icF (tgt := 114) dX6_readsOrder_77 (by decide) (pc_eqF hc) ?_
        refine pr_iload_n dX6_readsOrder_80 rfl ?_
        refine pr_bipush (v := 35) dX6_readsOrder_81 (kb_35) ?_
        refine po_i hF (fun hc hF => ?_) (fun hc hF => ?_)
        · refine pr_icT (tgt := 114) dX6_readsOrder_83 (by decide) (pc_eqT hc) ?_
          refine pr_aload_n dX6_readsOrder_114 rfl ?_
          refine pr_aload_n dX6_readsOrder_115 rfl ?_
          obtain ⟨v23, hv23, hF⟩ := po_b hF
          refine pr_getI dX6_readsOrder_116 tf_6_123 (hv23) ?_
          refine pr_iconst (v := 1) dX6_readsOrder_119 (kc_1) ?_
          refine pr_iadd dX6_readsOrder_120 ?_
          obtain ⟨h24, hh24, hF⟩ := po_b hF
          refine pr_put dX6_readsOrder_121 tp_6_123 (hh24) ?_
          refine pr_iload_n dX6_readsOrder_124 rfl ?_
          refine pr_bipush (v := 64) dX6_readsOrder_125 (kb_64) ?_
          refine po_i hF (fun hc hF => ?_) (fun hc hF => ?_)
          · refine pr_icF (tgt := 136) dX6_readsOrder_127 (by decide) (pc_neF hc) ?_
            refine pr_aload_n dX6_readsOrder_130 rfl ?_
            refine pr_iload_n dX6_readsOrder_131 rfl ?_
            obtain ⟨q35, hq35, hF⟩ := po_b hF
            refine po_i hq35 (fun hcl hq => ?_) (fun _ hq => nomatch hq)
            refine pr_V (as := [.int (q6 - 97)]) (rest := []) dX6_readsOrder_132 cv_6_239 hcl rfl rfl rfl rfl (lb rfl) (lb rfl) (lb rfl) (ok_F_X6_readsHouse hq) ?_
            refine po_i hF (fun hg hF => ?_) (fun _ hF => nomatch hF)
            cases hF
            exact pr_iret dX6_readsOrder_135 rfl (nb_of hg) rfl
          · refine pr_icT (tgt := 136) dX6_readsOrder_127 (by decide) (pc_neT hc) ?_
            refine pr_aload_n dX6_readsOrder_136 rfl ?_
            refine pr_iload_n dX6_readsOrder_137 rfl ?_
            obtain ⟨q25, hq25, hF⟩ := po_b hF
            refine po_i hq25 (fun hcl hq => ?_) (fun _ hq => nomatch hq)
            refine pr_V (as := [.int (q6 - 97)]) (rest := []) dX6_readsOrder_138 cv_6_233 hcl rfl rfl rfl rfl (lb rfl) (lb rfl) (lb rfl) (ok_F_X6_isTold hq) ?_
            refine po_i hF (fun hc hF => ?_) (fun hc hF => ?_)
            · refine pr_ifF (tgt := 152) dX6_readsOrder_141 (by decide) (pc_neF hc) ?_
              refine pr_aload_n dX6_readsOrder_144 rfl ?_
              refine pr_bipush (v := 7) dX6_readsOrder_145 (kb_7) ?_
              refine pr_iload_n dX6_readsOrder_147 rfl ?_
              obtain ⟨q34, hq34, hF⟩ := po_b hF
              refine po_i hq34 (fun hcl hq => ?_) (fun _ hq => nomatch hq)
              refine pr_V (as := [.int 7, .int v5]) (rest := []) dX6_readsOrder_148 cv_6_136 hcl rfl rfl rfl rfl (lb rfl) (lb rfl) (lb rfl) (ok_F_X6_wrongAt hq) ?_
              refine po_i hF (fun hg hF => ?_) (fun _ hF => nomatch hF)
              cases hF
              exact pr_iret dX6_readsOrder_151 rfl (nb_of hg) rfl
            · refine pr_ifT (tgt := 152) dX6_readsOrder_141 (by decide) (pc_neT hc) ?_
              refine pr_iload_n dX6_readsOrder_152 rfl ?_
              refine pr_bipush (v := 42) dX6_readsOrder_153 (kb_42) ?_
              refine po_i hF (fun hc hF => ?_) (fun hc hF => ?_)
              · refine pr_icT (tgt := 164) dX6_readsOrder_155 (by decide) (pc_eqT hc) ?_
                refine pr_aload_n dX6_readsOrder_164 rfl ?_
                refine pr_iload_n dX6_readsOrder_165 rfl ?_
                refine pr_iload_n dX6_readsOrder_166 rfl ?_
                refine pr_bipush (v := 42) dX6_readsOrder_167 (kb_42) ?_
                refine po_i hF (fun hc hF => ?_) (fun hc hF => ?_)
                · refine pr_icF (tgt := 176) dX6_readsOrder_169 (by decide) (pc_neF hc) ?_
                  refine pr_iconst (v := 1) dX6_readsOrder_172 (kc_1) ?_
                  refine pr_goto (tgt := 177) dX6_readsOrder_173 (by decide) ?_
                  obtain ⟨q27, hq27, hF⟩ := po_b hF
                  refine po_i hq27 (fun hcl hq => ?_) (fun _ hq => nomatch hq)
                  refine pr_V (as := [.int (q6 - 97), .int 1]) (rest := []) dX6_readsOrder_177 cv_6_242 hcl rfl rfl rfl rfl (lb rfl) (lb rfl) (lb rfl) (ok_F_X6_readsOther hq) ?_
                  refine po_i hF (fun hg hF => ?_) (fun _ hF => nomatch hF)
                  cases hF
                  exact pr_iret dX6_readsOrder_180 rfl (nb_of hg) rfl
                · refine pr_icT (tgt := 176) dX6_readsOrder_169 (by decide) (pc_neT hc) ?_
                  refine pr_iconst (v := 0) dX6_readsOrder_176 (kc_0) ?_
                  obtain ⟨q26, hq26, hF⟩ := po_b hF
                  refine po_i hq26 (fun hcl hq => ?_) (fun _ hq => nomatch hq)
                  refine pr_V (as := [.int (q6 - 97), .int 0]) (rest := []) dX6_readsOrder_177 cv_6_242 hcl rfl rfl rfl rfl (lb rfl) (lb rfl) (lb rfl) (ok_F_X6_readsOther hq) ?_
                  refine po_i hF (fun hg hF => ?_) (fun _ hF => nomatch hF)
                  cases hF
                  exact pr_iret dX6_readsOrder_180 rfl (nb_of hg) rfl
              · refine pr_icF (tgt := 164) dX6_readsOrder_155 (by decide) (pc_eqF hc) ?_
                refine pr_iload_n dX6_readsOrder_158 rfl ?_
                refine pr_bipush (v := 38) dX6_readsOrder_159 (kb_38) ?_
                refine po_i hF (fun hc hF => ?_) (fun hc hF => ?_)
                · refine pr_icF (tgt := 181) dX6_readsOrder_161 (by decide) (pc_neF hc) ?_
                  refine pr_aload_n dX6_readsOrder_164 rfl ?_
                  refine pr_iload_n dX6_readsOrder_165 rfl ?_
                  refine pr_iload_n dX6_readsOrder_166 rfl ?_
                  refine pr_bipush (v := 42) dX6_readsOrder_167 (kb_42) ?_
                  refine po_i hF (fun hc hF => ?_) (fun hc hF => ?_)
                  · refine pr_icF (tgt := 176) dX6_readsOrder_169 (by decide) (pc_neF hc) ?_
                    refine pr_iconst (v := 1) dX6_readsOrder_172 (kc_1) ?_
                    refine pr_goto (tgt := 177) dX6_readsOrder_173 (by decide) ?_
                    obtain ⟨q33, hq33, hF⟩ := po_b hF
                    refine po_i hq33 (fun hcl hq => ?_) (fun _ hq => nomatch hq)
                    refine pr_V (as := [.int (q6 - 97), .int 1]) (rest := []) dX6_readsOrder_177 cv_6_242 hcl rfl rfl rfl rfl (lb rfl) (lb rfl) (lb rfl) (ok_F_X6_readsOther hq) ?_
                    refine po_i hF (fun hg hF => ?_) (fun _ hF => nomatch hF)
                    cases hF
                    exact pr_iret dX6_readsOrder_180 rfl (nb_of hg) rfl
                  · refine pr_icT (tgt := 176) dX6_readsOrder_169 (by decide) (pc_neT hc) ?_
                    refine pr_iconst (v := 0) dX6_readsOrder_176 (kc_0) ?_
                    obtain ⟨q32, hq32, hF⟩ := po_b hF
                    refine po_i hq32 (fun hcl hq => ?_) (fun _ hq => nomatch hq)
                    refine pr_V (as := [.int (q6 - 97), .int 0]) (rest := []) dX6_readsOrder_177 cv_6_242 hcl rfl rfl rfl rfl (lb rfl) (lb rfl) (lb rfl) (ok_F_X6_readsOther hq) ?_
                    refine po_i hF (fun hg hF => ?_) (fun _ hF => nomatch hF)
                    cases hF
                    exact pr_iret dX6_readsOrder_180 rfl (nb_of hg) rfl
                · refine pr_icT (tgt := 181) dX6_readsOrder_161 (by decide) (pc_neT hc) ?_
                  refine pr_aload_n dX6_readsOrder_181 rfl ?_
                  refine pr_iload_n dX6_readsOrder_182 rfl ?_
                  refine pr_bipush (v := 61) dX6_readsOrder_183 (kb_61) ?_
                  refine po_i hF (fun hc hF => ?_) (fun hc hF => ?_)
                  · refine pr_icF (tgt := 199) dX6_readsOrder_185 (by decide) (pc_neF hc) ?_
                    refine pr_aload_n dX6_readsOrder_188 rfl ?_
                    obtain ⟨v30, hv30, hF⟩ := po_b hF
                    refine pr_getI dX6_readsOrder_189 tf_6_227 (hv30) ?_
                    refine pr_iconst (v := 1) dX6_readsOrder_192 (kc_1) ?_
                    refine pr_iload_n dX6_readsOrder_193 rfl ?_
                    refine pr_ishl dX6_readsOrder_194 ?_
                    refine pr_ior dX6_readsOrder_195 ?_
                    refine pr_goto (tgt := 209) dX6_readsOrder_196 (by decide) ?_
                    obtain ⟨h31, hh31, hF⟩ := po_b hF
                    refine pr_put dX6_readsOrder_209 tp_6_227 (hh31) ?_
                    refine pr_iconst (v := 1) dX6_readsOrder_212 (kc_1) ?_
                    cases hF
                    exact pr_iret dX6_readsOrder_213 rfl nb_1 rfl
                  · refine pr_icT (tgt := 199) dX6_readsOrder_185 (by decide) (pc_neT hc) ?_
                    refine pr_aload_n dX6_readsOrder_199 rfl ?_
                    obtain ⟨v28, hv28, hF⟩ := po_b hF
                    refine pr_getI dX6_readsOrder_200 tf_6_227 (hv28) ?_
                    refine pr_iconst (v := 1) dX6_readsOrder_203 (kc_1) ?_
                    refine pr_iload_n dX6_readsOrder_204 rfl ?_
                    refine pr_ishl dX6_readsOrder_205 ?_
                    refine pr_iconst (v := (-1)) dX6_readsOrder_206 (kc_m1) ?_
                    refine pr_ixor dX6_readsOrder_207 ?_
                    refine pr_iand dX6_readsOrder_208 ?_
                    obtain ⟨h29, hh29, hF⟩ := po_b hF
                    refine pr_put dX6_readsOrder_209 tp_6_227 (hh29) ?_
                    refine pr_iconst (v := 1) dX6_readsOrder_212 (kc_1) ?_
                    cases hF
                    exact pr_iret dX6_readsOrder_213 rfl nb_1 rfl
        · refine pr_icF (tgt := 114) dX6_readsOrder_83 (by decide) (pc_eqF hc) ?_
          refine pr_iload_n dX6_readsOrder_86 rfl ?_
          refine pr_bipush (v := 61) dX6_readsOrder_87 (kb_61) ?_
          refine po_i hF (fun hc hF => ?_) (fun hc hF => ?_)
          · refine pr_icT (tgt := 114) dX6_readsOrder_89 (by decide) (pc_eqT hc) ?_
            refine pr_aload_n dX6_readsOrder_114 rfl ?_
            refine pr_aload_n dX6_readsOrder_115 rfl ?_
            obtain ⟨v36, hv36, hF⟩ := po_b hF
            refine pr_getI dX6_readsOrder_116 tf_6_123 (hv36) ?_
            refine pr_iconst (v := 1) dX6_readsOrder_119 (kc_1) ?_
            refine pr_iadd dX6_readsOrder_120 ?_
            obtain ⟨h37, hh37, hF⟩ := po_b hF
            refine pr_put dX6_readsOrder_121 tp_6_123 (hh37) ?_
            refine pr_iload_n dX6_readsOrder_124 rfl ?_
            refine pr_bipush (v := 64) dX6_readsOrder_125 (kb_64) ?_
            refine po_i hF (fun hc hF => ?_) (fun hc hF => ?_)
            · refine pr_icF (tgt := 136) dX6_readsOrder_127 (by decide) (pc_neF hc) ?_
              refine pr_aload_n dX6_readsOrder_130 rfl ?_
              refine pr_iload_n dX6_readsOrder_131 rfl ?_
              obtain ⟨q48, hq48, hF⟩ := po_b hF
              refine po_i hq48 (fun hcl hq => ?_) (fun _ hq => nomatch hq)
              refine pr_V (as := [.int (q6 - 97)]) (rest := []) dX6_readsOrder_132 cv_6_239 hcl rfl rfl rfl rfl (lb rfl) (lb rfl) (lb rfl) (ok_F_X6_readsHouse hq) ?_
              refine po_i hF (fun hg hF => ?_) (fun _ hF => nomatch hF)
              cases hF
              exact pr_iret dX6_readsOrder_135 rfl (nb_of hg) rfl
            · refine pr_icT (tgt := 136) dX6_readsOrder_127 (by decide) (pc_neT hc) ?_
              refine pr_aload_n dX6_readsOrder_136 rfl ?_
              refine pr_iload_n dX6_readsOrder_137 rfl ?_
              obtain ⟨q38, hq38, hF⟩ := po_b hF
              refine po_i hq38 (fun hcl hq => ?_) (fun _ hq => nomatch hq)
              refine pr_V (as := [.int (q6 - 97)]) (rest := []) dX6_readsOrder_138 cv_6_233 hcl rfl rfl rfl rfl (lb rfl) (lb rfl) (lb rfl) (ok_F_X6_isTold hq) ?_
              refine po_i hF (fun hc hF => ?_) (fun hc hF => ?_)
              · refine pr_ifF (tgt := 152) dX6_readsOrder_141 (by decide) (pc_neF hc) ?_
                refine pr_aload_n dX6_readsOrder_144 rfl ?_
                refine pr_bipush (v := 7) dX6_readsOrder_145 (kb_7) ?_
                refine pr_iload_n dX6_readsOrder_147 rfl ?_
                obtain ⟨q47, hq47, hF⟩ := po_b hF
                refine po_i hq47 (fun hcl hq => ?_) (fun _ hq => nomatch hq)
                refine pr_V (as := [.int 7, .int v5]) (rest := []) dX6_readsOrder_148 cv_6_136 hcl rfl rfl rfl rfl (lb rfl) (lb rfl) (lb rfl) (ok_F_X6_wrongAt hq) ?_
                refine po_i hF (fun hg hF => ?_) (fun _ hF => nomatch hF)
                cases hF
                exact pr_iret dX6_readsOrder_151 rfl (nb_of hg) rfl
              · refine pr_ifT (tgt := 152) dX6_readsOrder_141 (by decide) (pc_neT hc) ?_
                refine pr_iload_n dX6_readsOrder_152 rfl ?_
                refine pr_bipush (v := 42) dX6_readsOrder_153 (kb_42) ?_
                refine po_i hF (fun hc hF => ?_) (fun hc hF => ?_)
                · refine pr_icT (tgt := 164) dX6_readsOrder_155 (by decide) (pc_eqT hc) ?_
                  refine pr_aload_n dX6_readsOrder_164 rfl ?_
                  refine pr_iload_n dX6_readsOrder_165 rfl ?_
                  refine pr_iload_n dX6_readsOrder_166 rfl ?_
                  refine pr_bipush (v := 42) dX6_readsOrder_167 (kb_42) ?_
                  refine po_i hF (fun hc hF => ?_) (fun hc hF => ?_)
                  · refine pr_icF (tgt := 176) dX6_readsOrder_169 (by decide) (pc_neF hc) ?_
                    refine pr_iconst (v := 1) dX6_readsOrder_172 (kc_1) ?_
                    refine pr_goto (tgt := 177) dX6_readsOrder_173 (by decide) ?_
                    obtain ⟨q40, hq40, hF⟩ := po_b hF
                    refine po_i hq40 (fun hcl hq => ?_) (fun _ hq => nomatch hq)
                    refine pr_V (as := [.int (q6 - 97), .int 1]) (rest := []) dX6_readsOrder_177 cv_6_242 hcl rfl rfl rfl rfl (lb rfl) (lb rfl) (lb rfl) (ok_F_X6_readsOther hq) ?_
                    refine po_i hF (fun hg hF => ?_) (fun _ hF => nomatch hF)
                    cases hF
                    exact pr_iret dX6_readsOrder_180 rfl (nb_of hg) rfl
                  · refine pr_icT (tgt := 176) dX6_readsOrder_169 (by decide) (pc_neT hc) ?_
                    refine pr_iconst (v := 0) dX6_readsOrder_176 (kc_0) ?_
                    obtain ⟨q39, hq39, hF⟩ := po_b hF
                    refine po_i hq39 (fun hcl hq => ?_) (fun _ hq => nomatch hq)
                    refine pr_V (as := [.int (q6 - 97), .int 0]) (rest := []) dX6_readsOrder_177 cv_6_242 hcl rfl rfl rfl rfl (lb rfl) (lb rfl) (lb rfl) (ok_F_X6_readsOther hq) ?_
                    refine po_i hF (fun hg hF => ?_) (fun _ hF => nomatch hF)
                    cases hF
                    exact pr_iret dX6_readsOrder_180 rfl (nb_of hg) rfl
                · refine pr_icF (tgt := 164) dX6_readsOrder_155 (by decide) (pc_eqF hc) ?_
                  refine pr_iload_n dX6_readsOrder_158 rfl ?_
                  refine pr_bipush (v := 38) dX6_readsOrder_159 (kb_38) ?_
                  refine po_i hF (fun hc hF => ?_) (fun hc hF => ?_)
                  · refine pr_icF (tgt := 181) dX6_readsOrder_161 (by decide) (pc_neF hc) ?_
                    refine pr_aload_n dX6_readsOrder_164 rfl ?_
                    refine pr_iload_n dX6_readsOrder_165 rfl ?_
                    refine pr_iload_n dX6_readsOrder_166 rfl ?_
                    refine pr_bipush (v := 42) dX6_readsOrder_167 (kb_42) ?_
                    refine po_i hF (fun hc hF => ?_) (fun hc hF => ?_)
                    · refine pr_icF (tgt := 176) dX6_readsOrder_169 (by decide) (pc_neF hc) ?_
                      refine pr_iconst (v := 1) dX6_readsOrder_172 (kc_1) ?_
                      refine pr_goto (tgt := 177) dX6_readsOrder_173 (by decide) ?_
                      obtain ⟨q46, hq46, hF⟩ := po_b hF
                      refine po_i hq46 (fun hcl hq => ?_) (fun _ hq => nomatch hq)
                      refine pr_V (as := [.int (q6 - 97), .int 1]) (rest := []) dX6_readsOrder_177 cv_6_242 hcl rfl rfl rfl rfl (lb rfl) (lb rfl) (lb rfl) (ok_F_X6_readsOther hq) ?_
                      refine po_i hF (fun hg hF => ?_) (fun _ hF => nomatch hF)
                      cases hF
                      exact pr_iret dX6_readsOrder_180 rfl (nb_of hg) rfl
                    · refine pr_icT (tgt := 176) dX6_readsOrder_169 (by decide) (pc_neT hc) ?_
                      refine pr_iconst (v := 0) dX6_readsOrder_176 (kc_0) ?_
                      obtain ⟨q45, hq45, hF⟩ := po_b hF
                      refine po_i hq45 (fun hcl hq => ?_) (fun _ hq => nomatch hq)
                      refine pr_V (as := [.int (q6 - 97), .int 0]) (rest := []) dX6_readsOrder_177 cv_6_242 hcl rfl rfl rfl rfl (lb rfl) (lb rfl) (lb rfl) (ok_F_X6_readsOther hq) ?_
                      refine po_i hF (fun hg hF => ?_) (fun _ hF => nomatch hF)
                      cases hF
                      exact pr_iret dX6_readsOrder_180 rfl (nb_of hg) rfl
                  · refine pr_icT (tgt := 181) dX6_readsOrder_161 (by decide) (pc_neT hc) ?_
                    refine pr_aload_n dX6_readsOrder_181 rfl ?_
                    refine pr_iload_n dX6_readsOrder_182 rfl ?_
                    refine pr_bipush (v := 61) dX6_readsOrder_183 (kb_61) ?_
                    refine po_i hF (fun hc hF => ?_) (fun hc hF => ?_)
                    · refine pr_icF (tgt := 199) dX6_readsOrder_185 (by decide) (pc_neF hc) ?_
                      refine pr_aload_n dX6_readsOrder_188 rfl ?_
                      obtain ⟨v43, hv43, hF⟩ := po_b hF
                      refine pr_getI dX6_readsOrder_189 tf_6_227 (hv43) ?_
                      refine pr_iconst (v := 1) dX6_readsOrder_192 (kc_1) ?_
                      refine pr_iload_n dX6_readsOrder_193 rfl ?_
                      refine pr_ishl dX6_readsOrder_194 ?_
                      refine pr_ior dX6_readsOrder_195 ?_
                      refine pr_goto (tgt := 209) dX6_readsOrder_196 (by decide) ?_
                      obtain ⟨h44, hh44, hF⟩ := po_b hF
                      refine pr_put dX6_readsOrder_209 tp_6_227 (hh44) ?_
                      refine pr_iconst (v := 1) dX6_readsOrder_212 (kc_1) ?_
                      cases hF
                      exact pr_iret dX6_readsOrder_213 rfl nb_1 rfl
                    · refine pr_icT (tgt := 199) dX6_readsOrder_185 (by decide) (pc_neT hc) ?_
                      refine pr_aload_n dX6_readsOrder_199 rfl ?_
                      obtain ⟨v41, hv41, hF⟩ := po_b hF
                      refine pr_getI dX6_readsOrder_200 tf_6_227 (hv41) ?_
                      refine pr_iconst (v := 1) dX6_readsOrder_203 (kc_1) ?_
                      refine pr_iload_n dX6_readsOrder_204 rfl ?_
                      refine pr_ishl dX6_readsOrder_205 ?_
                      refine pr_iconst (v := (-1)) dX6_readsOrder_206 (kc_m1) ?_
                      refine pr_ixor dX6_readsOrder_207 ?_
                      refine pr_iand dX6_readsOrder_208 ?_
                      obtain ⟨h42, hh42, hF⟩ := po_b hF
                      refine pr_put dX6_readsOrder_209 tp_6_227 (hh42) ?_
                      refine pr_iconst (v := 1) dX6_readsOrder_212 (kc_1) ?_
                      cases hF
                      exact pr_iret dX6_readsOrder_213 rfl nb_1 rfl
          · refine pr_icF (tgt := 114) dX6_readsOrder_89 (by decide) (pc_eqF hc) ?_
            refine pr_iload_n dX6_readsOrder_92 rfl ?_
            refine pr_bipush (v := 42) dX6_readsOrder_93 (kb_42) ?_
            refine po_i hF (fun hc hF => ?_) (fun hc hF => ?_)
            · refine pr_icT (tgt := 114) dX6_readsOrder_95 (by decide) (pc_eqT hc) ?_
              refine pr_aload_n dX6_readsOrder_114 rfl ?_
              refine pr_aload_n dX6_readsOrder_115 rfl ?_
              obtain ⟨v49, hv49, hF⟩ := po_b hF
              refine pr_getI dX6_readsOrder_116 tf_6_123 (hv49) ?_
              refine pr_iconst (v := 1) dX6_readsOrder_119 (kc_1) ?_
              refine pr_iadd dX6_readsOrder_120 ?_
              obtain ⟨h50, hh50, hF⟩ := po_b hF
              refine pr_put dX6_readsOrder_121 tp_6_123 (hh50) ?_
              refine pr_iload_n dX6_readsOrder_124 rfl ?_
              refine pr_bipush (v := 64) dX6_readsOrder_125 (kb_64) ?_
              refine po_i hF (fun hc hF => ?_) (fun hc hF => ?_)
              · refine pr_icF (tgt := 136) dX6_readsOrder_127 (by decide) (pc_neF hc) ?_
                refine pr_aload_n dX6_readsOrder_130 rfl ?_
                refine pr_iload_n dX6_readsOrder_131 rfl ?_
                obtain ⟨q61, hq61, hF⟩ := po_b hF
                refine po_i hq61 (fun hcl hq => ?_) (fun _ hq => nomatch hq)
                refine pr_V (as := [.int (q6 - 97)]) (rest := []) dX6_readsOrder_132 cv_6_239 hcl rfl rfl rfl rfl (lb rfl) (lb rfl) (lb rfl) (ok_F_X6_readsHouse hq) ?_
                refine po_i hF (fun hg hF => ?_) (fun _ hF => nomatch hF)
                cases hF
                exact pr_iret dX6_readsOrder_135 rfl (nb_of hg) rfl
              · refine pr_icT (tgt := 136) dX6_readsOrder_127 (by decide) (pc_neT hc) ?_
                refine pr_aload_n dX6_readsOrder_136 rfl ?_
                refine pr_iload_n dX6_readsOrder_137 rfl ?_
                obtain ⟨q51, hq51, hF⟩ := po_b hF
                refine po_i hq51 (fun hcl hq => ?_) (fun _ hq => nomatch hq)
                refine pr_V (as := [.int (q6 - 97)]) (rest := []) dX6_readsOrder_138 cv_6_233 hcl rfl rfl rfl rfl (lb rfl) (lb rfl) (lb rfl) (ok_F_X6_isTold hq) ?_
                refine po_i hF (fun hc hF => ?_) (fun hc hF => ?_)
                · refine pr_ifF (tgt := 152) dX6_readsOrder_141 (by decide) (pc_neF hc) ?_
                  refine pr_aload_n dX6_readsOrder_144 rfl ?_
                  refine pr_bipush (v := 7) dX6_readsOrder_145 (kb_7) ?_
                  refine pr_iload_n dX6_readsOrder_147 rfl ?_
                  obtain ⟨q60, hq60, hF⟩ := po_b hF
                  refine po_i hq60 (fun hcl hq => ?_) (fun _ hq => nomatch hq)
                  refine pr_V (as := [.int 7, .int v5]) (rest := []) dX6_readsOrder_148 cv_6_136 hcl rfl rfl rfl rfl (lb rfl) (lb rfl) (lb rfl) (ok_F_X6_wrongAt hq) ?_
                  refine po_i hF (fun hg hF => ?_) (fun _ hF => nomatch hF)
                  cases hF
                  exact pr_iret dX6_readsOrder_151 rfl (nb_of hg) rfl
                · refine pr_ifT (tgt := 152) dX6_readsOrder_141 (by decide) (pc_neT hc) ?_
                  refine pr_iload_n dX6_readsOrder_152 rfl ?_
                  refine pr_bipush (v := 42) dX6_readsOrder_153 (kb_42) ?_
                  refine po_i hF (fun hc hF => ?_) (fun hc hF => ?_)
                  · refine pr_icT (tgt := 164) dX6_readsOrder_155 (by decide) (pc_eqT hc) ?_
                    refine pr_aload_n dX6_readsOrder_164 rfl ?_
                    refine pr_iload_n dX6_readsOrder_165 rfl ?_
                    refine pr_iload_n dX6_readsOrder_166 rfl ?_
                    refine pr_bipush (v := 42) dX6_readsOrder_167 (kb_42) ?_
                    refine po_i hF (fun hc hF => ?_) (fun hc hF => ?_)
                    · refine pr_icF (tgt := 176) dX6_readsOrder_169 (by decide) (pc_neF hc) ?_
                      refine pr_iconst (v := 1) dX6_readsOrder_172 (kc_1) ?_
                      refine pr_goto (tgt := 177) dX6_readsOrder_173 (by decide) ?_
                      obtain ⟨q53, hq53, hF⟩ := po_b hF
                      refine po_i hq53 (fun hcl hq => ?_) (fun _ hq => nomatch hq)
                      refine pr_V (as := [.int (q6 - 97), .int 1]) (rest := []) dX6_readsOrder_177 cv_6_242 hcl rfl rfl rfl rfl (lb rfl) (lb rfl) (lb rfl) (ok_F_X6_readsOther hq) ?_
                      refine po_i hF (fun hg hF => ?_) (fun _ hF => nomatch hF)
                      cases hF
                      exact pr_iret dX6_readsOrder_180 rfl (nb_of hg) rfl
                    · refine pr_icT (tgt := 176) dX6_readsOrder_169 (by decide) (pc_neT hc) ?_
                      refine pr_iconst (v := 0) dX6_readsOrder_176 (kc_0) ?_
                      obtain ⟨q52, hq52, hF⟩ := po_b hF
                      refine po_i hq52 (fun hcl hq => ?_) (fun _ hq => nomatch hq)
                      refine pr_V (as := [.int (q6 - 97), .int 0]) (rest := []) dX6_readsOrder_177 cv_6_242 hcl rfl rfl rfl rfl (lb rfl) (lb rfl) (lb rfl) (ok_F_X6_readsOther hq) ?_
                      refine po_i hF (fun hg hF => ?_) (fun _ hF => nomatch hF)
                      cases hF
                      exact pr_iret dX6_readsOrder_180 rfl (nb_of hg) rfl
                  · refine pr_icF (tgt := 164) dX6_readsOrder_155 (by decide) (pc_eqF hc) ?_
                    refine pr_iload_n dX6_readsOrder_158 rfl ?_
                    refine pr_bipush (v := 38) dX6_readsOrder_159 (kb_38) ?_
                    refine po_i hF (fun hc hF => ?_) (fun hc hF => ?_)
                    · refine pr_icF (tgt := 181) dX6_readsOrder_161 (by decide) (pc_neF hc) ?_
                      refine pr_aload_n dX6_readsOrder_164 rfl ?_
                      refine pr_iload_n dX6_readsOrder_165 rfl ?_
                      refine pr_iload_n dX6_readsOrder_166 rfl ?_
                      refine pr_bipush (v := 42) dX6_readsOrder_167 (kb_42) ?_
                      refine po_i hF (fun hc hF => ?_) (fun hc hF => ?_)
                      · refine pr_icF (tgt := 176) dX6_readsOrder_169 (by decide) (pc_neF hc) ?_
                        refine pr_iconst (v := 1) dX6_readsOrder_172 (kc_1) ?_
                        refine pr_goto (tgt := 177) dX6_readsOrder_173 (by decide) ?_
                        obtain ⟨q59, hq59, hF⟩ := po_b hF
                        refine po_i hq59 (fun hcl hq => ?_) (fun _ hq => nomatch hq)
                        refine pr_V (as := [.int (q6 - 97), .int 1]) (rest := []) dX6_readsOrder_177 cv_6_242 hcl rfl rfl rfl rfl (lb rfl) (lb rfl) (lb rfl) (ok_F_X6_readsOther hq) ?_
                        refine po_i hF (fun hg hF => ?_) (fun _ hF => nomatch hF)
                        cases hF
                        exact pr_iret dX6_readsOrder_180 rfl (nb_of hg) rfl
                      · refine pr_icT (tgt := 176) dX6_readsOrder_169 (by decide) (pc_neT hc) ?_
                        refine pr_iconst (v := 0) dX6_readsOrder_176 (kc_0) ?_
                        obtain ⟨q58, hq58, hF⟩ := po_b hF
                        refine po_i hq58 (fun hcl hq => ?_) (fun _ hq => nomatch hq)
                        refine pr_V (as := [.int (q6 - 97), .int 0]) (rest := []) dX6_readsOrder_177 cv_6_242 hcl rfl rfl rfl rfl (lb rfl) (lb rfl) (lb rfl) (ok_F_X6_readsOther hq) ?_
                        refine po_i hF (fun hg hF => ?_) (fun _ hF => nomatch hF)
                        cases hF
                        exact pr_iret dX6_readsOrder_180 rfl (nb_of hg) rfl
                    · refine pr_icT (tgt := 181) dX6_readsOrder_161 (by decide) (pc_neT hc) ?_
                      refine pr_aload_n dX6_readsOrder_181 rfl ?_
                      refine pr_iload_n dX6_readsOrder_182 rfl ?_
                      refine pr_bipush (v := 61) dX6_readsOrder_183 (kb_61) ?_
                      refine po_i hF (fun hc hF => ?_) (fun hc hF => ?_)
                      · refine pr_icF (tgt := 199) dX6_readsOrder_185 (by decide) (pc_neF hc) ?_
                        refine pr_aload_n dX6_readsOrder_188 rfl ?_
                        obtain ⟨v56, hv56, hF⟩ := po_b hF
                        refine pr_getI dX6_readsOrder_189 tf_6_227 (hv56) ?_
                        refine pr_iconst (v := 1) dX6_readsOrder_192 (kc_1) ?_
                        refine pr_iload_n dX6_readsOrder_193 rfl ?_
                        refine pr_ishl dX6_readsOrder_194 ?_
                        refine pr_ior dX6_readsOrder_195 ?_
                        refine pr_goto (tgt := 209) dX6_readsOrder_196 (by decide) ?_
                        obtain ⟨h57, hh57, hF⟩ := po_b hF
                        refine pr_put dX6_readsOrder_209 tp_6_227 (hh57) ?_
                        refine pr_iconst (v := 1) dX6_readsOrder_212 (kc_1) ?_
                        cases hF
                        exact pr_iret dX6_readsOrder_213 rfl nb_1 rfl
                      · refine pr_icT (tgt := 199) dX6_readsOrder_185 (by decide) (pc_neT hc) ?_
                        refine pr_aload_n dX6_readsOrder_199 rfl ?_
                        obtain ⟨v54, hv54, hF⟩ := po_b hF
                        refine pr_getI dX6_readsOrder_200 tf_6_227 (hv54) ?_
                        refine pr_iconst (v := 1) dX6_readsOrder_203 (kc_1) ?_
                        refine pr_iload_n dX6_readsOrder_204 rfl ?_
                        refine pr_ishl dX6_readsOrder_205 ?_
                        refine pr_iconst (v := (-1)) dX6_readsOrder_206 (kc_m1) ?_
                        refine pr_ixor dX6_readsOrder_207 ?_
                        refine pr_iand dX6_readsOrder_208 ?_
                        obtain ⟨h55, hh55, hF⟩ := po_b hF
                        refine pr_put dX6_readsOrder_209 tp_6_227 (hh55) ?_
                        refine pr_iconst (v := 1) dX6_readsOrder_212 (kc_1) ?_
                        cases hF
                        exact pr_iret dX6_readsOrder_213 rfl nb_1 rfl
            · refine pr_icF (tgt := 114) dX6_readsOrder_95 (by decide) (pc_eqF hc) ?_
              refine pr_iload_n dX6_readsOrder_98 rfl ?_
              refine pr_bipush (v := 38) dX6_readsOrder_99 (kb_38) ?_
              refine po_i hF (fun hc hF => ?_) (fun hc hF => ?_)
              · refine pr_icT (tgt := 114) dX6_readsOrder_101 (by decide) (pc_eqT hc) ?_
                refine pr_aload_n dX6_readsOrder_114 rfl ?_
                refine pr_aload_n dX6_readsOrder_115 rfl ?_
                obtain ⟨v62, hv62, hF⟩ := po_b hF
                refine pr_getI dX6_readsOrder_116 tf_6_123 (hv62) ?_
                refine pr_iconst (v := 1) dX6_readsOrder_119 (kc_1) ?_
                refine pr_iadd dX6_readsOrder_120 ?_
                obtain ⟨h63, hh63, hF⟩ := po_b hF
                refine pr_put dX6_readsOrder_121 tp_6_123 (hh63) ?_
                refine pr_iload_n dX6_readsOrder_124 rfl ?_
                refine pr_bipush (v := 64) dX6_readsOrder_125 (kb_64) ?_
                refine po_i hF (fun hc hF => ?_) (fun hc hF => ?_)
                · refine pr_icF (tgt := 136) dX6_readsOrder_127 (by decide) (pc_neF hc) ?_
                  refine pr_aload_n dX6_readsOrder_130 rfl ?_
                  refine pr_iload_n dX6_readsOrder_131 rfl ?_
                  obtain ⟨q74, hq74, hF⟩ := po_b hF
                  refine po_i hq74 (fun hcl hq => ?_) (fun _ hq => nomatch hq)
                  refine pr_V (as := [.int (q6 - 97)]) (rest := []) dX6_readsOrder_132 cv_6_239 hcl rfl rfl rfl rfl (lb rfl) (lb rfl) (lb rfl) (ok_F_X6_readsHouse hq) ?_
                  refine po_i hF (fun hg hF => ?_) (fun _ hF => nomatch hF)
                  cases hF
                  exact pr_iret dX6_readsOrder_135 rfl (nb_of hg) rfl
                · refine pr_icT (tgt := 136) dX6_readsOrder_127 (by decide) (pc_neT hc) ?_
                  refine pr_aload_n dX6_readsOrder_136 rfl ?_
                  refine pr_iload_n dX6_readsOrder_137 rfl ?_
                  obtain ⟨q64, hq64, hF⟩ := po_b hF
                  refine po_i hq64 (fun hcl hq => ?_) (fun _ hq => nomatch hq)
                  refine pr_V (as := [.int (q6 - 97)]) (rest := []) dX6_readsOrder_138 cv_6_233 hcl rfl rfl rfl rfl (lb rfl) (lb rfl) (lb rfl) (ok_F_X6_isTold hq) ?_
                  refine po_i hF (fun hc hF => ?_) (fun hc hF => ?_)
                  · refine pr_ifF (tgt := 152) dX6_readsOrder_141 (by decide) (pc_neF hc) ?_
                    refine pr_aload_n dX6_readsOrder_144 rfl ?_
                    refine pr_bipush (v := 7) dX6_readsOrder_145 (kb_7) ?_
                    refine pr_iload_n dX6_readsOrder_147 rfl ?_
                    obtain ⟨q73, hq73, hF⟩ := po_b hF
                    refine po_i hq73 (fun hcl hq => ?_) (fun _ hq => nomatch hq)
                    refine pr_V (as := [.int 7, .int v5]) (rest := []) dX6_readsOrder_148 cv_6_136 hcl rfl rfl rfl rfl (lb rfl) (lb rfl) (lb rfl) (ok_F_X6_wrongAt hq) ?_
                    refine po_i hF (fun hg hF => ?_) (fun _ hF => nomatch hF)
                    cases hF
                    exact pr_iret dX6_readsOrder_151 rfl (nb_of hg) rfl
                  · refine pr_ifT (tgt := 152) dX6_readsOrder_141 (by decide) (pc_neT hc) ?_
                    refine pr_iload_n dX6_readsOrder_152 rfl ?_
                    refine pr_bipush (v := 42) dX6_readsOrder_153 (kb_42) ?_
                    refine po_i hF (fun hc hF => ?_) (fun hc hF => ?_)
                    · refine pr_icT (tgt := 164) dX6_readsOrder_155 (by decide) (pc_eqT hc) ?_
                      refine pr_aload_n dX6_readsOrder_164 rfl ?_
                      refine pr_iload_n dX6_readsOrder_165 rfl ?_
                      refine pr_iload_n dX6_readsOrder_166 rfl ?_
                      refine pr_bipush (v := 42) dX6_readsOrder_167 (kb_42) ?_
                      refine po_i hF (fun hc hF => ?_) (fun hc hF => ?_)
                      · refine pr_icF (tgt := 176) dX6_readsOrder_169 (by decide) (pc_neF hc) ?_
                        refine pr_iconst (v := 1) dX6_readsOrder_172 (kc_1) ?_
                        refine pr_goto (tgt := 177) dX6_readsOrder_173 (by decide) ?_
                        obtain ⟨q66, hq66, hF⟩ := po_b hF
                        refine po_i hq66 (fun hcl hq => ?_) (fun _ hq => nomatch hq)
                        refine pr_V (as := [.int (q6 - 97), .int 1]) (rest := []) dX6_readsOrder_177 cv_6_242 hcl rfl rfl rfl rfl (lb rfl) (lb rfl) (lb rfl) (ok_F_X6_readsOther hq) ?_
                        refine po_i hF (fun hg hF => ?_) (fun _ hF => nomatch hF)
                        cases hF
                        exact pr_iret dX6_readsOrder_180 rfl (nb_of hg) rfl
                      · refine pr_icT (tgt := 176) dX6_readsOrder_169 (by decide) (pc_neT hc) ?_
                        refine pr_iconst (v := 0) dX6_readsOrder_176 (kc_0) ?_
                        obtain ⟨q65, hq65, hF⟩ := po_b hF
                        refine po_i hq65 (fun hcl hq => ?_) (fun _ hq => nomatch hq)
                        refine pr_V (as := [.int (q6 - 97), .int 0]) (rest := []) dX6_readsOrder_177 cv_6_242 hcl rfl rfl rfl rfl (lb rfl) (lb rfl) (lb rfl) (ok_F_X6_readsOther hq) ?_
                        refine po_i hF (fun hg hF => ?_) (fun _ hF => nomatch hF)
                        cases hF
                        exact pr_iret dX6_readsOrder_180 rfl (nb_of hg) rfl
                    · refine pr_icF (tgt := 164) dX6_readsOrder_155 (by decide) (pc_eqF hc) ?_
                      refine pr_iload_n dX6_readsOrder_158 rfl ?_
                      refine pr_bipush (v := 38) dX6_readsOrder_159 (kb_38) ?_
                      refine po_i hF (fun hc hF => ?_) (fun hc hF => ?_)
                      · refine pr_icF (tgt := 181) dX6_readsOrder_161 (by decide) (pc_neF hc) ?_
                        refine pr_aload_n dX6_readsOrder_164 rfl ?_
                        refine pr_iload_n dX6_readsOrder_165 rfl ?_
                        refine pr_iload_n dX6_readsOrder_166 rfl ?_
                        refine pr_bipush (v := 42) dX6_readsOrder_167 (kb_42) ?_
                        refine po_i hF (fun hc hF => ?_) (fun hc hF => ?_)
                        · refine pr_icF (tgt := 176) dX6_readsOrder_169 (by decide) (pc_neF hc) ?_
                          refine pr_iconst (v := 1) dX6_readsOrder_172 (kc_1) ?_
                          refine pr_goto (tgt := 177) dX6_readsOrder_173 (by decide) ?_
                          obtain ⟨q72, hq72, hF⟩ := po_b hF
                          refine po_i hq72 (fun hcl hq => ?_) (fun _ hq => nomatch hq)
                          refine pr_V (as := [.int (q6 - 97), .int 1]) (rest := []) dX6_readsOrder_177 cv_6_242 hcl rfl rfl rfl rfl (lb rfl) (lb rfl) (lb rfl) (ok_F_X6_readsOther hq) ?_
                          refine po_i hF (fun hg hF => ?_) (fun _ hF => nomatch hF)
                          cases hF
                          exact pr_iret dX6_readsOrder_180 rfl (nb_of hg) rfl
                        · refine pr_icT (tgt := 176) dX6_readsOrder_169 (by decide) (pc_neT hc) ?_
                          refine pr_iconst (v := 0) dX6_readsOrder_176 (kc_0) ?_
                          obtain ⟨q71, hq71, hF⟩ := po_b hF
                          refine po_i hq71 (fun hcl hq => ?_) (fun _ hq => nomatch hq)
                          refine pr_V (as := [.int (q6 - 97), .int 0]) (rest := []) dX6_readsOrder_177 cv_6_242 hcl rfl rfl rfl rfl (lb rfl) (lb rfl) (lb rfl) (ok_F_X6_readsOther hq) ?_
                          refine po_i hF (fun hg hF => ?_) (fun _ hF => nomatch hF)
                          cases hF
                          exact pr_iret dX6_readsOrder_180 rfl (nb_of hg) rfl
                      · refine pr_icT (tgt := 181) dX6_readsOrder_161 (by decide) (pc_neT hc) ?_
                        refine pr_aload_n dX6_readsOrder_181 rfl ?_
                        refine pr_iload_n dX6_readsOrder_182 rfl ?_
                        refine pr_bipush (v := 61) dX6_readsOrder_183 (kb_61) ?_
                        refine po_i hF (fun hc hF => ?_) (fun hc hF => ?_)
                        · refine pr_icF (tgt := 199) dX6_readsOrder_185 (by decide) (pc_neF hc) ?_
                          refine pr_aload_n dX6_readsOrder_188 rfl ?_
                          obtain ⟨v69, hv69, hF⟩ := po_b hF
                          refine pr_getI dX6_readsOrder_189 tf_6_227 (hv69) ?_
                          refine pr_iconst (v := 1) dX6_readsOrder_192 (kc_1) ?_
                          refine pr_iload_n dX6_readsOrder_193 rfl ?_
                          refine pr_ishl dX6_readsOrder_194 ?_
                          refine pr_ior dX6_readsOrder_195 ?_
                          refine pr_goto (tgt := 209) dX6_readsOrder_196 (by decide) ?_
                          obtain ⟨h70, hh70, hF⟩ := po_b hF
                          refine pr_put dX6_readsOrder_209 tp_6_227 (hh70) ?_
                          refine pr_iconst (v := 1) dX6_readsOrder_212 (kc_1) ?_
                          cases hF
                          exact pr_iret dX6_readsOrder_213 rfl nb_1 rfl
                        · refine pr_icT (tgt := 199) dX6_readsOrder_185 (by decide) (pc_neT hc) ?_
                          refine pr_aload_n dX6_readsOrder_199 rfl ?_
                          obtain ⟨v67, hv67, hF⟩ := po_b hF
                          refine pr_getI dX6_readsOrder_200 tf_6_227 (hv67) ?_
                          refine pr_iconst (v := 1) dX6_readsOrder_203 (kc_1) ?_
                          refine pr_iload_n dX6_readsOrder_204 rfl ?_
                          refine pr_ishl dX6_readsOrder_205 ?_
                          refine pr_iconst (v := (-1)) dX6_readsOrder_206 (kc_m1) ?_
                          refine pr_ixor dX6_readsOrder_207 ?_
                          refine pr_iand dX6_readsOrder_208 ?_
                          obtain ⟨h68, hh68, hF⟩ := po_b hF
                          refine pr_put dX6_readsOrder_209 tp_6_227 (hh68) ?_
                          refine pr_iconst (v := 1) dX6_readsOrder_212 (kc_1) ?_
                          cases hF
                          exact pr_iret dX6_readsOrder_213 rfl nb_1 rfl
              · refine pr_icF (tgt := 114) dX6_readsOrder_101 (by decide) (pc_eqF hc) ?_
                refine pr_aload_n dX6_readsOrder_104 rfl ?_
                refine pr_iconst (v := 1) dX6_readsOrder_105 (kc_1) ?_
                refine pr_aload_n dX6_readsOrder_106 rfl ?_
                obtain ⟨v75, hv75, hF⟩ := po_b hF
                refine pr_getI dX6_readsOrder_107 tf_6_123 (hv75) ?_
                obtain ⟨q76, hq76, hF⟩ := po_b hF
                refine po_i hq76 (fun hcl hq => ?_) (fun _ hq => nomatch hq)
                refine pr_V (as := [.int 1, .int v75]) (rest := []) dX6_readsOrder_110 cv_6_136 hcl rfl rfl rfl rfl (lb rfl) (lb rfl) (lb rfl) (ok_F_X6_wrongAt hq) ?_
                refine po_i hF (fun hg hF => ?_) (fun _ hF => nomatch hF)
                cases hF
                exact pr_iret dX6_readsOrder_113 rfl (nb_of hg) rfl

def L_X6_putsBack_18 : Nat → Nat → Int32 → pm_H → Option (pm_H)
  | 0, _, _, _ => none
  | n + 1, x0, x1, h =>
    if x1 < 16 then
      (pm_fR [(5, 3)] h x0).bind fun v5 =>
      (pm_fR [(5, 5)] h x0).bind fun v6 =>
      (pm_ai 0 h v6 x1).bind fun v7 =>
      (pm_si 0 h v5 x1 v7).bind fun h8 =>
      (pm_fR [(5, 4)] h8 x0).bind fun v9 =>
      (pm_fR [(5, 6)] h8 x0).bind fun v10 =>
      (pm_ai 0 h8 v10 x1).bind fun v11 =>
      (pm_si 0 h8 v9 x1 v11).bind fun h12 =>
      L_X6_putsBack_18 n x0 (x1 + 1) h12
    else
      some h
theorem ok_L_X6_putsBack_18 {d : Nat} : ∀ (n : Nat) {x0 : Nat} {x1 : Int32} {h : pm_H} {q : pm_H} {res : Option Value × pm_H}, L_X6_putsBack_18 n x0 x1 h = some q → (∀ z1 : Value, pm_nolong z1 = true → pm_E (d + 0) 6 cX6_putsBack (none) 54 [.ref x0, z1] [] q res) → pm_E (d + 0) 6 cX6_putsBack (none) 18 [.ref x0, .int x1] [] h res := by
  intro n
  induction n with
  | zero =>
    intro x0 x1 h q res hF hk
    rw [L_X6_putsBack_18] at hF
    cases hF
  | succ n ih =>
    intro x0 x1 h q res hF hk
    rw [L_X6_putsBack_18] at hF
    refine pr_iload_n dX6_putsBack_18 rfl ?_
    refine pr_bipush (v := 16) dX6_putsBack_19 (kb_16) ?_
    refine po_i hF (fun hc hF => ?_) (fun hc hF => ?_)
    · refine pr_icF (tgt := 54) dX6_putsBack_21 (by decide) (pc_geF hc) ?_
      refine pr_aload_n dX6_putsBack_24 rfl ?_
      obtain ⟨v5, hv5, hF⟩ := po_b hF
      refine pr_getR dX6_putsBack_25 tf_6_19 (hv5) ?_
      refine pr_iload_n dX6_putsBack_28 rfl ?_
      refine pr_aload_n dX6_putsBack_29 rfl ?_
      obtain ⟨v6, hv6, hF⟩ := po_b hF
      refine pr_getR dX6_putsBack_30 tf_6_25 (hv6) ?_
      refine pr_iload_n dX6_putsBack_33 rfl ?_
      obtain ⟨v7, hv7, hF⟩ := po_b hF
      refine pr_iald dX6_putsBack_34 (hv7) ?_
      obtain ⟨h8, hh8, hF⟩ := po_b hF
      refine pr_iast dX6_putsBack_35 (hh8) ?_
      refine pr_aload_n dX6_putsBack_36 rfl ?_
      obtain ⟨v9, hv9, hF⟩ := po_b hF
      refine pr_getR dX6_putsBack_37 tf_6_22 (hv9) ?_
      refine pr_iload_n dX6_putsBack_40 rfl ?_
      refine pr_aload_n dX6_putsBack_41 rfl ?_
      obtain ⟨v10, hv10, hF⟩ := po_b hF
      refine pr_getR dX6_putsBack_42 tf_6_28 (hv10) ?_
      refine pr_iload_n dX6_putsBack_45 rfl ?_
      obtain ⟨v11, hv11, hF⟩ := po_b hF
      refine pr_iald dX6_putsBack_46 (hv11) ?_
      obtain ⟨h12, hh12, hF⟩ := po_b hF
      refine pr_iast dX6_putsBack_47 (hh12) ?_
      refine pr_iinc (v := 1) (L' := [.ref x0, .int (x1 + 1)]) dX6_putsBack_48 rfl (kc_1) rfl ?_
      refine pr_goto (tgt := 18) dX6_putsBack_51 (by decide) ?_
      exact ih hF hk
    · refine pr_icT (tgt := 54) dX6_putsBack_21 (by decide) (pc_geT hc) ?_
      cases hF
      exact hk _ rfl
def F_X6_putsBack (n : Nat) (h : pm_H) (a0 : Nat) : Option (pm_H) :=
  (pm_fI [(5, 9)] h a0).bind fun v1 =>
  (pm_put [(5, 7, 0)] h a0 (.int v1)).bind fun h2 =>
  (pm_fI [(5, 10)] h2 a0).bind fun v3 =>
  (pm_put [(5, 8, 0)] h2 a0 (.int v3)).bind fun h4 =>
  (L_X6_putsBack_18 n a0 0 h4).bind fun q13 =>
  some q13
theorem ok_F_X6_putsBack {d n : Nat} {h : pm_H} {a0 : Nat} {q : pm_H} (hF : F_X6_putsBack n h a0 = some q) : pm_E (d + 0) 6 cX6_putsBack (none) 0 [.ref a0, pm_D] [] h (none, q) := by
  unfold F_X6_putsBack at hF
  refine pr_aload_n dX6_putsBack_0 rfl ?_
  refine pr_aload_n dX6_putsBack_1 rfl ?_
  obtain ⟨v1, hv1, hF⟩ := po_b hF
  refine pr_getI dX6_putsBack_2 tf_6_246 (hv1) ?_
  obtain ⟨h2, hh2, hF⟩ := po_b hF
  refine pr_put dX6_putsBack_5 tp_6_108 (hh2) ?_
  refine pr_aload_n dX6_putsBack_8 rfl ?_
  refine pr_aload_n dX6_putsBack_9 rfl ?_
  obtain ⟨v3, hv3, hF⟩ := po_b hF
  refine pr_getI dX6_putsBack_10 tf_6_249 (hv3) ?_
  obtain ⟨h4, hh4, hF⟩ := po_b hF
  refine pr_put dX6_putsBack_13 tp_6_227 (hh4) ?_
  refine pr_iconst (v := 0) dX6_putsBack_16 (kc_0) ?_
  refine pr_istore_n (L' := [.ref a0, .int 0]) dX6_putsBack_17 rfl ?_
  obtain ⟨q13, hq13, hF⟩ := po_b hF
  refine ok_L_X6_putsBack_18 n hq13 (fun z1 hz1 => ?_)
  cases hF
  exact pr_vret dX6_putsBack_54 rfl rfl

def L_X6_orders_40 : Nat → Nat → Int32 → pm_H → Option (Int32 × pm_H)
  | 0, _, _, _ => none
  | n + 1, x0, x2, h =>
    if x2 = 0 then
      some (x2, h)
    else
      (pm_fI [(5, 13)] h x0).bind fun v7 =>
      (pm_fI [(5, 14)] h x0).bind fun v8 =>
      if v7 < v8 then
        (if pm_cl_ h x0 = some 5 then F_X6_takes h x0 59 else none).bind fun q9 =>
        if q9.1 = 0 then
          L_X6_orders_40 n x0 0 q9.2
        else
          (if pm_cl_ q9.2 x0 = some 5 then F_X6_readsOrder n q9.2 x0 else none).bind fun q10 =>
          if q10.1 = 0 then
            L_X6_orders_40 n x0 0 q10.2
          else
            L_X6_orders_40 n x0 1 q10.2
      else
        some (x2, h)
theorem ok_L_X6_orders_40 {d : Nat} : ∀ (n : Nat) {x0 : Nat} {x2 : Int32} {w1 : Value} {h : pm_H} {q : Int32 × pm_H} {res : Option Value × pm_H}, L_X6_orders_40 n x0 x2 h = some q → pm_nolong w1 = true → (pm_E (d + 4) 6 cX6_orders (some .int) 80 [.ref x0, w1, .int q.1] [] q.2 res) → pm_E (d + 4) 6 cX6_orders (some .int) 40 [.ref x0, w1, .int x2] [] h res := by
  intro n
  induction n with
  | zero =>
    intro x0 x2 w1 h q res hF hw1 hk
    rw [L_X6_orders_40] at hF
    cases hF
  | succ n ih =>
    intro x0 x2 w1 h q res hF hw1 hk
    rw [L_X6_orders_40] at hF
    refine pr_iload_n dX6_orders_40 rfl ?_
    refine po_i hF (fun hc hF => ?_) (fun hc hF => ?_)
    · refine pr_ifT (tgt := 80) dX6_orders_41 (by decide) (pc_eqT hc) ?_
      cases hF
      exact hk
    · refine pr_ifF (tgt := 80) dX6_orders_41 (by decide) (pc_eqF hc) ?_
      refine pr_aload_n dX6_orders_44 rfl ?_
      obtain ⟨v7, hv7, hF⟩ := po_b hF
      refine pr_getI dX6_orders_45 tf_6_123 (hv7) ?_
      refine pr_aload_n dX6_orders_48 rfl ?_
      obtain ⟨v8, hv8, hF⟩ := po_b hF
      refine pr_getI dX6_orders_49 tf_6_126 (hv8) ?_
      refine po_i hF (fun hc hF => ?_) (fun hc hF => ?_)
      · refine pr_icF (tgt := 80) dX6_orders_52 (by decide) (pc_geF hc) ?_
        refine pr_aload_n dX6_orders_55 rfl ?_
        refine pr_bipush (v := 59) dX6_orders_56 (kb_59) ?_
        obtain ⟨q9, hq9, hF⟩ := po_b hF
        refine po_i hq9 (fun hcl hq => ?_) (fun _ hq => nomatch hq)
        refine pr_V (as := [.int 59]) (rest := []) dX6_orders_58 cv_6_213 hcl rfl rfl rfl rfl (lb rfl) (lb rfl) (lb rfl) (ok_F_X6_takes hq) ?_
        refine po_i hF (fun hc hF => ?_) (fun hc hF => ?_)
        · refine pr_ifT (tgt := 75) dX6_orders_61 (by decide) (pc_eqT hc) ?_
          refine pr_iconst (v := 0) dX6_orders_75 (kc_0) ?_
          refine pr_istore_n (L' := [.ref x0, w1, .int 0]) dX6_orders_76 (pm_st_w (i := 1) rfl rfl hw1 rfl) ?_
          refine pr_goto (tgt := 40) dX6_orders_77 (by decide) ?_
          exact ih hF hw1 hk
        · refine pr_ifF (tgt := 75) dX6_orders_61 (by decide) (pc_eqF hc) ?_
          refine pr_aload_n dX6_orders_64 rfl ?_
          obtain ⟨q10, hq10, hF⟩ := po_b hF
          refine po_i hq10 (fun hcl hq => ?_) (fun _ hq => nomatch hq)
          refine pr_V (as := []) (rest := []) dX6_orders_65 cv_6_255 hcl rfl rfl rfl rfl (lb rfl) (lb rfl) (lb rfl) (ok_F_X6_readsOrder hq) ?_
          refine po_i hF (fun hc hF => ?_) (fun hc hF => ?_)
          · refine pr_ifT (tgt := 75) dX6_orders_68 (by decide) (pc_eqT hc) ?_
            refine pr_iconst (v := 0) dX6_orders_75 (kc_0) ?_
            refine pr_istore_n (L' := [.ref x0, w1, .int 0]) dX6_orders_76 (pm_st_w (i := 1) rfl rfl hw1 rfl) ?_
            refine pr_goto (tgt := 40) dX6_orders_77 (by decide) ?_
            exact ih hF hw1 hk
          · refine pr_ifF (tgt := 75) dX6_orders_68 (by decide) (pc_eqF hc) ?_
            refine pr_iconst (v := 1) dX6_orders_71 (kc_1) ?_
            refine pr_goto (tgt := 76) dX6_orders_72 (by decide) ?_
            refine pr_istore_n (L' := [.ref x0, w1, .int 1]) dX6_orders_76 (pm_st_w (i := 1) rfl rfl hw1 rfl) ?_
            refine pr_goto (tgt := 40) dX6_orders_77 (by decide) ?_
            exact ih hF hw1 hk
      · refine pr_icT (tgt := 80) dX6_orders_52 (by decide) (pc_geT hc) ?_
        cases hF
        exact hk
def F_X6_orders (n : Nat) (h : pm_H) (a0 : Nat) (x1 : Int32) : Option (Int32 × pm_H) :=
  (F_X6_in x1 1 160).bind fun q1 =>
  if q1 = 0 then
    some ((-1), h)
  else
    (pm_fI [(5, 12)] h a0).bind fun v2 =>
    if v2 < x1 then
      some ((-1), h)
    else
      (if pm_cl_ h a0 = some 5 then F_X6_beginsText h a0 x1 else none).bind fun q3 =>
      (pm_put [(5, 35, 0)] q3 a0 (.int 0)).bind fun h4 =>
      (if pm_cl_ h4 a0 = some 5 then F_X6_laysAside n h4 a0 else none).bind fun q5 =>
      (if pm_cl_ q5 a0 = some 5 then F_X6_readsOrder n q5 a0 else none).bind fun q6 =>
      (L_X6_orders_40 n a0 q6.1 q6.2).bind fun q11 =>
      (pm_put [(5, 12, 0)] q11.2 a0 (.int 0)).bind fun h12 =>
      if q11.1 = 0 then
        (if pm_cl_ h12 a0 = some 5 then F_X6_putsBack n h12 a0 else none).bind fun q13 =>
        (pm_fI [(5, 15)] q13 a0).bind fun v14 =>
        some (v14, q13)
      else
        (pm_fI [(5, 35)] h12 a0).bind fun v15 =>
        some (v15, h12)
theorem ok_F_X6_orders {d n : Nat} {h : pm_H} {a0 : Nat} {x1 : Int32} {q : Int32 × pm_H} (hF : F_X6_orders n h a0 x1 = some q) : pm_E (d + 4) 6 cX6_orders (some .int) 0 [.ref a0, .int x1, pm_D] [] h (some (.int q.1), q.2) := by
  unfold F_X6_orders at hF
  refine pr_iload_n dX6_orders_0 rfl ?_
  refine pr_iconst (v := 1) dX6_orders_1 (kc_1) ?_
  refine pr_sipush (v := 160) dX6_orders_2 (ks_160) ?_
  obtain ⟨q1, hq1, hF⟩ := po_b hF
  refine pr_S dX6_orders_5 cs_6_104 (as := [.int x1, .int 1, .int 160]) (rest := []) rfl rfl rfl (lb rfl) (lb rfl) (lb rfl) (ok_F_X6_in hq1) ?_
  refine po_i hF (fun hc hF => ?_) (fun hc hF => ?_)
  · refine pr_ifT (tgt := 19) dX6_orders_8 (by decide) (pc_eqT hc) ?_
    refine pr_iconst (v := (-1)) dX6_orders_19 (kc_m1) ?_
    cases hF
    exact pr_iret dX6_orders_20 rfl rfl rfl
  · refine pr_ifF (tgt := 19) dX6_orders_8 (by decide) (pc_eqF hc) ?_
    refine pr_iload_n dX6_orders_11 rfl ?_
    refine pr_aload_n dX6_orders_12 rfl ?_
    obtain ⟨v2, hv2, hF⟩ := po_b hF
    refine pr_getI dX6_orders_13 tf_6_116 (hv2) ?_
    refine po_i hF (fun hc hF => ?_) (fun hc hF => ?_)
    · refine pr_icF (tgt := 21) dX6_orders_16 (by decide) (pc_leF hc) ?_
      refine pr_iconst (v := (-1)) dX6_orders_19 (kc_m1) ?_
      cases hF
      exact pr_iret dX6_orders_20 rfl rfl rfl
    · refine pr_icT (tgt := 21) dX6_orders_16 (by decide) (pc_leT hc) ?_
      refine pr_aload_n dX6_orders_21 rfl ?_
      refine pr_iload_n dX6_orders_22 rfl ?_
      obtain ⟨q3, hq3, hF⟩ := po_b hF
      refine po_i hq3 (fun hcl hq => ?_) (fun _ hq => nomatch hq)
      refine pr_V (as := [.int x1]) (rest := []) dX6_orders_23 cv_6_207 hcl rfl rfl rfl rfl (lb rfl) (lb rfl) (lb rfl) (ok_F_X6_beginsText hq) ?_
      refine pr_aload_n dX6_orders_26 rfl ?_
      refine pr_iconst (v := 0) dX6_orders_27 (kc_0) ?_
      obtain ⟨h4, hh4, hF⟩ := po_b hF
      refine pr_put dX6_orders_28 tp_6_236 (hh4) ?_
      refine pr_aload_n dX6_orders_31 rfl ?_
      obtain ⟨q5, hq5, hF⟩ := po_b hF
      refine po_i hq5 (fun hcl hq => ?_) (fun _ hq => nomatch hq)
      refine pr_V (as := []) (rest := []) dX6_orders_32 cv_6_252 hcl rfl rfl rfl rfl (lb rfl) (lb rfl) (lb rfl) (ok_F_X6_laysAside hq) ?_
      refine pr_aload_n dX6_orders_35 rfl ?_
      obtain ⟨q6, hq6, hF⟩ := po_b hF
      refine po_i hq6 (fun hcl hq => ?_) (fun _ hq => nomatch hq)
      refine pr_V (as := []) (rest := []) dX6_orders_36 cv_6_255 hcl rfl rfl rfl rfl (lb rfl) (lb rfl) (lb rfl) (ok_F_X6_readsOrder hq) ?_
      refine pr_istore_n (L' := [.ref a0, .int x1, .int q6.1]) dX6_orders_39 rfl ?_
      obtain ⟨q11, hq11, hF⟩ := po_b hF
      refine ok_L_X6_orders_40 n hq11 rfl ?_
      refine pr_aload_n dX6_orders_80 rfl ?_
      refine pr_iconst (v := 0) dX6_orders_81 (kc_0) ?_
      obtain ⟨h12, hh12, hF⟩ := po_b hF
      refine pr_put dX6_orders_82 tp_6_116 (hh12) ?_
      refine pr_iload_n dX6_orders_85 rfl ?_
      refine po_i hF (fun hc hF => ?_) (fun hc hF => ?_)
      · refine pr_ifT (tgt := 94) dX6_orders_86 (by decide) (pc_eqT hc) ?_
        refine pr_aload_n dX6_orders_94 rfl ?_
        obtain ⟨q13, hq13, hF⟩ := po_b hF
        refine po_i hq13 (fun hcl hq => ?_) (fun _ hq => nomatch hq)
        refine pr_V (as := []) (rest := []) dX6_orders_95 cv_6_258 hcl rfl rfl rfl rfl (lb rfl) (lb rfl) (lb rfl) (ok_F_X6_putsBack hq) ?_
        refine pr_aload_n dX6_orders_98 rfl ?_
        obtain ⟨v14, hv14, hF⟩ := po_b hF
        refine pr_getI dX6_orders_99 tf_6_133 (hv14) ?_
        cases hF
        exact pr_iret dX6_orders_102 rfl rfl rfl
      · refine pr_ifF (tgt := 94) dX6_orders_86 (by decide) (pc_eqF hc) ?_
        refine pr_aload_n dX6_orders_89 rfl ?_
        obtain ⟨v15, hv15, hF⟩ := po_b hF
        refine pr_getI dX6_orders_90 tf_6_236 (hv15) ?_
        cases hF
        exact pr_iret dX6_orders_93 rfl rfl rfl

def F_X6_size (x0 : Int32) : Option (Int32) :=
  if x0 < 0 then
    some (-x0)
  else
    some x0
theorem ok_F_X6_size {d : Nat} {h : pm_H} {x0 : Int32} {q : Int32} (hF : F_X6_size x0 = some q) : pm_E (d + 0) 6 cX6_size (some .int) 0 [.int x0] [] h (some (.int q), h) := by
  unfold F_X6_size at hF
  refine pr_iload_n dX6_size_0 rfl ?_
  refine po_i hF (fun hc hF => ?_) (fun hc hF => ?_)
  · refine pr_ifF (tgt := 9) dX6_size_1 (by decide) (pc_geF hc) ?_
    refine pr_iload_n dX6_size_4 rfl ?_
    refine pr_ineg dX6_size_5 ?_
    refine pr_goto (tgt := 10) dX6_size_6 (by decide) ?_
    cases hF
    exact pr_iret dX6_size_10 rfl rfl rfl
  · refine pr_ifT (tgt := 9) dX6_size_1 (by decide) (pc_geT hc) ?_
    refine pr_iload_n dX6_size_9 rfl ?_
    cases hF
    exact pr_iret dX6_size_10 rfl rfl rfl

def F_X6_readsDance (h : pm_H) (a0 : Nat) : Option (Int32 × pm_H) :=
  (if pm_cl_ h a0 = some 5 then F_X6_isLetter h a0 else none).bind fun q1 =>
  if q1 = 0 then
    (pm_fI [(5, 13)] h a0).bind fun v51 =>
    (if pm_cl_ h a0 = some 5 then F_X6_wrongAt h a0 1 v51 else none).bind fun q52 =>
    if q52.1 = 0 ∨ q52.1 = 1 then
      some (q52.1, q52.2)
    else none
  else
    (if pm_cl_ h a0 = some 5 then F_X6_here h a0 else none).bind fun q2 =>
    (if pm_cl_ h a0 = some 5 then F_X6_isTold h a0 (q2 - 97) else none).bind fun q3 =>
    if q3 = 0 then
      (pm_fI [(5, 13)] h a0).bind fun v49 =>
      (if pm_cl_ h a0 = some 5 then F_X6_wrongAt h a0 7 v49 else none).bind fun q50 =>
      if q50.1 = 0 ∨ q50.1 = 1 then
        some (q50.1, q50.2)
      else none
    else
      (pm_fI [(5, 8)] h a0).bind fun v4 =>
      (F_X6_has v4 (q2 - 97)).bind fun q5 =>
      if q5 = 0 then
        (pm_fI [(5, 13)] h a0).bind fun v6 =>
        (if pm_cl_ h a0 = some 5 then F_X6_wrongAt h a0 8 v6 else none).bind fun q7 =>
        if q7.1 = 0 ∨ q7.1 = 1 then
          some (q7.1, q7.2)
        else none
      else
        (pm_fI [(5, 37)] h a0).bind fun v8 =>
        (F_X6_has v8 (q2 - 97)).bind fun q9 =>
        if q9 = 0 then
          (pm_fI [(5, 13)] h a0).bind fun v10 =>
          (pm_put [(5, 13, 0)] h a0 (.int (v10 + 1))).bind fun h11 =>
          (if pm_cl_ h11 a0 = some 5 then F_X6_isLetter h11 a0 else none).bind fun q12 =>
          if q12 = 0 then
            (pm_fI [(5, 13)] h11 a0).bind fun v45 =>
            (if pm_cl_ h11 a0 = some 5 then F_X6_wrongAt h11 a0 1 v45 else none).bind fun q46 =>
            if q46.1 = 0 ∨ q46.1 = 1 then
              some (q46.1, q46.2)
            else none
          else
            (if pm_cl_ h11 a0 = some 5 then F_X6_here h11 a0 else none).bind fun q13 =>
            if (q13 - 97) = (q2 - 97) then
              (pm_fI [(5, 13)] h11 a0).bind fun v43 =>
              (if pm_cl_ h11 a0 = some 5 then F_X6_wrongAt h11 a0 6 v43 else none).bind fun q44 =>
              if q44.1 = 0 ∨ q44.1 = 1 then
                some (q44.1, q44.2)
              else none
            else
              (if pm_cl_ h11 a0 = some 5 then F_X6_isTold h11 a0 (q13 - 97) else none).bind fun q14 =>
              if q14 = 0 then
                (pm_fI [(5, 13)] h11 a0).bind fun v41 =>
                (if pm_cl_ h11 a0 = some 5 then F_X6_wrongAt h11 a0 7 v41 else none).bind fun q42 =>
                if q42.1 = 0 ∨ q42.1 = 1 then
                  some (q42.1, q42.2)
                else none
              else
                (pm_fI [(5, 37)] h11 a0).bind fun v15 =>
                (F_X6_has v15 (q13 - 97)).bind fun q16 =>
                if q16 = 0 then
                  (pm_fR [(5, 4)] h11 a0).bind fun v19 =>
                  (pm_ai 0 h11 v19 (q2 - 97)).bind fun v20 =>
                  (F_X6_has v20 (q13 - 97)).bind fun q21 =>
                  if q21 = 0 then
                    (pm_fI [(5, 13)] h11 a0).bind fun v22 =>
                    (pm_put [(5, 13, 0)] h11 a0 (.int (v22 + 1))).bind fun h23 =>
                    (pm_fI [(5, 37)] h23 a0).bind fun v24 =>
                    (pm_put [(5, 37, 0)] h23 a0 (.int (v24 ||| (pm_shl 1 (q2 - 97))))).bind fun h25 =>
                    (pm_fI [(5, 39)] h25 a0).bind fun v26 =>
                    (pm_fR [(5, 36)] h25 a0).bind fun v27 =>
                    (pm_ai 0 h25 v27 (q13 - 97)).bind fun v28 =>
                    (pm_fR [(5, 3)] h25 a0).bind fun v29 =>
                    (pm_ai 0 h25 v29 (q2 - 97)).bind fun v30 =>
                    (F_X6_size (v28 - v30)).bind fun q31 =>
                    (pm_put [(5, 39, 0)] h25 a0 (.int (v26 + q31))).bind fun h32 =>
                    (pm_fR [(5, 36)] h32 a0).bind fun v33 =>
                    (pm_fR [(5, 3)] h32 a0).bind fun v34 =>
                    (pm_ai 0 h32 v34 (q2 - 97)).bind fun v35 =>
                    (pm_si 0 h32 v33 (q13 - 97) v35).bind fun h36 =>
                    (pm_fI [(5, 38)] h36 a0).bind fun v37 =>
                    (pm_put [(5, 38, 0)] h36 a0 (.int (v37 + 1))).bind fun h38 =>
                    some (1, h38)
                  else
                    (pm_fI [(5, 13)] h11 a0).bind fun v39 =>
                    (if pm_cl_ h11 a0 = some 5 then F_X6_wrongAt h11 a0 9 v39 else none).bind fun q40 =>
                    if q40.1 = 0 ∨ q40.1 = 1 then
                      some (q40.1, q40.2)
                    else none
                else
                  (pm_fI [(5, 13)] h11 a0).bind fun v17 =>
                  (if pm_cl_ h11 a0 = some 5 then F_X6_wrongAt h11 a0 9 v17 else none).bind fun q18 =>
                  if q18.1 = 0 ∨ q18.1 = 1 then
                    some (q18.1, q18.2)
                  else none
        else
          (pm_fI [(5, 13)] h a0).bind fun v47 =>
          (if pm_cl_ h a0 = some 5 then F_X6_wrongAt h a0 8 v47 else none).bind fun q48 =>
          if q48.1 = 0 ∨ q48.1 = 1 then
            some (q48.1, q48.2)
          else none
theorem ok_F_X6_readsDance {d : Nat} {h : pm_H} {a0 : Nat} {q : Int32 × pm_H} (hF : F_X6_readsDance h a0 = some q) : pm_E (d + 2) 6 cX6_readsDance (some .boolean) 0 [.ref a0, pm_D, pm_D] [] h (some (.int q.1), q.2) := by
  unfold F_X6_readsDance at hF
  refine pr_aload_n dX6_readsDance_0 rfl ?_
  obtain ⟨q1, hq1, hF⟩ := po_b hF
  refine po_i hq1 (fun hcl hq => ?_) (fun _ hq => nomatch hq)
  refine pr_V (as := []) (rest := []) dX6_readsDance_1 cv_6_230 hcl rfl rfl rfl rfl (lb rfl) (lb rfl) (lb rfl) (ok_F_X6_isLetter hq) ?_
  refine po_i hF (fun hc hF => ?_) (fun hc hF => ?_)
  · refine pr_ifF (tgt := 17) dX6_readsDance_4 (by decide) (pc_neF hc) ?_
    refine pr_aload_n dX6_readsDance_7 rfl ?_
    refine pr_iconst (v := 1) dX6_readsDance_8 (kc_1) ?_
    refine pr_aload_n dX6_readsDance_9 rfl ?_
    obtain ⟨v51, hv51, hF⟩ := po_b hF
    refine pr_getI dX6_readsDance_10 tf_6_123 (hv51) ?_
    obtain ⟨q52, hq52, hF⟩ := po_b hF
    refine po_i hq52 (fun hcl hq => ?_) (fun _ hq => nomatch hq)
    refine pr_V (as := [.int 1, .int v51]) (rest := []) dX6_readsDance_13 cv_6_136 hcl rfl rfl rfl rfl (lb rfl) (lb rfl) (lb rfl) (ok_F_X6_wrongAt hq) ?_
    refine po_i hF (fun hg hF => ?_) (fun _ hF => nomatch hF)
    cases hF
    exact pr_iret dX6_readsDance_16 rfl (nb_of hg) rfl
  · refine pr_ifT (tgt := 17) dX6_readsDance_4 (by decide) (pc_neT hc) ?_
    refine pr_aload_n dX6_readsDance_17 rfl ?_
    obtain ⟨q2, hq2, hF⟩ := po_b hF
    refine po_i hq2 (fun hcl hq => ?_) (fun _ hq => nomatch hq)
    refine pr_V (as := []) (rest := []) dX6_readsDance_18 cv_6_129 hcl rfl rfl rfl rfl (lb rfl) (lb rfl) (lb rfl) (ok_F_X6_here hq) ?_
    refine pr_bipush (v := 97) dX6_readsDance_21 (kb_97) ?_
    refine pr_isub dX6_readsDance_23 ?_
    refine pr_istore_n (L' := [.ref a0, .int (q2 - 97), pm_D]) dX6_readsDance_24 rfl ?_
    refine pr_aload_n dX6_readsDance_25 rfl ?_
    refine pr_iload_n dX6_readsDance_26 rfl ?_
    obtain ⟨q3, hq3, hF⟩ := po_b hF
    refine po_i hq3 (fun hcl hq => ?_) (fun _ hq => nomatch hq)
    refine pr_V (as := [.int (q2 - 97)]) (rest := []) dX6_readsDance_27 cv_6_233 hcl rfl rfl rfl rfl (lb rfl) (lb rfl) (lb rfl) (ok_F_X6_isTold hq) ?_
    refine po_i hF (fun hc hF => ?_) (fun hc hF => ?_)
    · refine pr_ifF (tgt := 44) dX6_readsDance_30 (by decide) (pc_neF hc) ?_
      refine pr_aload_n dX6_readsDance_33 rfl ?_
      refine pr_bipush (v := 7) dX6_readsDance_34 (kb_7) ?_
      refine pr_aload_n dX6_readsDance_36 rfl ?_
      obtain ⟨v49, hv49, hF⟩ := po_b hF
      refine pr_getI dX6_readsDance_37 tf_6_123 (hv49) ?_
      obtain ⟨q50, hq50, hF⟩ := po_b hF
      refine po_i hq50 (fun hcl hq => ?_) (fun _ hq => nomatch hq)
      refine pr_V (as := [.int 7, .int v49]) (rest := []) dX6_readsDance_40 cv_6_136 hcl rfl rfl rfl rfl (lb rfl) (lb rfl) (lb rfl) (ok_F_X6_wrongAt hq) ?_
      refine po_i hF (fun hg hF => ?_) (fun _ hF => nomatch hF)
      cases hF
      exact pr_iret dX6_readsDance_43 rfl (nb_of hg) rfl
    · refine pr_ifT (tgt := 44) dX6_readsDance_30 (by decide) (pc_neT hc) ?_
      refine pr_aload_n dX6_readsDance_44 rfl ?_
      obtain ⟨v4, hv4, hF⟩ := po_b hF
      refine pr_getI dX6_readsDance_45 tf_6_227 (hv4) ?_
      refine pr_iload_n dX6_readsDance_48 rfl ?_
      obtain ⟨q5, hq5, hF⟩ := po_b hF
      refine pr_S dX6_readsDance_49 cs_6_100 (as := [.int v4, .int (q2 - 97)]) (rest := []) rfl rfl rfl (lb rfl) (lb rfl) (lb rfl) (ok_F_X6_has hq5) ?_
      refine po_i hF (fun hc hF => ?_) (fun hc hF => ?_)
      · refine pr_ifT (tgt := 66) dX6_readsDance_52 (by decide) (pc_eqT hc) ?_
        refine pr_aload_n dX6_readsDance_66 rfl ?_
        refine pr_bipush (v := 8) dX6_readsDance_67 (kb_8) ?_
        refine pr_aload_n dX6_readsDance_69 rfl ?_
        obtain ⟨v6, hv6, hF⟩ := po_b hF
        refine pr_getI dX6_readsDance_70 tf_6_123 (hv6) ?_
        obtain ⟨q7, hq7, hF⟩ := po_b hF
        refine po_i hq7 (fun hcl hq => ?_) (fun _ hq => nomatch hq)
        refine pr_V (as := [.int 8, .int v6]) (rest := []) dX6_readsDance_73 cv_6_136 hcl rfl rfl rfl rfl (lb rfl) (lb rfl) (lb rfl) (ok_F_X6_wrongAt hq) ?_
        refine po_i hF (fun hg hF => ?_) (fun _ hF => nomatch hF)
        cases hF
        exact pr_iret dX6_readsDance_76 rfl (nb_of hg) rfl
      · refine pr_ifF (tgt := 66) dX6_readsDance_52 (by decide) (pc_eqF hc) ?_
        refine pr_aload_n dX6_readsDance_55 rfl ?_
        obtain ⟨v8, hv8, hF⟩ := po_b hF
        refine pr_getI dX6_readsDance_56 tf_6_261 (hv8) ?_
        refine pr_iload_n dX6_readsDance_59 rfl ?_
        obtain ⟨q9, hq9, hF⟩ := po_b hF
        refine pr_S dX6_readsDance_60 cs_6_100 (as := [.int v8, .int (q2 - 97)]) (rest := []) rfl rfl rfl (lb rfl) (lb rfl) (lb rfl) (ok_F_X6_has hq9) ?_
        refine po_i hF (fun hc hF => ?_) (fun hc hF => ?_)
        · refine pr_ifT (tgt := 77) dX6_readsDance_63 (by decide) (pc_eqT hc) ?_
          refine pr_aload_n dX6_readsDance_77 rfl ?_
          refine pr_aload_n dX6_readsDance_78 rfl ?_
          obtain ⟨v10, hv10, hF⟩ := po_b hF
          refine pr_getI dX6_readsDance_79 tf_6_123 (hv10) ?_
          refine pr_iconst (v := 1) dX6_readsDance_82 (kc_1) ?_
          refine pr_iadd dX6_readsDance_83 ?_
          obtain ⟨h11, hh11, hF⟩ := po_b hF
          refine pr_put dX6_readsDance_84 tp_6_123 (hh11) ?_
          refine pr_aload_n dX6_readsDance_87 rfl ?_
          obtain ⟨q12, hq12, hF⟩ := po_b hF
          refine po_i hq12 (fun hcl hq => ?_) (fun _ hq => nomatch hq)
          refine pr_V (as := []) (rest := []) dX6_readsDance_88 cv_6_230 hcl rfl rfl rfl rfl (lb rfl) (lb rfl) (lb rfl) (ok_F_X6_isLetter hq) ?_
          refine po_i hF (fun hc hF => ?_) (fun hc hF => ?_)
          · refine pr_ifF (tgt := 104) dX6_readsDance_91 (by decide) (pc_neF hc) ?_
            refine pr_aload_n dX6_readsDance_94 rfl ?_
            refine pr_iconst (v := 1) dX6_readsDance_95 (kc_1) ?_
            refine pr_aload_n dX6_readsDance_96 rfl ?_
            obtain ⟨v45, hv45, hF⟩ := po_b hF
            refine pr_getI dX6_readsDance_97 tf_6_123 (hv45) ?_
            obtain ⟨q46, hq46, hF⟩ := po_b hF
            refine po_i hq46 (fun hcl hq => ?_) (fun _ hq => nomatch hq)
            refine pr_V (as := [.int 1, .int v45]) (rest := []) dX6_readsDance_100 cv_6_136 hcl rfl rfl rfl rfl (lb rfl) (lb rfl) (lb rfl) (ok_F_X6_wrongAt hq) ?_
            refine po_i hF (fun hg hF => ?_) (fun _ hF => nomatch hF)
            cases hF
            exact pr_iret dX6_readsDance_103 rfl (nb_of hg) rfl
          · refine pr_ifT (tgt := 104) dX6_readsDance_91 (by decide) (pc_neT hc) ?_
            refine pr_aload_n dX6_readsDance_104 rfl ?_
            obtain ⟨q13, hq13, hF⟩ := po_b hF
            refine po_i hq13 (fun hcl hq => ?_) (fun _ hq => nomatch hq)
            refine pr_V (as := []) (rest := []) dX6_readsDance_105 cv_6_129 hcl rfl rfl rfl rfl (lb rfl) (lb rfl) (lb rfl) (ok_F_X6_here hq) ?_
            refine pr_bipush (v := 97) dX6_readsDance_108 (kb_97) ?_
            refine pr_isub dX6_readsDance_110 ?_
            refine pr_istore_n (L' := [.ref a0, .int (q2 - 97), .int (q13 - 97)]) dX6_readsDance_111 rfl ?_
            refine pr_iload_n dX6_readsDance_112 rfl ?_
            refine pr_iload_n dX6_readsDance_113 rfl ?_
            refine po_i hF (fun hc hF => ?_) (fun hc hF => ?_)
            · refine pr_icF (tgt := 128) dX6_readsDance_114 (by decide) (pc_neF hc) ?_
              refine pr_aload_n dX6_readsDance_117 rfl ?_
              refine pr_bipush (v := 6) dX6_readsDance_118 (kb_6) ?_
              refine pr_aload_n dX6_readsDance_120 rfl ?_
              obtain ⟨v43, hv43, hF⟩ := po_b hF
              refine pr_getI dX6_readsDance_121 tf_6_123 (hv43) ?_
              obtain ⟨q44, hq44, hF⟩ := po_b hF
              refine po_i hq44 (fun hcl hq => ?_) (fun _ hq => nomatch hq)
              refine pr_V (as := [.int 6, .int v43]) (rest := []) dX6_readsDance_124 cv_6_136 hcl rfl rfl rfl rfl (lb rfl) (lb rfl) (lb rfl) (ok_F_X6_wrongAt hq) ?_
              refine po_i hF (fun hg hF => ?_) (fun _ hF => nomatch hF)
              cases hF
              exact pr_iret dX6_readsDance_127 rfl (nb_of hg) rfl
            · refine pr_icT (tgt := 128) dX6_readsDance_114 (by decide) (pc_neT hc) ?_
              refine pr_aload_n dX6_readsDance_128 rfl ?_
              refine pr_iload_n dX6_readsDance_129 rfl ?_
              obtain ⟨q14, hq14, hF⟩ := po_b hF
              refine po_i hq14 (fun hcl hq => ?_) (fun _ hq => nomatch hq)
              refine pr_V (as := [.int (q13 - 97)]) (rest := []) dX6_readsDance_130 cv_6_233 hcl rfl rfl rfl rfl (lb rfl) (lb rfl) (lb rfl) (ok_F_X6_isTold hq) ?_
              refine po_i hF (fun hc hF => ?_) (fun hc hF => ?_)
              · refine pr_ifF (tgt := 147) dX6_readsDance_133 (by decide) (pc_neF hc) ?_
                refine pr_aload_n dX6_readsDance_136 rfl ?_
                refine pr_bipush (v := 7) dX6_readsDance_137 (kb_7) ?_
                refine pr_aload_n dX6_readsDance_139 rfl ?_
                obtain ⟨v41, hv41, hF⟩ := po_b hF
                refine pr_getI dX6_readsDance_140 tf_6_123 (hv41) ?_
                obtain ⟨q42, hq42, hF⟩ := po_b hF
                refine po_i hq42 (fun hcl hq => ?_) (fun _ hq => nomatch hq)
                refine pr_V (as := [.int 7, .int v41]) (rest := []) dX6_readsDance_143 cv_6_136 hcl rfl rfl rfl rfl (lb rfl) (lb rfl) (lb rfl) (ok_F_X6_wrongAt hq) ?_
                refine po_i hF (fun hg hF => ?_) (fun _ hF => nomatch hF)
                cases hF
                exact pr_iret dX6_readsDance_146 rfl (nb_of hg) rfl
              · refine pr_ifT (tgt := 147) dX6_readsDance_133 (by decide) (pc_neT hc) ?_
                refine pr_aload_n dX6_readsDance_147 rfl ?_
                obtain ⟨v15, hv15, hF⟩ := po_b hF
                refine pr_getI dX6_readsDance_148 tf_6_261 (hv15) ?_
                refine pr_iload_n dX6_readsDance_151 rfl ?_
                obtain ⟨q16, hq16, hF⟩ := po_b hF
                refine pr_S dX6_readsDance_152 cs_6_100 (as := [.int v15, .int (q13 - 97)]) (rest := []) rfl rfl rfl (lb rfl) (lb rfl) (lb rfl) (ok_F_X6_has hq16) ?_
                refine po_i hF (fun hc hF => ?_) (fun hc hF => ?_)
                · refine pr_ifF (tgt := 171) dX6_readsDance_155 (by decide) (pc_neF hc) ?_
                  refine pr_aload_n dX6_readsDance_158 rfl ?_
                  obtain ⟨v19, hv19, hF⟩ := po_b hF
                  refine pr_getR dX6_readsDance_159 tf_6_22 (hv19) ?_
                  refine pr_iload_n dX6_readsDance_162 rfl ?_
                  obtain ⟨v20, hv20, hF⟩ := po_b hF
                  refine pr_iald dX6_readsDance_163 (hv20) ?_
                  refine pr_iload_n dX6_readsDance_164 rfl ?_
                  obtain ⟨q21, hq21, hF⟩ := po_b hF
                  refine pr_S dX6_readsDance_165 cs_6_100 (as := [.int v20, .int (q13 - 97)]) (rest := []) rfl rfl rfl (lb rfl) (lb rfl) (lb rfl) (ok_F_X6_has hq21) ?_
                  refine po_i hF (fun hc hF => ?_) (fun hc hF => ?_)
                  · refine pr_ifT (tgt := 182) dX6_readsDance_168 (by decide) (pc_eqT hc) ?_
                    refine pr_aload_n dX6_readsDance_182 rfl ?_
                    refine pr_aload_n dX6_readsDance_183 rfl ?_
                    obtain ⟨v22, hv22, hF⟩ := po_b hF
                    refine pr_getI dX6_readsDance_184 tf_6_123 (hv22) ?_
                    refine pr_iconst (v := 1) dX6_readsDance_187 (kc_1) ?_
                    refine pr_iadd dX6_readsDance_188 ?_
                    obtain ⟨h23, hh23, hF⟩ := po_b hF
                    refine pr_put dX6_readsDance_189 tp_6_123 (hh23) ?_
                    refine pr_aload_n dX6_readsDance_192 rfl ?_
                    refine pr_aload_n dX6_readsDance_193 rfl ?_
                    obtain ⟨v24, hv24, hF⟩ := po_b hF
                    refine pr_getI dX6_readsDance_194 tf_6_261 (hv24) ?_
                    refine pr_iconst (v := 1) dX6_readsDance_197 (kc_1) ?_
                    refine pr_iload_n dX6_readsDance_198 rfl ?_
                    refine pr_ishl dX6_readsDance_199 ?_
                    refine pr_ior dX6_readsDance_200 ?_
                    obtain ⟨h25, hh25, hF⟩ := po_b hF
                    refine pr_put dX6_readsDance_201 tp_6_261 (hh25) ?_
                    refine pr_aload_n dX6_readsDance_204 rfl ?_
                    refine pr_aload_n dX6_readsDance_205 rfl ?_
                    obtain ⟨v26, hv26, hF⟩ := po_b hF
                    refine pr_getI dX6_readsDance_206 tf_6_264 (hv26) ?_
                    refine pr_aload_n dX6_readsDance_209 rfl ?_
                    obtain ⟨v27, hv27, hF⟩ := po_b hF
                    refine pr_getR dX6_readsDance_210 tf_6_74 (hv27) ?_
                    refine pr_iload_n dX6_readsDance_213 rfl ?_
                    obtain ⟨v28, hv28, hF⟩ := po_b hF
                    refine pr_iald dX6_readsDance_214 (hv28) ?_
                    refine pr_aload_n dX6_readsDance_215 rfl ?_
                    obtain ⟨v29, hv29, hF⟩ := po_b hF
                    refine pr_getR dX6_readsDance_216 tf_6_19 (hv29) ?_
                    refine pr_iload_n dX6_readsDance_219 rfl ?_
                    obtain ⟨v30, hv30, hF⟩ := po_b hF
                    refine pr_iald dX6_readsDance_220 (hv30) ?_
                    refine pr_isub dX6_readsDance_221 ?_
                    obtain ⟨q31, hq31, hF⟩ := po_b hF
                    refine pr_S dX6_readsDance_222 cs_6_112 (as := [.int (v28 - v30)]) (rest := [.int v26, .ref a0]) rfl rfl rfl (lb rfl) (lb rfl) (lb rfl) (ok_F_X6_size hq31) ?_
                    refine pr_iadd dX6_readsDance_225 ?_
                    obtain ⟨h32, hh32, hF⟩ := po_b hF
                    refine pr_put dX6_readsDance_226 tp_6_264 (hh32) ?_
                    refine pr_aload_n dX6_readsDance_229 rfl ?_
                    obtain ⟨v33, hv33, hF⟩ := po_b hF
                    refine pr_getR dX6_readsDance_230 tf_6_74 (hv33) ?_
                    refine pr_iload_n dX6_readsDance_233 rfl ?_
                    refine pr_aload_n dX6_readsDance_234 rfl ?_
                    obtain ⟨v34, hv34, hF⟩ := po_b hF
                    refine pr_getR dX6_readsDance_235 tf_6_19 (hv34) ?_
                    refine pr_iload_n dX6_readsDance_238 rfl ?_
                    obtain ⟨v35, hv35, hF⟩ := po_b hF
                    refine pr_iald dX6_readsDance_239 (hv35) ?_
                    obtain ⟨h36, hh36, hF⟩ := po_b hF
                    refine pr_iast dX6_readsDance_240 (hh36) ?_
                    refine pr_aload_n dX6_readsDance_241 rfl ?_
                    refine pr_aload_n dX6_readsDance_242 rfl ?_
                    obtain ⟨v37, hv37, hF⟩ := po_b hF
                    refine pr_getI dX6_readsDance_243 tf_6_267 (hv37) ?_
                    refine pr_iconst (v := 1) dX6_readsDance_246 (kc_1) ?_
                    refine pr_iadd dX6_readsDance_247 ?_
                    obtain ⟨h38, hh38, hF⟩ := po_b hF
                    refine pr_put dX6_readsDance_248 tp_6_267 (hh38) ?_
                    refine pr_iconst (v := 1) dX6_readsDance_251 (kc_1) ?_
                    cases hF
                    exact pr_iret dX6_readsDance_252 rfl nb_1 rfl
                  · refine pr_ifF (tgt := 182) dX6_readsDance_168 (by decide) (pc_eqF hc) ?_
                    refine pr_aload_n dX6_readsDance_171 rfl ?_
                    refine pr_bipush (v := 9) dX6_readsDance_172 (kb_9) ?_
                    refine pr_aload_n dX6_readsDance_174 rfl ?_
                    obtain ⟨v39, hv39, hF⟩ := po_b hF
                    refine pr_getI dX6_readsDance_175 tf_6_123 (hv39) ?_
                    obtain ⟨q40, hq40, hF⟩ := po_b hF
                    refine po_i hq40 (fun hcl hq => ?_) (fun _ hq => nomatch hq)
                    refine pr_V (as := [.int 9, .int v39]) (rest := []) dX6_readsDance_178 cv_6_136 hcl rfl rfl rfl rfl (lb rfl) (lb rfl) (lb rfl) (ok_F_X6_wrongAt hq) ?_
                    refine po_i hF (fun hg hF => ?_) (fun _ hF => nomatch hF)
                    cases hF
                    exact pr_iret dX6_readsDance_181 rfl (nb_of hg) rfl
                · refine pr_ifT (tgt := 171) dX6_readsDance_155 (by decide) (pc_neT hc) ?_
                  refine pr_aload_n dX6_readsDance_171 rfl ?_
                  refine pr_bipush (v := 9) dX6_readsDance_172 (kb_9) ?_
                  refine pr_aload_n dX6_readsDance_174 rfl ?_
                  obtain ⟨v17, hv17, hF⟩ := po_b hF
                  refine pr_getI dX6_readsDance_175 tf_6_123 (hv17) ?_
                  obtain ⟨q18, hq18, hF⟩ := po_b hF
                  refine po_i hq18 (fun hcl hq => ?_) (fun _ hq => nomatch hq)
                  refine pr_V (as := [.int 9, .int v17]) (rest := []) dX6_readsDance_178 cv_6_136 hcl rfl rfl rfl rfl (lb rfl) (lb rfl) (lb rfl) (ok_F_X6_wrongAt hq) ?_
                  refine po_i hF (fun hg hF => ?_) (fun _ hF => nomatch hF)
                  cases hF
                  exact pr_iret dX6_readsDance_181 rfl (nb_of hg) rfl
        · refine pr_ifF (tgt := 77) dX6_readsDance_63 (by decide) (pc_eqF hc) ?_
          refine pr_aload_n dX6_readsDance_66 rfl ?_
          refine pr_bipush (v := 8) dX6_readsDance_67 (kb_8) ?_
          refine pr_aload_n dX6_readsDance_69 rfl ?_
          obtain ⟨v47, hv47, hF⟩ := po_b hF
          refine pr_getI dX6_readsDance_70 tf_6_123 (hv47) ?_
          obtain ⟨q48, hq48, hF⟩ := po_b hF
          refine po_i hq48 (fun hcl hq => ?_) (fun _ hq => nomatch hq)
          refine pr_V (as := [.int 8, .int v47]) (rest := []) dX6_readsDance_73 cv_6_136 hcl rfl rfl rfl rfl (lb rfl) (lb rfl) (lb rfl) (ok_F_X6_wrongAt hq) ?_
          refine po_i hF (fun hg hF => ?_) (fun _ hF => nomatch hF)
          cases hF
          exact pr_iret dX6_readsDance_76 rfl (nb_of hg) rfl

def L_X6_dance_51 : Nat → Nat → Int32 → pm_H → Option (pm_H)
  | 0, _, _, _ => none
  | n + 1, x0, x3, h =>
    if x3 < 16 then
      (pm_fR [(5, 36)] h x0).bind fun v8 =>
      (pm_fR [(5, 3)] h x0).bind fun v9 =>
      (pm_ai 0 h v9 x3).bind fun v10 =>
      (pm_si 0 h v8 x3 v10).bind fun h11 =>
      L_X6_dance_51 n x0 (x3 + 1) h11
    else
      some h
theorem ok_L_X6_dance_51 {d : Nat} : ∀ (n : Nat) {x0 : Nat} {x3 : Int32} {w1 w2 : Value} {h : pm_H} {q : pm_H} {res : Option Value × pm_H}, L_X6_dance_51 n x0 x3 h = some q → pm_nolong w1 = true → pm_nolong w2 = true → (∀ z3 : Value, pm_nolong z3 = true → pm_E (d + 3) 6 cX6_dance (some .int) 75 [.ref x0, w1, w2, z3] [] q res) → pm_E (d + 3) 6 cX6_dance (some .int) 51 [.ref x0, w1, w2, .int x3] [] h res := by
  intro n
  induction n with
  | zero =>
    intro x0 x3 w1 w2 h q res hF hw1 hw2 hk
    rw [L_X6_dance_51] at hF
    cases hF
  | succ n ih =>
    intro x0 x3 w1 w2 h q res hF hw1 hw2 hk
    rw [L_X6_dance_51] at hF
    refine pr_iload_n dX6_dance_51 rfl ?_
    refine pr_bipush (v := 16) dX6_dance_52 (kb_16) ?_
    refine po_i hF (fun hc hF => ?_) (fun hc hF => ?_)
    · refine pr_icF (tgt := 75) dX6_dance_54 (by decide) (pc_geF hc) ?_
      refine pr_aload_n dX6_dance_57 rfl ?_
      obtain ⟨v8, hv8, hF⟩ := po_b hF
      refine pr_getR dX6_dance_58 tf_6_74 (hv8) ?_
      refine pr_iload_n dX6_dance_61 rfl ?_
      refine pr_aload_n dX6_dance_62 rfl ?_
      obtain ⟨v9, hv9, hF⟩ := po_b hF
      refine pr_getR dX6_dance_63 tf_6_19 (hv9) ?_
      refine pr_iload_n dX6_dance_66 rfl ?_
      obtain ⟨v10, hv10, hF⟩ := po_b hF
      refine pr_iald dX6_dance_67 (hv10) ?_
      obtain ⟨h11, hh11, hF⟩ := po_b hF
      refine pr_iast dX6_dance_68 (hh11) ?_
      refine pr_iinc (v := 1) (L' := [.ref x0, w1, w2, .int (x3 + 1)]) dX6_dance_69 rfl (kc_1) (pm_st_w (i := 2) rfl rfl hw2 rfl) ?_
      refine pr_goto (tgt := 51) dX6_dance_72 (by decide) ?_
      exact ih hF hw1 hw2 hk
    · refine pr_icT (tgt := 75) dX6_dance_54 (by decide) (pc_geT hc) ?_
      cases hF
      exact hk _ rfl
def L_X6_dance_80 : Nat → Nat → Int32 → pm_H → Option (Int32 × pm_H)
  | 0, _, _, _ => none
  | n + 1, x0, x3, h =>
    if x3 = 0 then
      some (x3, h)
    else
      (pm_fI [(5, 13)] h x0).bind fun v14 =>
      (pm_fI [(5, 14)] h x0).bind fun v15 =>
      if v14 < v15 then
        (if pm_cl_ h x0 = some 5 then F_X6_readsDance h x0 else none).bind fun q16 =>
        L_X6_dance_80 n x0 q16.1 q16.2
      else
        some (x3, h)
theorem ok_L_X6_dance_80 {d : Nat} : ∀ (n : Nat) {x0 : Nat} {x3 : Int32} {w1 w2 : Value} {h : pm_H} {q : Int32 × pm_H} {res : Option Value × pm_H}, L_X6_dance_80 n x0 x3 h = some q → pm_nolong w1 = true → pm_nolong w2 = true → (pm_E (d + 3) 6 cX6_dance (some .int) 103 [.ref x0, w1, w2, .int q.1] [] q.2 res) → pm_E (d + 3) 6 cX6_dance (some .int) 80 [.ref x0, w1, w2, .int x3] [] h res := by
  intro n
  induction n with
  | zero =>
    intro x0 x3 w1 w2 h q res hF hw1 hw2 hk
    rw [L_X6_dance_80] at hF
    cases hF
  | succ n ih =>
    intro x0 x3 w1 w2 h q res hF hw1 hw2 hk
    rw [L_X6_dance_80] at hF
    refine pr_iload_n dX6_dance_80 rfl ?_
    refine po_i hF (fun hc hF => ?_) (fun hc hF => ?_)
    · refine pr_ifT (tgt := 103) dX6_dance_81 (by decide) (pc_eqT hc) ?_
      cases hF
      exact hk
    · refine pr_ifF (tgt := 103) dX6_dance_81 (by decide) (pc_eqF hc) ?_
      refine pr_aload_n dX6_dance_84 rfl ?_
      obtain ⟨v14, hv14, hF⟩ := po_b hF
      refine pr_getI dX6_dance_85 tf_6_123 (hv14) ?_
      refine pr_aload_n dX6_dance_88 rfl ?_
      obtain ⟨v15, hv15, hF⟩ := po_b hF
      refine pr_getI dX6_dance_89 tf_6_126 (hv15) ?_
      refine po_i hF (fun hc hF => ?_) (fun hc hF => ?_)
      · refine pr_icF (tgt := 103) dX6_dance_92 (by decide) (pc_geF hc) ?_
        refine pr_aload_n dX6_dance_95 rfl ?_
        obtain ⟨q16, hq16, hF⟩ := po_b hF
        refine po_i hq16 (fun hcl hq => ?_) (fun _ hq => nomatch hq)
        refine pr_V (as := []) (rest := []) dX6_dance_96 cv_6_270 hcl rfl rfl rfl rfl (lb rfl) (lb rfl) (lb rfl) (ok_F_X6_readsDance hq) ?_
        refine pr_istore_n (L' := [.ref x0, w1, w2, .int q16.1]) dX6_dance_99 (pm_st_w (i := 2) rfl rfl hw2 rfl) ?_
        refine pr_goto (tgt := 80) dX6_dance_100 (by decide) ?_
        exact ih hF hw1 hw2 hk
      · refine pr_icT (tgt := 103) dX6_dance_92 (by decide) (pc_geT hc) ?_
        cases hF
        exact hk
def F_X6_dance (n : Nat) (h : pm_H) (a0 : Nat) (x1 : Int32) (x2 : Int32) : Option (Int32 × pm_H) :=
  (F_X6_in x1 1 100).bind fun q1 =>
  if q1 = 0 then
    some ((-1), h)
  else
    (F_X6_in x2 0 2).bind fun q2 =>
    if q2 = 0 then
      some ((-1), h)
    else
      (pm_fI [(5, 12)] h a0).bind fun v3 =>
      if v3 < x1 then
        some ((-1), h)
      else
        (if pm_cl_ h a0 = some 5 then F_X6_beginsText h a0 x1 else none).bind fun q4 =>
        (pm_put [(5, 37, 0)] q4 a0 (.int 0)).bind fun h5 =>
        (pm_put [(5, 38, 0)] h5 a0 (.int 0)).bind fun h6 =>
        (pm_put [(5, 39, 0)] h6 a0 (.int 0)).bind fun h7 =>
        (L_X6_dance_51 n a0 0 h7).bind fun q12 =>
        (if pm_cl_ q12 a0 = some 5 then F_X6_readsDance q12 a0 else none).bind fun q13 =>
        (L_X6_dance_80 n a0 q13.1 q13.2).bind fun q17 =>
        (pm_put [(5, 12, 0)] q17.2 a0 (.int 0)).bind fun h18 =>
        if q17.1 = 0 then
          (pm_fI [(5, 15)] h18 a0).bind fun v23 =>
          some (v23, h18)
        else
        if x2 = 0 then
          (pm_fI [(5, 38)] h18 a0).bind fun v22 =>
          some (v22, h18)
        else
        if x2 = 1 then
          (pm_fI [(5, 8)] h18 a0).bind fun v20 =>
          (pm_fI [(5, 37)] h18 a0).bind fun v21 =>
          some (v20 &&& (v21 ^^^ (-1)), h18)
        else
          (pm_fI [(5, 39)] h18 a0).bind fun v19 =>
          some (v19, h18)
theorem ok_F_X6_dance {d n : Nat} {h : pm_H} {a0 : Nat} {x1 : Int32} {x2 : Int32} {q : Int32 × pm_H} (hF : F_X6_dance n h a0 x1 x2 = some q) : pm_E (d + 3) 6 cX6_dance (some .int) 0 [.ref a0, .int x1, .int x2, pm_D] [] h (some (.int q.1), q.2) := by
  unfold F_X6_dance at hF
  refine pr_iload_n dX6_dance_0 rfl ?_
  refine pr_iconst (v := 1) dX6_dance_1 (kc_1) ?_
  refine pr_bipush (v := 100) dX6_dance_2 (kb_100) ?_
  obtain ⟨q1, hq1, hF⟩ := po_b hF
  refine pr_S dX6_dance_4 cs_6_104 (as := [.int x1, .int 1, .int 100]) (rest := []) rfl rfl rfl (lb rfl) (lb rfl) (lb rfl) (ok_F_X6_in hq1) ?_
  refine po_i hF (fun hc hF => ?_) (fun hc hF => ?_)
  · refine pr_ifT (tgt := 27) dX6_dance_7 (by decide) (pc_eqT hc) ?_
    refine pr_iconst (v := (-1)) dX6_dance_27 (kc_m1) ?_
    cases hF
    exact pr_iret dX6_dance_28 rfl rfl rfl
  · refine pr_ifF (tgt := 27) dX6_dance_7 (by decide) (pc_eqF hc) ?_
    refine pr_iload_n dX6_dance_10 rfl ?_
    refine pr_iconst (v := 0) dX6_dance_11 (kc_0) ?_
    refine pr_iconst (v := 2) dX6_dance_12 (kc_2) ?_
    obtain ⟨q2, hq2, hF⟩ := po_b hF
    refine pr_S dX6_dance_13 cs_6_104 (as := [.int x2, .int 0, .int 2]) (rest := []) rfl rfl rfl (lb rfl) (lb rfl) (lb rfl) (ok_F_X6_in hq2) ?_
    refine po_i hF (fun hc hF => ?_) (fun hc hF => ?_)
    · refine pr_ifT (tgt := 27) dX6_dance_16 (by decide) (pc_eqT hc) ?_
      refine pr_iconst (v := (-1)) dX6_dance_27 (kc_m1) ?_
      cases hF
      exact pr_iret dX6_dance_28 rfl rfl rfl
    · refine pr_ifF (tgt := 27) dX6_dance_16 (by decide) (pc_eqF hc) ?_
      refine pr_iload_n dX6_dance_19 rfl ?_
      refine pr_aload_n dX6_dance_20 rfl ?_
      obtain ⟨v3, hv3, hF⟩ := po_b hF
      refine pr_getI dX6_dance_21 tf_6_116 (hv3) ?_
      refine po_i hF (fun hc hF => ?_) (fun hc hF => ?_)
      · refine pr_icF (tgt := 29) dX6_dance_24 (by decide) (pc_leF hc) ?_
        refine pr_iconst (v := (-1)) dX6_dance_27 (kc_m1) ?_
        cases hF
        exact pr_iret dX6_dance_28 rfl rfl rfl
      · refine pr_icT (tgt := 29) dX6_dance_24 (by decide) (pc_leT hc) ?_
        refine pr_aload_n dX6_dance_29 rfl ?_
        refine pr_iload_n dX6_dance_30 rfl ?_
        obtain ⟨q4, hq4, hF⟩ := po_b hF
        refine po_i hq4 (fun hcl hq => ?_) (fun _ hq => nomatch hq)
        refine pr_V (as := [.int x1]) (rest := []) dX6_dance_31 cv_6_207 hcl rfl rfl rfl rfl (lb rfl) (lb rfl) (lb rfl) (ok_F_X6_beginsText hq) ?_
        refine pr_aload_n dX6_dance_34 rfl ?_
        refine pr_iconst (v := 0) dX6_dance_35 (kc_0) ?_
        obtain ⟨h5, hh5, hF⟩ := po_b hF
        refine pr_put dX6_dance_36 tp_6_261 (hh5) ?_
        refine pr_aload_n dX6_dance_39 rfl ?_
        refine pr_iconst (v := 0) dX6_dance_40 (kc_0) ?_
        obtain ⟨h6, hh6, hF⟩ := po_b hF
        refine pr_put dX6_dance_41 tp_6_267 (hh6) ?_
        refine pr_aload_n dX6_dance_44 rfl ?_
        refine pr_iconst (v := 0) dX6_dance_45 (kc_0) ?_
        obtain ⟨h7, hh7, hF⟩ := po_b hF
        refine pr_put dX6_dance_46 tp_6_264 (hh7) ?_
        refine pr_iconst (v := 0) dX6_dance_49 (kc_0) ?_
        refine pr_istore_n (L' := [.ref a0, .int x1, .int x2, .int 0]) dX6_dance_50 rfl ?_
        obtain ⟨q12, hq12, hF⟩ := po_b hF
        refine ok_L_X6_dance_51 n hq12 rfl rfl (fun z3 hz3 => ?_)
        refine pr_aload_n dX6_dance_75 rfl ?_
        obtain ⟨q13, hq13, hF⟩ := po_b hF
        refine po_i hq13 (fun hcl hq => ?_) (fun _ hq => nomatch hq)
        refine pr_V (as := []) (rest := []) dX6_dance_76 cv_6_270 hcl rfl rfl rfl rfl (lb rfl) (lb rfl) (lb rfl) (ok_F_X6_readsDance hq) ?_
        refine pr_istore_n (L' := [.ref a0, .int x1, .int x2, .int q13.1]) dX6_dance_79 rfl ?_
        obtain ⟨q17, hq17, hF⟩ := po_b hF
        refine ok_L_X6_dance_80 n hq17 rfl rfl ?_
        refine pr_aload_n dX6_dance_103 rfl ?_
        refine pr_iconst (v := 0) dX6_dance_104 (kc_0) ?_
        obtain ⟨h18, hh18, hF⟩ := po_b hF
        refine pr_put dX6_dance_105 tp_6_116 (hh18) ?_
        refine pr_iload_n dX6_dance_108 rfl ?_
        refine po_i hF (fun hc hF => ?_) (fun hc hF => ?_)
        · refine pr_ifF (tgt := 117) dX6_dance_109 (by decide) (pc_neF hc) ?_
          refine pr_aload_n dX6_dance_112 rfl ?_
          obtain ⟨v23, hv23, hF⟩ := po_b hF
          refine pr_getI dX6_dance_113 tf_6_133 (hv23) ?_
          cases hF
          exact pr_iret dX6_dance_116 rfl rfl rfl
        · refine pr_ifT (tgt := 117) dX6_dance_109 (by decide) (pc_neT hc) ?_
          refine pr_iload_n dX6_dance_117 rfl ?_
          refine po_i hF (fun hc hF => ?_) (fun hc hF => ?_)
          · refine pr_ifF (tgt := 128) dX6_dance_118 (by decide) (pc_neF hc) ?_
            refine pr_aload_n dX6_dance_121 rfl ?_
            obtain ⟨v22, hv22, hF⟩ := po_b hF
            refine pr_getI dX6_dance_122 tf_6_267 (hv22) ?_
            refine pr_goto (tgt := 151) dX6_dance_125 (by decide) ?_
            cases hF
            exact pr_iret dX6_dance_151 rfl rfl rfl
          · refine pr_ifT (tgt := 128) dX6_dance_118 (by decide) (pc_neT hc) ?_
            refine pr_iload_n dX6_dance_128 rfl ?_
            refine pr_iconst (v := 1) dX6_dance_129 (kc_1) ?_
            refine po_i hF (fun hc hF => ?_) (fun hc hF => ?_)
            · refine pr_icF (tgt := 147) dX6_dance_130 (by decide) (pc_neF hc) ?_
              refine pr_aload_n dX6_dance_133 rfl ?_
              obtain ⟨v20, hv20, hF⟩ := po_b hF
              refine pr_getI dX6_dance_134 tf_6_227 (hv20) ?_
              refine pr_aload_n dX6_dance_137 rfl ?_
              obtain ⟨v21, hv21, hF⟩ := po_b hF
              refine pr_getI dX6_dance_138 tf_6_261 (hv21) ?_
              refine pr_iconst (v := (-1)) dX6_dance_141 (kc_m1) ?_
              refine pr_ixor dX6_dance_142 ?_
              refine pr_iand dX6_dance_143 ?_
              refine pr_goto (tgt := 151) dX6_dance_144 (by decide) ?_
              cases hF
              exact pr_iret dX6_dance_151 rfl rfl rfl
            · refine pr_icT (tgt := 147) dX6_dance_130 (by decide) (pc_neT hc) ?_
              refine pr_aload_n dX6_dance_147 rfl ?_
              obtain ⟨v19, hv19, hF⟩ := po_b hF
              refine pr_getI dX6_dance_148 tf_6_264 (hv19) ?_
              cases hF
              exact pr_iret dX6_dance_151 rfl rfl rfl
