set_option maxRecDepth 100000
def L_X0_inOrder_97 : Nat → Nat → Int32 → Int32 → Int32 → pm_H → Option (Int32)
  | 0, _, _, _, _, _ => none
  | n + 1, x0, x3, x4, x5, h =>
    (F_X0_has (x3 &&& (x4 ^^^ (-1))) x5).bind fun q12 =>
    if q12 = 0 then
      L_X0_inOrder_97 n x0 x3 x4 (x5 + 1) h
    else
      (pm_fR [(0, 0)] h x0).bind fun v13 =>
      (if pm_cl_ h v13 = some 1 then F_X1_friends h v13 x5 else none).bind fun q14 =>
      if (q14 &&& (x4 ^^^ (-1))) = 0 then
        L_X0_inOrder_97 n x0 x3 x4 (x5 + 1) h
      else
        (pm_fR [(0, 10)] h x0).bind fun v15 =>
        (pm_al h v15 (x4 ||| (pm_shl 1 x5))).bind fun v16 =>
        if (lg_cmp v16 0) = 0 then
          L_X0_inOrder_97 n x0 x3 x4 (x5 + 1) h
        else
          some x5
theorem ok_L_X0_inOrder_97 {d : Nat} : ∀ (n : Nat) {x0 : Nat} {x3 : Int32} {x4 : Int32} {x5 : Int32} {w1 w2 w6 : Value} {h : pm_H} {q : Int32} {res : Option Value × pm_H}, L_X0_inOrder_97 n x0 x3 x4 x5 h = some q → pm_nolong w1 = true → pm_nolong w2 = true → pm_nolong w6 = true → (pm_E (d + 3) 0 cX0_inOrder (some .int) 151 [.ref x0, w1, w2, .int x3, .int x4, .int q, w6] [] h res) → pm_E (d + 3) 0 cX0_inOrder (some .int) 97 [.ref x0, w1, w2, .int x3, .int x4, .int x5, w6] [] h res := by
  intro n
  induction n with
  | zero =>
    intro x0 x3 x4 x5 w1 w2 w6 h q res hF hw1 hw2 hw6 hk
    rw [L_X0_inOrder_97] at hF
    cases hF
  | succ n ih =>
    intro x0 x3 x4 x5 w1 w2 w6 h q res hF hw1 hw2 hw6 hk
    rw [L_X0_inOrder_97] at hF
    refine pr_iload_n dX0_inOrder_97 rfl ?_
    refine pr_iload dX0_inOrder_98 rfl ?_
    refine pr_iconst (v := (-1)) dX0_inOrder_100 (kc_m1) ?_
    refine pr_ixor dX0_inOrder_101 ?_
    refine pr_iand dX0_inOrder_102 ?_
    refine pr_iload dX0_inOrder_103 rfl ?_
    obtain ⟨q12, hq12, hF⟩ := po_b hF
    refine pr_S dX0_inOrder_105 cs_0_191 (as := [.int (x3 &&& (x4 ^^^ (-1))), .int x5]) (rest := []) rfl rfl rfl (lb rfl) (lb rfl) (lb rfl) (ok_F_X0_has hq12) ?_
    refine po_i hF (fun hc hF => ?_) (fun hc hF => ?_)
    · refine pr_ifT (tgt := 145) dX0_inOrder_108 (by decide) (pc_eqT hc) ?_
      refine pr_iinc (v := 1) (L' := [.ref x0, w1, w2, .int x3, .int x4, .int (x5 + 1), w6]) dX0_inOrder_145 rfl (kc_1) rfl ?_
      refine pr_goto (tgt := 97) dX0_inOrder_148 (by decide) ?_
      exact ih hF hw1 hw2 hw6 hk
    · refine pr_ifF (tgt := 145) dX0_inOrder_108 (by decide) (pc_eqF hc) ?_
      refine pr_aload_n dX0_inOrder_111 rfl ?_
      obtain ⟨v13, hv13, hF⟩ := po_b hF
      refine pr_getR dX0_inOrder_112 tf_0_16 (hv13) ?_
      refine pr_iload dX0_inOrder_115 rfl ?_
      obtain ⟨q14, hq14, hF⟩ := po_b hF
      refine po_i hq14 (fun hcl hq => ?_) (fun _ hq => nomatch hq)
      refine pr_V (as := [.int x5]) (rest := []) dX0_inOrder_117 cv_0_200 hcl rfl rfl rfl rfl (lb rfl) (lb rfl) (lb rfl) (ok_F_X1_friends hq) ?_
      refine pr_iload dX0_inOrder_120 rfl ?_
      refine pr_iconst (v := (-1)) dX0_inOrder_122 (kc_m1) ?_
      refine pr_ixor dX0_inOrder_123 ?_
      refine pr_iand dX0_inOrder_124 ?_
      refine po_i hF (fun hc hF => ?_) (fun hc hF => ?_)
      · refine pr_ifT (tgt := 145) dX0_inOrder_125 (by decide) (pc_eqT hc) ?_
        refine pr_iinc (v := 1) (L' := [.ref x0, w1, w2, .int x3, .int x4, .int (x5 + 1), w6]) dX0_inOrder_145 rfl (kc_1) rfl ?_
        refine pr_goto (tgt := 97) dX0_inOrder_148 (by decide) ?_
        exact ih hF hw1 hw2 hw6 hk
      · refine pr_ifF (tgt := 145) dX0_inOrder_125 (by decide) (pc_eqF hc) ?_
        refine pr_aload_n dX0_inOrder_128 rfl ?_
        obtain ⟨v15, hv15, hF⟩ := po_b hF
        refine pr_getR dX0_inOrder_129 tf_0_79 (hv15) ?_
        refine pr_iload dX0_inOrder_132 rfl ?_
        refine pr_iconst (v := 1) dX0_inOrder_134 (kc_1) ?_
        refine pr_iload dX0_inOrder_135 rfl ?_
        refine pr_ishl dX0_inOrder_137 ?_
        refine pr_ior dX0_inOrder_138 ?_
        obtain ⟨v16, hv16, hF⟩ := po_b hF
        refine pr_lald dX0_inOrder_139 (hv16) ?_
        refine pr_lconst (v := 0) dX0_inOrder_140 rfl ?_
        refine pr_lcmp dX0_inOrder_141 ?_
        refine po_i hF (fun hc hF => ?_) (fun hc hF => ?_)
        · refine pr_ifF (tgt := 151) dX0_inOrder_142 (by decide) (pc_neF hc) ?_
          refine pr_iinc (v := 1) (L' := [.ref x0, w1, w2, .int x3, .int x4, .int (x5 + 1), w6]) dX0_inOrder_145 rfl (kc_1) rfl ?_
          refine pr_goto (tgt := 97) dX0_inOrder_148 (by decide) ?_
          exact ih hF hw1 hw2 hw6 hk
        · refine pr_ifT (tgt := 151) dX0_inOrder_142 (by decide) (pc_neT hc) ?_
          cases hF
          exact hk
def L_X0_inOrder_70 : Nat → Nat → Int32 → Int32 → Int32 → Int32 → Int32 → pm_H → Option (Int32 × Int32)
  | 0, _, _, _, _, _, _, _ => none
  | n + 1, x0, x1, x3, x4, x5, x6, h =>
    if x1 < x6 then
      some (x4, x5)
    else
      ((
        if x6 = 0 then
          some 0
        else
          some (pm_shl 1 x5)
      ) : Option (Int32)).bind fun q11 =>
      (L_X0_inOrder_97 n x0 x3 (x4 ||| q11) 0 h).bind fun q17 =>
      L_X0_inOrder_70 n x0 x1 x3 (x4 ||| q11) q17 (x6 + 1) h
theorem ok_L_X0_inOrder_70 {d : Nat} : ∀ (n : Nat) {x0 : Nat} {x1 : Int32} {x3 : Int32} {x4 : Int32} {x5 : Int32} {x6 : Int32} {w2 : Value} {h : pm_H} {q : Int32 × Int32} {res : Option Value × pm_H}, L_X0_inOrder_70 n x0 x1 x3 x4 x5 x6 h = some q → pm_nolong w2 = true → (∀ z6 : Value, pm_nolong z6 = true → pm_E (d + 3) 0 cX0_inOrder (some .int) 157 [.ref x0, .int x1, w2, .int x3, .int q.1, .int q.2, z6] [] h res) → pm_E (d + 3) 0 cX0_inOrder (some .int) 70 [.ref x0, .int x1, w2, .int x3, .int x4, .int x5, .int x6] [] h res := by
  intro n
  induction n with
  | zero =>
    intro x0 x1 x3 x4 x5 x6 w2 h q res hF hw2 hk
    rw [L_X0_inOrder_70] at hF
    cases hF
  | succ n ih =>
    intro x0 x1 x3 x4 x5 x6 w2 h q res hF hw2 hk
    rw [L_X0_inOrder_70] at hF
    refine pr_iload dX0_inOrder_70 rfl ?_
    refine pr_iload_n dX0_inOrder_72 rfl ?_
    refine po_i hF (fun hc hF => ?_) (fun hc hF => ?_)
    · refine pr_icT (tgt := 157) dX0_inOrder_73 (by decide) (pc_gtT hc) ?_
      cases hF
      exact hk _ rfl
    · refine pr_icF (tgt := 157) dX0_inOrder_73 (by decide) (pc_gtF hc) ?_
      refine pr_iload dX0_inOrder_76 rfl ?_
      refine pr_iload dX0_inOrder_78 rfl ?_
      obtain ⟨q11, hq11, hF⟩ := po_b hF
      have J91 : pm_E (d + 3) 0 cX0_inOrder (some .int) 91 [.ref x0, .int x1, w2, .int x3, .int x4, .int x5, .int x6] [.int q11, .int x4] h res := by
        refine pr_ior dX0_inOrder_91 ?_
        refine pr_istore (L' := [.ref x0, .int x1, w2, .int x3, .int (x4 ||| q11), .int x5, .int x6]) dX0_inOrder_92 rfl ?_
        refine pr_iconst (v := 0) dX0_inOrder_94 (kc_0) ?_
        refine pr_istore (L' := [.ref x0, .int x1, w2, .int x3, .int (x4 ||| q11), .int 0, .int x6]) dX0_inOrder_95 rfl ?_
        obtain ⟨q17, hq17, hF⟩ := po_b hF
        refine ok_L_X0_inOrder_97 n hq17 rfl hw2 rfl ?_
        refine pr_iinc (v := 1) (L' := [.ref x0, .int x1, w2, .int x3, .int (x4 ||| q11), .int q17, .int (x6 + 1)]) dX0_inOrder_151 rfl (kc_1) rfl ?_
        refine pr_goto (tgt := 70) dX0_inOrder_154 (by decide) ?_
        exact ih hF hw2 hk
      clear hF
      have hF := hq11
      refine po_i hF (fun hc hF => ?_) (fun hc hF => ?_)
      · refine pr_ifF (tgt := 87) dX0_inOrder_80 (by decide) (pc_neF hc) ?_
        refine pr_iconst (v := 0) dX0_inOrder_83 (kc_0) ?_
        refine pr_goto (tgt := 91) dX0_inOrder_84 (by decide) ?_
        cases hF
        exact J91
      · refine pr_ifT (tgt := 87) dX0_inOrder_80 (by decide) (pc_neT hc) ?_
        refine pr_iconst (v := 1) dX0_inOrder_87 (kc_1) ?_
        refine pr_iload dX0_inOrder_88 rfl ?_
        refine pr_ishl dX0_inOrder_90 ?_
        cases hF
        exact J91
def F_X0_inOrder (n : Nat) (h : pm_H) (a0 : Nat) (x1 : Int32) (x2 : Int32) : Option (Int32 × pm_H) :=
  (F_X0_in x1 16).bind fun q1 =>
  if q1 = 0 then
    some ((-1), h)
  else
    (F_X0_in x2 2).bind fun q2 =>
    if q2 = 0 then
      some ((-1), h)
    else
      (pm_fR [(0, 0)] h a0).bind fun v3 =>
      (pm_fI [(1, 2)] h v3).bind fun v4 =>
      (pm_fR [(0, 0)] h a0).bind fun v5 =>
      (pm_fI [(1, 3)] h v5).bind fun v6 =>
      (pm_fR [(0, 0)] h a0).bind fun v7 =>
      (F_X0_outOf n h v7).bind fun q8 =>
      (F_J6_bitCount ((v4 &&& v6) &&& (q8 ^^^ (-1)))).bind fun q9 =>
      if x1 < q9 then
        (if pm_cl_ h a0 = some 0 then F_X0_laysOrders n h a0 ((v4 &&& v6) &&& (q8 ^^^ (-1))) else none).bind fun q10 =>
        (L_X0_inOrder_70 n a0 x1 ((v4 &&& v6) &&& (q8 ^^^ (-1))) 0 0 0 q10).bind fun q18 =>
        if x2 = 0 then
          some (q18.2, q10)
        else
          (pm_fR [(0, 0)] q10 a0).bind fun v19 =>
          (if pm_cl_ q10 v19 = some 1 then F_X1_friends q10 v19 q18.2 else none).bind fun q20 =>
          (F_X0_lowest (q20 &&& (q18.1 ^^^ (-1)))).bind fun q21 =>
          some (q21, q10)
      else
        some ((-4), h)
theorem ok_F_X0_inOrder {d n : Nat} {h : pm_H} {a0 : Nat} {x1 : Int32} {x2 : Int32} {q : Int32 × pm_H} (hF : F_X0_inOrder n h a0 x1 x2 = some q) : pm_E (d + 3) 0 cX0_inOrder (some .int) 0 [.ref a0, .int x1, .int x2, pm_D, pm_D, pm_D, pm_D] [] h (some (.int q.1), q.2) := by
  unfold F_X0_inOrder at hF
  refine pr_iload_n dX0_inOrder_0 rfl ?_
  refine pr_bipush (v := 16) dX0_inOrder_1 (kb_16) ?_
  obtain ⟨q1, hq1, hF⟩ := po_b hF
  refine pr_S dX0_inOrder_3 cs_0_144 (as := [.int x1, .int 16]) (rest := []) rfl rfl rfl (lb rfl) (lb rfl) (lb rfl) (ok_F_X0_in hq1) ?_
  refine po_i hF (fun hc hF => ?_) (fun hc hF => ?_)
  · refine pr_ifT (tgt := 17) dX0_inOrder_6 (by decide) (pc_eqT hc) ?_
    refine pr_iconst (v := (-1)) dX0_inOrder_17 (kc_m1) ?_
    cases hF
    exact pr_iret dX0_inOrder_18 rfl rfl rfl
  · refine pr_ifF (tgt := 17) dX0_inOrder_6 (by decide) (pc_eqF hc) ?_
    refine pr_iload_n dX0_inOrder_9 rfl ?_
    refine pr_iconst (v := 2) dX0_inOrder_10 (kc_2) ?_
    obtain ⟨q2, hq2, hF⟩ := po_b hF
    refine pr_S dX0_inOrder_11 cs_0_144 (as := [.int x2, .int 2]) (rest := []) rfl rfl rfl (lb rfl) (lb rfl) (lb rfl) (ok_F_X0_in hq2) ?_
    refine po_i hF (fun hc hF => ?_) (fun hc hF => ?_)
    · refine pr_ifF (tgt := 19) dX0_inOrder_14 (by decide) (pc_neF hc) ?_
      refine pr_iconst (v := (-1)) dX0_inOrder_17 (kc_m1) ?_
      cases hF
      exact pr_iret dX0_inOrder_18 rfl rfl rfl
    · refine pr_ifT (tgt := 19) dX0_inOrder_14 (by decide) (pc_neT hc) ?_
      refine pr_aload_n dX0_inOrder_19 rfl ?_
      obtain ⟨v3, hv3, hF⟩ := po_b hF
      refine pr_getR dX0_inOrder_20 tf_0_16 (hv3) ?_
      obtain ⟨v4, hv4, hF⟩ := po_b hF
      refine pr_getI dX0_inOrder_23 tf_0_22 (hv4) ?_
      refine pr_aload_n dX0_inOrder_26 rfl ?_
      obtain ⟨v5, hv5, hF⟩ := po_b hF
      refine pr_getR dX0_inOrder_27 tf_0_16 (hv5) ?_
      obtain ⟨v6, hv6, hF⟩ := po_b hF
      refine pr_getI dX0_inOrder_30 tf_0_152 (hv6) ?_
      refine pr_iand dX0_inOrder_33 ?_
      refine pr_aload_n dX0_inOrder_34 rfl ?_
      obtain ⟨v7, hv7, hF⟩ := po_b hF
      refine pr_getR dX0_inOrder_35 tf_0_16 (hv7) ?_
      obtain ⟨q8, hq8, hF⟩ := po_b hF
      refine pr_S dX0_inOrder_38 cs_0_210 (as := [.ref v7]) (rest := [.int (v4 &&& v6)]) rfl rfl rfl (lb rfl) (lb rfl) (lb rfl) (ok_F_X0_outOf hq8) ?_
      refine pr_iconst (v := (-1)) dX0_inOrder_41 (kc_m1) ?_
      refine pr_ixor dX0_inOrder_42 ?_
      refine pr_iand dX0_inOrder_43 ?_
      refine pr_istore_n (L' := [.ref a0, .int x1, .int x2, .int ((v4 &&& v6) &&& (q8 ^^^ (-1))), pm_D, pm_D, pm_D]) dX0_inOrder_44 rfl ?_
      refine pr_iload_n dX0_inOrder_45 rfl ?_
      refine pr_iload_n dX0_inOrder_46 rfl ?_
      obtain ⟨q9, hq9, hF⟩ := po_b hF
      refine pr_S dX0_inOrder_47 cs_0_214 (as := [.int ((v4 &&& v6) &&& (q8 ^^^ (-1)))]) (rest := [.int x1]) rfl rfl rfl (lb rfl) (lb rfl) (lb rfl) (ok_F_J6_bitCount hq9) ?_
      refine po_i hF (fun hc hF => ?_) (fun hc hF => ?_)
      · refine pr_icT (tgt := 56) dX0_inOrder_50 (by decide) (pc_ltT hc) ?_
        refine pr_aload_n dX0_inOrder_56 rfl ?_
        refine pr_iload_n dX0_inOrder_57 rfl ?_
        obtain ⟨q10, hq10, hF⟩ := po_b hF
        refine po_i hq10 (fun hcl hq => ?_) (fun _ hq => nomatch hq)
        refine pr_V (as := [.int ((v4 &&& v6) &&& (q8 ^^^ (-1)))]) (rest := []) dX0_inOrder_58 cv_0_217 hcl rfl rfl rfl rfl (lb rfl) (lb rfl) (lb rfl) (ok_F_X0_laysOrders hq) ?_
        refine pr_iconst (v := 0) dX0_inOrder_61 (kc_0) ?_
        refine pr_istore (L' := [.ref a0, .int x1, .int x2, .int ((v4 &&& v6) &&& (q8 ^^^ (-1))), .int 0, pm_D, pm_D]) dX0_inOrder_62 rfl ?_
        refine pr_iconst (v := 0) dX0_inOrder_64 (kc_0) ?_
        refine pr_istore (L' := [.ref a0, .int x1, .int x2, .int ((v4 &&& v6) &&& (q8 ^^^ (-1))), .int 0, .int 0, pm_D]) dX0_inOrder_65 rfl ?_
        refine pr_iconst (v := 0) dX0_inOrder_67 (kc_0) ?_
        refine pr_istore (L' := [.ref a0, .int x1, .int x2, .int ((v4 &&& v6) &&& (q8 ^^^ (-1))), .int 0, .int 0, .int 0]) dX0_inOrder_68 rfl ?_
        obtain ⟨q18, hq18, hF⟩ := po_b hF
        refine ok_L_X0_inOrder_70 n hq18 rfl (fun z6 hz6 => ?_)
        refine pr_iload_n dX0_inOrder_157 rfl ?_
        refine po_i hF (fun hc hF => ?_) (fun hc hF => ?_)
        · refine pr_ifF (tgt := 166) dX0_inOrder_158 (by decide) (pc_neF hc) ?_
          refine pr_iload dX0_inOrder_161 rfl ?_
          refine pr_goto (tgt := 183) dX0_inOrder_163 (by decide) ?_
          cases hF
          exact pr_iret dX0_inOrder_183 rfl rfl rfl
        · refine pr_ifT (tgt := 166) dX0_inOrder_158 (by decide) (pc_neT hc) ?_
          refine pr_aload_n dX0_inOrder_166 rfl ?_
          obtain ⟨v19, hv19, hF⟩ := po_b hF
          refine pr_getR dX0_inOrder_167 tf_0_16 (hv19) ?_
          refine pr_iload dX0_inOrder_170 rfl ?_
          obtain ⟨q20, hq20, hF⟩ := po_b hF
          refine po_i hq20 (fun hcl hq => ?_) (fun _ hq => nomatch hq)
          refine pr_V (as := [.int q18.2]) (rest := []) dX0_inOrder_172 cv_0_200 hcl rfl rfl rfl rfl (lb rfl) (lb rfl) (lb rfl) (ok_F_X1_friends hq) ?_
          refine pr_iload dX0_inOrder_175 rfl ?_
          refine pr_iconst (v := (-1)) dX0_inOrder_177 (kc_m1) ?_
          refine pr_ixor dX0_inOrder_178 ?_
          refine pr_iand dX0_inOrder_179 ?_
          obtain ⟨q21, hq21, hF⟩ := po_b hF
          refine pr_S dX0_inOrder_180 cs_0_207 (as := [.int (q20 &&& (q18.1 ^^^ (-1)))]) (rest := []) rfl rfl rfl (lb rfl) (lb rfl) (lb rfl) (ok_F_X0_lowest hq21) ?_
          cases hF
          exact pr_iret dX0_inOrder_183 rfl rfl rfl
      · refine pr_icF (tgt := 56) dX0_inOrder_50 (by decide) (pc_ltF hc) ?_
        refine pr_bipush (v := (-4)) dX0_inOrder_53 (kb_m4) ?_
        cases hF
        exact pr_iret dX0_inOrder_55 rfl rfl rfl

def F_X0_areTold (h : pm_H) (a0 : Nat) (x1 : Int32) : Option (Int32) :=
  if x1 < 0 then
    some 0
  else
    (pm_fR [(0, 0)] h a0).bind fun v1 =>
    (pm_fI [(1, 2)] h v1).bind fun v2 =>
    if (x1 &&& (v2 ^^^ (-1))) = 0 then
      some 1
    else
      some 0
theorem ok_F_X0_areTold {d : Nat} {h : pm_H} {a0 : Nat} {x1 : Int32} {q : Int32} (hF : F_X0_areTold h a0 x1 = some q) : pm_E (d + 0) 0 cX0_areTold (some .boolean) 0 [.ref a0, .int x1] [] h (some (.int q), h) := by
  unfold F_X0_areTold at hF
  refine pr_iload_n dX0_areTold_0 rfl ?_
  refine po_i hF (fun hc hF => ?_) (fun hc hF => ?_)
  · refine pr_ifT (tgt := 22) dX0_areTold_1 (by decide) (pc_ltT hc) ?_
    refine pr_iconst (v := 0) dX0_areTold_22 (kc_0) ?_
    cases hF
    exact pr_iret dX0_areTold_23 rfl nb_0 rfl
  · refine pr_ifF (tgt := 22) dX0_areTold_1 (by decide) (pc_ltF hc) ?_
    refine pr_iload_n dX0_areTold_4 rfl ?_
    refine pr_aload_n dX0_areTold_5 rfl ?_
    obtain ⟨v1, hv1, hF⟩ := po_b hF
    refine pr_getR dX0_areTold_6 tf_0_16 (hv1) ?_
    obtain ⟨v2, hv2, hF⟩ := po_b hF
    refine pr_getI dX0_areTold_9 tf_0_22 (hv2) ?_
    refine pr_iconst (v := (-1)) dX0_areTold_12 (kc_m1) ?_
    refine pr_ixor dX0_areTold_13 ?_
    refine pr_iand dX0_areTold_14 ?_
    refine po_i hF (fun hc hF => ?_) (fun hc hF => ?_)
    · refine pr_ifF (tgt := 22) dX0_areTold_15 (by decide) (pc_neF hc) ?_
      refine pr_iconst (v := 1) dX0_areTold_18 (kc_1) ?_
      refine pr_goto (tgt := 23) dX0_areTold_19 (by decide) ?_
      cases hF
      exact pr_iret dX0_areTold_23 rfl nb_1 rfl
    · refine pr_ifT (tgt := 22) dX0_areTold_15 (by decide) (pc_neT hc) ?_
      refine pr_iconst (v := 0) dX0_areTold_22 (kc_0) ?_
      cases hF
      exact pr_iret dX0_areTold_23 rfl nb_0 rfl

def F_X0_ways (n : Nat) (h : pm_H) (a0 : Nat) (x1 : Int32) : Option (Int64 × pm_H) :=
  (if pm_cl_ h a0 = some 0 then F_X0_areTold h a0 x1 else none).bind fun q1 =>
  if q1 = 0 then
    some ((-1), h)
  else
    (pm_fR [(0, 0)] h a0).bind fun v2 =>
    (pm_fI [(1, 2)] h v2).bind fun v3 =>
    (pm_fR [(0, 0)] h a0).bind fun v4 =>
    (pm_fI [(1, 3)] h v4).bind fun v5 =>
    (if pm_cl_ h a0 = some 0 then F_X0_laysOrders n h a0 ((v3 &&& v5) &&& (x1 ^^^ (-1))) else none).bind fun q6 =>
    (pm_fR [(0, 10)] q6 a0).bind fun v7 =>
    (pm_al q6 v7 0).bind fun v8 =>
    some (v8, q6)
theorem ok_F_X0_ways {d n : Nat} {h : pm_H} {a0 : Nat} {x1 : Int32} {q : Int64 × pm_H} (hF : F_X0_ways n h a0 x1 = some q) : pm_E (d + 2) 0 cX0_ways (some .long) 0 [.ref a0, .int x1] [] h (some (.long q.1), q.2) := by
  unfold F_X0_ways at hF
  refine pr_aload_n dX0_ways_0 rfl ?_
  refine pr_iload_n dX0_ways_1 rfl ?_
  obtain ⟨q1, hq1, hF⟩ := po_b hF
  refine po_i hq1 (fun hcl hq => ?_) (fun _ hq => nomatch hq)
  refine pr_V (as := [.int x1]) (rest := []) dX0_ways_2 cv_0_220 hcl rfl rfl rfl rfl (lb rfl) (lb rfl) (lb rfl) (ok_F_X0_areTold hq) ?_
  refine po_i hF (fun hc hF => ?_) (fun hc hF => ?_)
  · refine pr_ifF (tgt := 12) dX0_ways_5 (by decide) (pc_neF hc) ?_
    refine pr_ldc2_w (v := (-1)) dX0_ways_8 rfl ?_
    cases hF
    exact pr_lret dX0_ways_11 rfl rfl
  · refine pr_ifT (tgt := 12) dX0_ways_5 (by decide) (pc_neT hc) ?_
    refine pr_aload_n dX0_ways_12 rfl ?_
    refine pr_aload_n dX0_ways_13 rfl ?_
    obtain ⟨v2, hv2, hF⟩ := po_b hF
    refine pr_getR dX0_ways_14 tf_0_16 (hv2) ?_
    obtain ⟨v3, hv3, hF⟩ := po_b hF
    refine pr_getI dX0_ways_17 tf_0_22 (hv3) ?_
    refine pr_aload_n dX0_ways_20 rfl ?_
    obtain ⟨v4, hv4, hF⟩ := po_b hF
    refine pr_getR dX0_ways_21 tf_0_16 (hv4) ?_
    obtain ⟨v5, hv5, hF⟩ := po_b hF
    refine pr_getI dX0_ways_24 tf_0_152 (hv5) ?_
    refine pr_iand dX0_ways_27 ?_
    refine pr_iload_n dX0_ways_28 rfl ?_
    refine pr_iconst (v := (-1)) dX0_ways_29 (kc_m1) ?_
    refine pr_ixor dX0_ways_30 ?_
    refine pr_iand dX0_ways_31 ?_
    obtain ⟨q6, hq6, hF⟩ := po_b hF
    refine po_i hq6 (fun hcl hq => ?_) (fun _ hq => nomatch hq)
    refine pr_V (as := [.int ((v3 &&& v5) &&& (x1 ^^^ (-1)))]) (rest := []) dX0_ways_32 cv_0_217 hcl rfl rfl rfl rfl (lb rfl) (lb rfl) (lb rfl) (ok_F_X0_laysOrders hq) ?_
    refine pr_aload_n dX0_ways_35 rfl ?_
    obtain ⟨v7, hv7, hF⟩ := po_b hF
    refine pr_getR dX0_ways_36 tf_0_79 (hv7) ?_
    refine pr_iconst (v := 0) dX0_ways_39 (kc_0) ?_
    obtain ⟨v8, hv8, hF⟩ := po_b hF
    refine pr_lald dX0_ways_40 (hv8) ?_
    cases hF
    exact pr_lret dX0_ways_41 rfl rfl

def L_X0_keepsOut_43 : Nat → Nat → Int32 → Int32 → Int32 → Int32 → Int32 → pm_H → Option (Int32 × Int32 × pm_H)
  | 0, _, _, _, _, _, _, _ => none
  | n + 1, x0, x2, x3, x4, x5, x6, h =>
    if x6 < 16 then
      (pm_fR [(0, 0)] h x0).bind fun v5 =>
      (if pm_cl_ h v5 = some 1 then F_X1_isTold h v5 x5 else none).bind fun q6 =>
      if q6 = 0 then
        L_X0_keepsOut_43 n x0 x2 x3 x4 x5 (x6 + 1) h
      else
        (pm_fR [(0, 0)] h x0).bind fun v7 =>
        (if pm_cl_ h v7 = some 1 then F_X1_friends h v7 x5 else none).bind fun q8 =>
        (F_X0_has q8 x6).bind fun q9 =>
        if q9 = 0 then
          L_X0_keepsOut_43 n x0 x2 x3 x4 x5 (x6 + 1) h
        else
          (pm_fR [(0, 1)] h x0).bind fun v10 =>
          (pm_fR [(0, 0)] h x0).bind fun v11 =>
          (if pm_cl_ h v10 = some 1 then F_X1_takes n h v10 v11 else none).bind fun q12 =>
          (pm_fR [(0, 1)] q12 x0).bind fun v13 =>
          (if pm_cl_ q12 v13 = some 1 then F_X1_parts q12 v13 x5 x6 1 else none).bind fun q14 =>
          (pm_fR [(0, 1)] q14 x0).bind fun v15 =>
          (F_X0_outOf n q14 v15).bind fun q16 =>
          (F_J6_bitCount q16).bind fun q17 =>
          if q17 = x2 then
            L_X0_keepsOut_43 n x0 x2 x3 x4 x5 (x6 + 1) q14
          else
          if x4 = (-2) then
            L_X0_keepsOut_43 n x0 x2 (x3 + 1) ((16 * x5) + x6) x5 (x6 + 1) q14
          else
            L_X0_keepsOut_43 n x0 x2 (x3 + 1) x4 x5 (x6 + 1) q14
    else
      some (x3, x4, h)
theorem ok_L_X0_keepsOut_43 {d : Nat} : ∀ (n : Nat) {x0 : Nat} {x2 : Int32} {x3 : Int32} {x4 : Int32} {x5 : Int32} {x6 : Int32} {w1 : Value} {h : pm_H} {q : Int32 × Int32 × pm_H} {res : Option Value × pm_H}, L_X0_keepsOut_43 n x0 x2 x3 x4 x5 x6 h = some q → pm_nolong w1 = true → (∀ z6 : Value, pm_nolong z6 = true → pm_E (d + 3) 0 cX0_keepsOut (some .int) 153 [.ref x0, w1, .int x2, .int q.1, .int q.2.1, .int x5, z6] [] q.2.2 res) → pm_E (d + 3) 0 cX0_keepsOut (some .int) 43 [.ref x0, w1, .int x2, .int x3, .int x4, .int x5, .int x6] [] h res := by
  intro n
  induction n with
  | zero =>
    intro x0 x2 x3 x4 x5 x6 w1 h q res hF hw1 hk
    rw [L_X0_keepsOut_43] at hF
    cases hF
  | succ n ih =>
    intro x0 x2 x3 x4 x5 x6 w1 h q res hF hw1 hk
    rw [L_X0_keepsOut_43] at hF
    refine pr_iload dX0_keepsOut_43 rfl ?_
    refine pr_bipush (v := 16) dX0_keepsOut_45 (kb_16) ?_
    refine po_i hF (fun hc hF => ?_) (fun hc hF => ?_)
    · refine pr_icF (tgt := 153) dX0_keepsOut_47 (by decide) (pc_geF hc) ?_
      refine pr_aload_n dX0_keepsOut_50 rfl ?_
      obtain ⟨v5, hv5, hF⟩ := po_b hF
      refine pr_getR dX0_keepsOut_51 tf_0_16 (hv5) ?_
      refine pr_iload dX0_keepsOut_54 rfl ?_
      obtain ⟨q6, hq6, hF⟩ := po_b hF
      refine po_i hq6 (fun hcl hq => ?_) (fun _ hq => nomatch hq)
      refine pr_V (as := [.int x5]) (rest := []) dX0_keepsOut_56 cv_0_168 hcl rfl rfl rfl rfl (lb rfl) (lb rfl) (lb rfl) (ok_F_X1_isTold hq) ?_
      refine po_i hF (fun hc hF => ?_) (fun hc hF => ?_)
      · refine pr_ifT (tgt := 147) dX0_keepsOut_59 (by decide) (pc_eqT hc) ?_
        refine pr_iinc (v := 1) (L' := [.ref x0, w1, .int x2, .int x3, .int x4, .int x5, .int (x6 + 1)]) dX0_keepsOut_147 rfl (kc_1) rfl ?_
        refine pr_goto (tgt := 43) dX0_keepsOut_150 (by decide) ?_
        exact ih hF hw1 hk
      · refine pr_ifF (tgt := 147) dX0_keepsOut_59 (by decide) (pc_eqF hc) ?_
        refine pr_aload_n dX0_keepsOut_62 rfl ?_
        obtain ⟨v7, hv7, hF⟩ := po_b hF
        refine pr_getR dX0_keepsOut_63 tf_0_16 (hv7) ?_
        refine pr_iload dX0_keepsOut_66 rfl ?_
        obtain ⟨q8, hq8, hF⟩ := po_b hF
        refine po_i hq8 (fun hcl hq => ?_) (fun _ hq => nomatch hq)
        refine pr_V (as := [.int x5]) (rest := []) dX0_keepsOut_68 cv_0_200 hcl rfl rfl rfl rfl (lb rfl) (lb rfl) (lb rfl) (ok_F_X1_friends hq) ?_
        refine pr_iload dX0_keepsOut_71 rfl ?_
        obtain ⟨q9, hq9, hF⟩ := po_b hF
        refine pr_S dX0_keepsOut_73 cs_0_191 (as := [.int q8, .int x6]) (rest := []) rfl rfl rfl (lb rfl) (lb rfl) (lb rfl) (ok_F_X0_has hq9) ?_
        refine po_i hF (fun hc hF => ?_) (fun hc hF => ?_)
        · refine pr_ifF (tgt := 82) dX0_keepsOut_76 (by decide) (pc_neF hc) ?_
          refine pr_goto (tgt := 147) dX0_keepsOut_79 (by decide) ?_
          refine pr_iinc (v := 1) (L' := [.ref x0, w1, .int x2, .int x3, .int x4, .int x5, .int (x6 + 1)]) dX0_keepsOut_147 rfl (kc_1) rfl ?_
          refine pr_goto (tgt := 43) dX0_keepsOut_150 (by decide) ?_
          exact ih hF hw1 hk
        · refine pr_ifT (tgt := 82) dX0_keepsOut_76 (by decide) (pc_neT hc) ?_
          refine pr_aload_n dX0_keepsOut_82 rfl ?_
          obtain ⟨v10, hv10, hF⟩ := po_b hF
          refine pr_getR dX0_keepsOut_83 tf_0_52 (hv10) ?_
          refine pr_aload_n dX0_keepsOut_86 rfl ?_
          obtain ⟨v11, hv11, hF⟩ := po_b hF
          refine pr_getR dX0_keepsOut_87 tf_0_16 (hv11) ?_
          obtain ⟨q12, hq12, hF⟩ := po_b hF
          refine po_i hq12 (fun hcl hq => ?_) (fun _ hq => nomatch hq)
          refine pr_V (as := [.ref v11]) (rest := []) dX0_keepsOut_90 cv_0_140 hcl rfl rfl rfl rfl (lb rfl) (lb rfl) (lb rfl) (ok_F_X1_takes hq) ?_
          refine pr_aload_n dX0_keepsOut_93 rfl ?_
          obtain ⟨v13, hv13, hF⟩ := po_b hF
          refine pr_getR dX0_keepsOut_94 tf_0_52 (hv13) ?_
          refine pr_iload dX0_keepsOut_97 rfl ?_
          refine pr_iload dX0_keepsOut_99 rfl ?_
          refine pr_iconst (v := 1) dX0_keepsOut_101 (kc_1) ?_
          obtain ⟨q14, hq14, hF⟩ := po_b hF
          refine po_i hq14 (fun hcl hq => ?_) (fun _ hq => nomatch hq)
          refine pr_V (as := [.int x5, .int x6, .int 1]) (rest := []) dX0_keepsOut_102 cv_0_225 hcl rfl rfl rfl rfl (lb rfl) (lb rfl) (lb rfl) (ok_F_X1_parts hq) ?_
          refine pr_aload_n dX0_keepsOut_105 rfl ?_
          obtain ⟨v15, hv15, hF⟩ := po_b hF
          refine pr_getR dX0_keepsOut_106 tf_0_52 (hv15) ?_
          obtain ⟨q16, hq16, hF⟩ := po_b hF
          refine pr_S dX0_keepsOut_109 cs_0_210 (as := [.ref v15]) (rest := []) rfl rfl rfl (lb rfl) (lb rfl) (lb rfl) (ok_F_X0_outOf hq16) ?_
          obtain ⟨q17, hq17, hF⟩ := po_b hF
          refine pr_S dX0_keepsOut_112 cs_0_214 (as := [.int q16]) (rest := []) rfl rfl rfl (lb rfl) (lb rfl) (lb rfl) (ok_F_J6_bitCount hq17) ?_
          refine pr_iload_n dX0_keepsOut_115 rfl ?_
          refine po_i hF (fun hc hF => ?_) (fun hc hF => ?_)
          · refine pr_icF (tgt := 122) dX0_keepsOut_116 (by decide) (pc_neF hc) ?_
            refine pr_goto (tgt := 147) dX0_keepsOut_119 (by decide) ?_
            refine pr_iinc (v := 1) (L' := [.ref x0, w1, .int x2, .int x3, .int x4, .int x5, .int (x6 + 1)]) dX0_keepsOut_147 rfl (kc_1) rfl ?_
            refine pr_goto (tgt := 43) dX0_keepsOut_150 (by decide) ?_
            exact ih hF hw1 hk
          · refine pr_icT (tgt := 122) dX0_keepsOut_116 (by decide) (pc_neT hc) ?_
            refine pr_iinc (v := 1) (L' := [.ref x0, w1, .int x2, .int (x3 + 1), .int x4, .int x5, .int x6]) dX0_keepsOut_122 rfl (kc_1) rfl ?_
            refine pr_iload dX0_keepsOut_125 rfl ?_
            refine pr_bipush (v := (-2)) dX0_keepsOut_127 (kb_m2) ?_
            refine po_i hF (fun hc hF => ?_) (fun hc hF => ?_)
            · refine pr_icF (tgt := 143) dX0_keepsOut_129 (by decide) (pc_neF hc) ?_
              refine pr_bipush (v := 16) dX0_keepsOut_132 (kb_16) ?_
              refine pr_iload dX0_keepsOut_134 rfl ?_
              refine pr_imul dX0_keepsOut_136 ?_
              refine pr_iload dX0_keepsOut_137 rfl ?_
              refine pr_iadd dX0_keepsOut_139 ?_
              refine pr_goto (tgt := 145) dX0_keepsOut_140 (by decide) ?_
              refine pr_istore (L' := [.ref x0, w1, .int x2, .int (x3 + 1), .int ((16 * x5) + x6), .int x5, .int x6]) dX0_keepsOut_145 rfl ?_
              refine pr_iinc (v := 1) (L' := [.ref x0, w1, .int x2, .int (x3 + 1), .int ((16 * x5) + x6), .int x5, .int (x6 + 1)]) dX0_keepsOut_147 rfl (kc_1) rfl ?_
              refine pr_goto (tgt := 43) dX0_keepsOut_150 (by decide) ?_
              exact ih hF hw1 hk
            · refine pr_icT (tgt := 143) dX0_keepsOut_129 (by decide) (pc_neT hc) ?_
              refine pr_iload dX0_keepsOut_143 rfl ?_
              refine pr_istore (L' := [.ref x0, w1, .int x2, .int (x3 + 1), .int x4, .int x5, .int x6]) dX0_keepsOut_145 rfl ?_
              refine pr_iinc (v := 1) (L' := [.ref x0, w1, .int x2, .int (x3 + 1), .int x4, .int x5, .int (x6 + 1)]) dX0_keepsOut_147 rfl (kc_1) rfl ?_
              refine pr_goto (tgt := 43) dX0_keepsOut_150 (by decide) ?_
              exact ih hF hw1 hk
    · refine pr_icT (tgt := 153) dX0_keepsOut_47 (by decide) (pc_geT hc) ?_
      cases hF
      exact hk _ rfl
def L_X0_keepsOut_30 : Nat → Nat → Int32 → Int32 → Int32 → Int32 → pm_H → Option (Int32 × Int32 × pm_H)
  | 0, _, _, _, _, _, _ => none
  | n + 1, x0, x2, x3, x4, x5, h =>
    if x5 < 16 then
      (L_X0_keepsOut_43 n x0 x2 x3 x4 x5 (x5 + 1) h).bind fun q18 =>
      L_X0_keepsOut_30 n x0 x2 q18.1 q18.2.1 (x5 + 1) q18.2.2
    else
      some (x3, x4, h)
theorem ok_L_X0_keepsOut_30 {d : Nat} : ∀ (n : Nat) {x0 : Nat} {x2 : Int32} {x3 : Int32} {x4 : Int32} {x5 : Int32} {w1 w6 : Value} {h : pm_H} {q : Int32 × Int32 × pm_H} {res : Option Value × pm_H}, L_X0_keepsOut_30 n x0 x2 x3 x4 x5 h = some q → pm_nolong w1 = true → pm_nolong w6 = true → (∀ z5 : Value, pm_nolong z5 = true → ∀ z6 : Value, pm_nolong z6 = true → pm_E (d + 3) 0 cX0_keepsOut (some .int) 159 [.ref x0, w1, .int x2, .int q.1, .int q.2.1, z5, z6] [] q.2.2 res) → pm_E (d + 3) 0 cX0_keepsOut (some .int) 30 [.ref x0, w1, .int x2, .int x3, .int x4, .int x5, w6] [] h res := by
  intro n
  induction n with
  | zero =>
    intro x0 x2 x3 x4 x5 w1 w6 h q res hF hw1 hw6 hk
    rw [L_X0_keepsOut_30] at hF
    cases hF
  | succ n ih =>
    intro x0 x2 x3 x4 x5 w1 w6 h q res hF hw1 hw6 hk
    rw [L_X0_keepsOut_30] at hF
    refine pr_iload dX0_keepsOut_30 rfl ?_
    refine pr_bipush (v := 16) dX0_keepsOut_32 (kb_16) ?_
    refine po_i hF (fun hc hF => ?_) (fun hc hF => ?_)
    · refine pr_icF (tgt := 159) dX0_keepsOut_34 (by decide) (pc_geF hc) ?_
      refine pr_iload dX0_keepsOut_37 rfl ?_
      refine pr_iconst (v := 1) dX0_keepsOut_39 (kc_1) ?_
      refine pr_iadd dX0_keepsOut_40 ?_
      refine pr_istore (L' := [.ref x0, w1, .int x2, .int x3, .int x4, .int x5, .int (x5 + 1)]) dX0_keepsOut_41 rfl ?_
      obtain ⟨q18, hq18, hF⟩ := po_b hF
      refine ok_L_X0_keepsOut_43 n hq18 hw1 (fun z6 hz6 => ?_)
      refine pr_iinc (v := 1) (L' := [.ref x0, w1, .int x2, .int q18.1, .int q18.2.1, .int (x5 + 1), z6]) dX0_keepsOut_153 rfl (kc_1) rfl ?_
      refine pr_goto (tgt := 30) dX0_keepsOut_156 (by decide) ?_
      exact ih hF hw1 hz6 hk
    · refine pr_icT (tgt := 159) dX0_keepsOut_34 (by decide) (pc_geT hc) ?_
      cases hF
      exact hk _ rfl _ hw6
def F_X0_keepsOut (n : Nat) (h : pm_H) (a0 : Nat) (x1 : Int32) : Option (Int32 × pm_H) :=
  (F_X0_in x1 2).bind fun q1 =>
  if q1 = 0 then
    some ((-1), h)
  else
    (pm_fR [(0, 0)] h a0).bind fun v2 =>
    (F_X0_outOf n h v2).bind fun q3 =>
    (F_J6_bitCount q3).bind fun q4 =>
    (L_X0_keepsOut_30 n a0 q4 0 (-2) 0 h).bind fun q19 =>
    if x1 = 0 then
      some (q19.1, q19.2.2)
    else
      some (q19.2.1, q19.2.2)
theorem ok_F_X0_keepsOut {d n : Nat} {h : pm_H} {a0 : Nat} {x1 : Int32} {q : Int32 × pm_H} (hF : F_X0_keepsOut n h a0 x1 = some q) : pm_E (d + 3) 0 cX0_keepsOut (some .int) 0 [.ref a0, .int x1, pm_D, pm_D, pm_D, pm_D, pm_D] [] h (some (.int q.1), q.2) := by
  unfold F_X0_keepsOut at hF
  refine pr_iload_n dX0_keepsOut_0 rfl ?_
  refine pr_iconst (v := 2) dX0_keepsOut_1 (kc_2) ?_
  obtain ⟨q1, hq1, hF⟩ := po_b hF
  refine pr_S dX0_keepsOut_2 cs_0_144 (as := [.int x1, .int 2]) (rest := []) rfl rfl rfl (lb rfl) (lb rfl) (lb rfl) (ok_F_X0_in hq1) ?_
  refine po_i hF (fun hc hF => ?_) (fun hc hF => ?_)
  · refine pr_ifF (tgt := 10) dX0_keepsOut_5 (by decide) (pc_neF hc) ?_
    refine pr_iconst (v := (-1)) dX0_keepsOut_8 (kc_m1) ?_
    cases hF
    exact pr_iret dX0_keepsOut_9 rfl rfl rfl
  · refine pr_ifT (tgt := 10) dX0_keepsOut_5 (by decide) (pc_neT hc) ?_
    refine pr_aload_n dX0_keepsOut_10 rfl ?_
    obtain ⟨v2, hv2, hF⟩ := po_b hF
    refine pr_getR dX0_keepsOut_11 tf_0_16 (hv2) ?_
    obtain ⟨q3, hq3, hF⟩ := po_b hF
    refine pr_S dX0_keepsOut_14 cs_0_210 (as := [.ref v2]) (rest := []) rfl rfl rfl (lb rfl) (lb rfl) (lb rfl) (ok_F_X0_outOf hq3) ?_
    obtain ⟨q4, hq4, hF⟩ := po_b hF
    refine pr_S dX0_keepsOut_17 cs_0_214 (as := [.int q3]) (rest := []) rfl rfl rfl (lb rfl) (lb rfl) (lb rfl) (ok_F_J6_bitCount hq4) ?_
    refine pr_istore_n (L' := [.ref a0, .int x1, .int q4, pm_D, pm_D, pm_D, pm_D]) dX0_keepsOut_20 rfl ?_
    refine pr_iconst (v := 0) dX0_keepsOut_21 (kc_0) ?_
    refine pr_istore_n (L' := [.ref a0, .int x1, .int q4, .int 0, pm_D, pm_D, pm_D]) dX0_keepsOut_22 rfl ?_
    refine pr_bipush (v := (-2)) dX0_keepsOut_23 (kb_m2) ?_
    refine pr_istore (L' := [.ref a0, .int x1, .int q4, .int 0, .int (-2), pm_D, pm_D]) dX0_keepsOut_25 rfl ?_
    refine pr_iconst (v := 0) dX0_keepsOut_27 (kc_0) ?_
    refine pr_istore (L' := [.ref a0, .int x1, .int q4, .int 0, .int (-2), .int 0, pm_D]) dX0_keepsOut_28 rfl ?_
    obtain ⟨q19, hq19, hF⟩ := po_b hF
    refine ok_L_X0_keepsOut_30 n hq19 rfl rfl (fun z5 hz5 z6 hz6 => ?_)
    refine pr_iload_n dX0_keepsOut_159 rfl ?_
    refine po_i hF (fun hc hF => ?_) (fun hc hF => ?_)
    · refine pr_ifF (tgt := 167) dX0_keepsOut_160 (by decide) (pc_neF hc) ?_
      refine pr_iload_n dX0_keepsOut_163 rfl ?_
      refine pr_goto (tgt := 169) dX0_keepsOut_164 (by decide) ?_
      cases hF
      exact pr_iret dX0_keepsOut_169 rfl rfl rfl
    · refine pr_ifT (tgt := 167) dX0_keepsOut_160 (by decide) (pc_neT hc) ?_
      refine pr_iload dX0_keepsOut_167 rfl ?_
      cases hF
      exact pr_iret dX0_keepsOut_169 rfl rfl rfl

def L_X0_chain_55 : Nat → Nat → Int32 → Int32 → Int32 → pm_H → Option (Int32)
  | 0, _, _, _, _, _ => none
  | n + 1, x0, x3, x5, x6, h =>
    if x6 < 16 then
      (F_X0_has x3 x6).bind fun q6 =>
      if q6 = 0 then
        L_X0_chain_55 n x0 x3 (x5 ||| 0) (x6 + 1) h
      else
        (pm_fR [(0, 0)] h x0).bind fun v7 =>
        (if pm_cl_ h v7 = some 1 then F_X1_friends h v7 x6 else none).bind fun q8 =>
        L_X0_chain_55 n x0 x3 (x5 ||| q8) (x6 + 1) h
    else
      some x5
theorem ok_L_X0_chain_55 {d : Nat} : ∀ (n : Nat) {x0 : Nat} {x3 : Int32} {x5 : Int32} {x6 : Int32} {w1 w2 w4 : Value} {h : pm_H} {q : Int32} {res : Option Value × pm_H}, L_X0_chain_55 n x0 x3 x5 x6 h = some q → pm_nolong w1 = true → pm_nolong w2 = true → pm_nolong w4 = true → (∀ z6 : Value, pm_nolong z6 = true → pm_E (d + 1) 0 cX0_chain (some .int) 95 [.ref x0, w1, w2, .int x3, w4, .int q, z6] [] h res) → pm_E (d + 1) 0 cX0_chain (some .int) 55 [.ref x0, w1, w2, .int x3, w4, .int x5, .int x6] [] h res := by
  intro n
  induction n with
  | zero =>
    intro x0 x3 x5 x6 w1 w2 w4 h q res hF hw1 hw2 hw4 hk
    rw [L_X0_chain_55] at hF
    cases hF
  | succ n ih =>
    intro x0 x3 x5 x6 w1 w2 w4 h q res hF hw1 hw2 hw4 hk
    rw [L_X0_chain_55] at hF
    refine pr_iload dX0_chain_55 rfl ?_
    refine pr_bipush (v := 16) dX0_chain_57 (kb_16) ?_
    refine po_i hF (fun hc hF => ?_) (fun hc hF => ?_)
    · refine pr_icF (tgt := 95) dX0_chain_59 (by decide) (pc_geF hc) ?_
      refine pr_iload dX0_chain_62 rfl ?_
      refine pr_iload_n dX0_chain_64 rfl ?_
      refine pr_iload dX0_chain_65 rfl ?_
      obtain ⟨q6, hq6, hF⟩ := po_b hF
      refine pr_S dX0_chain_67 cs_0_191 (as := [.int x3, .int x6]) (rest := [.int x5]) rfl rfl rfl (lb rfl) (lb rfl) (lb rfl) (ok_F_X0_has hq6) ?_
      refine po_i hF (fun hc hF => ?_) (fun hc hF => ?_)
      · refine pr_ifT (tgt := 85) dX0_chain_70 (by decide) (pc_eqT hc) ?_
        refine pr_iconst (v := 0) dX0_chain_85 (kc_0) ?_
        refine pr_ior dX0_chain_86 ?_
        refine pr_istore (L' := [.ref x0, w1, w2, .int x3, w4, .int (x5 ||| 0), .int x6]) dX0_chain_87 (pm_st_w (i := 4) rfl rfl hw4 rfl) ?_
        refine pr_iinc (v := 1) (L' := [.ref x0, w1, w2, .int x3, w4, .int (x5 ||| 0), .int (x6 + 1)]) dX0_chain_89 rfl (kc_1) rfl ?_
        refine pr_goto (tgt := 55) dX0_chain_92 (by decide) ?_
        exact ih hF hw1 hw2 hw4 hk
      · refine pr_ifF (tgt := 85) dX0_chain_70 (by decide) (pc_eqF hc) ?_
        refine pr_aload_n dX0_chain_73 rfl ?_
        obtain ⟨v7, hv7, hF⟩ := po_b hF
        refine pr_getR dX0_chain_74 tf_0_16 (hv7) ?_
        refine pr_iload dX0_chain_77 rfl ?_
        obtain ⟨q8, hq8, hF⟩ := po_b hF
        refine po_i hq8 (fun hcl hq => ?_) (fun _ hq => nomatch hq)
        refine pr_V (as := [.int x6]) (rest := [.int x5]) dX0_chain_79 cv_0_200 hcl rfl rfl rfl rfl (lb rfl) (lb rfl) (lb rfl) (ok_F_X1_friends hq) ?_
        refine pr_goto (tgt := 86) dX0_chain_82 (by decide) ?_
        refine pr_ior dX0_chain_86 ?_
        refine pr_istore (L' := [.ref x0, w1, w2, .int x3, w4, .int (x5 ||| q8), .int x6]) dX0_chain_87 (pm_st_w (i := 4) rfl rfl hw4 rfl) ?_
        refine pr_iinc (v := 1) (L' := [.ref x0, w1, w2, .int x3, w4, .int (x5 ||| q8), .int (x6 + 1)]) dX0_chain_89 rfl (kc_1) rfl ?_
        refine pr_goto (tgt := 55) dX0_chain_92 (by decide) ?_
        exact ih hF hw1 hw2 hw4 hk
    · refine pr_icT (tgt := 95) dX0_chain_59 (by decide) (pc_geT hc) ?_
      cases hF
      exact hk _ rfl
def L_X0_chain_31 : Nat → Nat → Int32 → Int32 → Int32 → pm_H → Option ((Int32) ⊕ (Unit))
  | 0, _, _, _, _, _ => none
  | n + 1, x0, x2, x3, x4, h =>
    if x4 < 16 then
      (F_X0_has x3 x2).bind fun q5 =>
      if q5 = 0 then
        (L_X0_chain_55 n x0 x3 x3 0 h).bind fun q9 =>
        L_X0_chain_31 n x0 x2 q9 (x4 + 1) h
      else
        some (.inl x4)
    else
      some (.inr ())
theorem ok_L_X0_chain_31 {d : Nat} : ∀ (n : Nat) {x0 : Nat} {x2 : Int32} {x3 : Int32} {x4 : Int32} {w1 w5 w6 : Value} {h : pm_H} {q : (Int32) ⊕ (Unit)} {res : Option Value × pm_H}, L_X0_chain_31 n x0 x2 x3 x4 h = some q → pm_nolong w1 = true → pm_nolong w5 = true → pm_nolong w6 = true → (∀ r, q = .inl r → res = (some (.int r), h)) → (∀ e, q = .inr e → ∀ z3 : Value, pm_nolong z3 = true → ∀ z4 : Value, pm_nolong z4 = true → ∀ z5 : Value, pm_nolong z5 = true → ∀ z6 : Value, pm_nolong z6 = true → pm_E (d + 1) 0 cX0_chain (some .int) 104 [.ref x0, w1, .int x2, z3, z4, z5, z6] [] h res) → pm_E (d + 1) 0 cX0_chain (some .int) 31 [.ref x0, w1, .int x2, .int x3, .int x4, w5, w6] [] h res := by
  intro n
  induction n with
  | zero =>
    intro x0 x2 x3 x4 w1 w5 w6 h q res hF hw1 hw5 hw6 hr hk
    rw [L_X0_chain_31] at hF
    cases hF
  | succ n ih =>
    intro x0 x2 x3 x4 w1 w5 w6 h q res hF hw1 hw5 hw6 hr hk
    rw [L_X0_chain_31] at hF
    refine pr_iload dX0_chain_31 rfl ?_
    refine pr_bipush (v := 16) dX0_chain_33 (kb_16) ?_
    refine po_i hF (fun hc hF => ?_) (fun hc hF => ?_)
    · refine pr_icF (tgt := 104) dX0_chain_35 (by decide) (pc_geF hc) ?_
      refine pr_iload_n dX0_chain_38 rfl ?_
      refine pr_iload_n dX0_chain_39 rfl ?_
      obtain ⟨q5, hq5, hF⟩ := po_b hF
      refine pr_S dX0_chain_40 cs_0_191 (as := [.int x3, .int x2]) (rest := []) rfl rfl rfl (lb rfl) (lb rfl) (lb rfl) (ok_F_X0_has hq5) ?_
      refine po_i hF (fun hc hF => ?_) (fun hc hF => ?_)
      · refine pr_ifT (tgt := 49) dX0_chain_43 (by decide) (pc_eqT hc) ?_
        refine pr_iload_n dX0_chain_49 rfl ?_
        refine pr_istore (L' := [.ref x0, w1, .int x2, .int x3, .int x4, .int x3, w6]) dX0_chain_50 rfl ?_
        refine pr_iconst (v := 0) dX0_chain_52 (kc_0) ?_
        refine pr_istore (L' := [.ref x0, w1, .int x2, .int x3, .int x4, .int x3, .int 0]) dX0_chain_53 rfl ?_
        obtain ⟨q9, hq9, hF⟩ := po_b hF
        refine ok_L_X0_chain_55 n hq9 hw1 rfl rfl (fun z6 hz6 => ?_)
        refine pr_iload dX0_chain_95 rfl ?_
        refine pr_istore_n (L' := [.ref x0, w1, .int x2, .int q9, .int x4, .int q9, z6]) dX0_chain_97 rfl ?_
        refine pr_iinc (v := 1) (L' := [.ref x0, w1, .int x2, .int q9, .int (x4 + 1), .int q9, z6]) dX0_chain_98 rfl (kc_1) rfl ?_
        refine pr_goto (tgt := 31) dX0_chain_101 (by decide) ?_
        exact ih hF hw1 rfl hz6 hr hk
      · refine pr_ifF (tgt := 49) dX0_chain_43 (by decide) (pc_eqF hc) ?_
        refine pr_iload dX0_chain_46 rfl ?_
        cases hF
        exact pr_iret dX0_chain_48 rfl rfl (hr _ rfl)
    · refine pr_icT (tgt := 104) dX0_chain_35 (by decide) (pc_geT hc) ?_
      cases hF
      exact hk _ rfl _ rfl _ rfl _ hw5 _ hw6
def F_X0_chain (n : Nat) (h : pm_H) (a0 : Nat) (x1 : Int32) (x2 : Int32) : Option (Int32) :=
  (pm_fR [(0, 0)] h a0).bind fun v1 =>
  (if pm_cl_ h v1 = some 1 then F_X1_isTold h v1 x1 else none).bind fun q2 =>
  if q2 = 0 then
    some (-1)
  else
    (pm_fR [(0, 0)] h a0).bind fun v3 =>
    (if pm_cl_ h v3 = some 1 then F_X1_isTold h v3 x2 else none).bind fun q4 =>
    if q4 = 0 then
      some (-1)
    else
      (L_X0_chain_31 n a0 x2 (pm_shl 1 x1) 0 h).bind fun q10 => po_s q10 (fun r => some r) fun e11 =>
      some (-2)
theorem ok_F_X0_chain {d n : Nat} {h : pm_H} {a0 : Nat} {x1 : Int32} {x2 : Int32} {q : Int32} (hF : F_X0_chain n h a0 x1 x2 = some q) : pm_E (d + 1) 0 cX0_chain (some .int) 0 [.ref a0, .int x1, .int x2, pm_D, pm_D, pm_D, pm_D] [] h (some (.int q), h) := by
  unfold F_X0_chain at hF
  refine pr_aload_n dX0_chain_0 rfl ?_
  obtain ⟨v1, hv1, hF⟩ := po_b hF
  refine pr_getR dX0_chain_1 tf_0_16 (hv1) ?_
  refine pr_iload_n dX0_chain_4 rfl ?_
  obtain ⟨q2, hq2, hF⟩ := po_b hF
  refine po_i hq2 (fun hcl hq => ?_) (fun _ hq => nomatch hq)
  refine pr_V (as := [.int x1]) (rest := []) dX0_chain_5 cv_0_168 hcl rfl rfl rfl rfl (lb rfl) (lb rfl) (lb rfl) (ok_F_X1_isTold hq) ?_
  refine po_i hF (fun hc hF => ?_) (fun hc hF => ?_)
  · refine pr_ifT (tgt := 22) dX0_chain_8 (by decide) (pc_eqT hc) ?_
    refine pr_iconst (v := (-1)) dX0_chain_22 (kc_m1) ?_
    cases hF
    exact pr_iret dX0_chain_23 rfl rfl rfl
  · refine pr_ifF (tgt := 22) dX0_chain_8 (by decide) (pc_eqF hc) ?_
    refine pr_aload_n dX0_chain_11 rfl ?_
    obtain ⟨v3, hv3, hF⟩ := po_b hF
    refine pr_getR dX0_chain_12 tf_0_16 (hv3) ?_
    refine pr_iload_n dX0_chain_15 rfl ?_
    obtain ⟨q4, hq4, hF⟩ := po_b hF
    refine po_i hq4 (fun hcl hq => ?_) (fun _ hq => nomatch hq)
    refine pr_V (as := [.int x2]) (rest := []) dX0_chain_16 cv_0_168 hcl rfl rfl rfl rfl (lb rfl) (lb rfl) (lb rfl) (ok_F_X1_isTold hq) ?_
    refine po_i hF (fun hc hF => ?_) (fun hc hF => ?_)
    · refine pr_ifF (tgt := 24) dX0_chain_19 (by decide) (pc_neF hc) ?_
      refine pr_iconst (v := (-1)) dX0_chain_22 (kc_m1) ?_
      cases hF
      exact pr_iret dX0_chain_23 rfl rfl rfl
    · refine pr_ifT (tgt := 24) dX0_chain_19 (by decide) (pc_neT hc) ?_
      refine pr_iconst (v := 1) dX0_chain_24 (kc_1) ?_
      refine pr_iload_n dX0_chain_25 rfl ?_
      refine pr_ishl dX0_chain_26 ?_
      refine pr_istore_n (L' := [.ref a0, .int x1, .int x2, .int (pm_shl 1 x1), pm_D, pm_D, pm_D]) dX0_chain_27 rfl ?_
      refine pr_iconst (v := 0) dX0_chain_28 (kc_0) ?_
      refine pr_istore (L' := [.ref a0, .int x1, .int x2, .int (pm_shl 1 x1), .int 0, pm_D, pm_D]) dX0_chain_29 rfl ?_
      obtain ⟨q10, hq10, hF⟩ := po_b hF
      refine ok_L_X0_chain_31 n hq10 rfl rfl rfl (fun r hq => ?_) (fun e11 hq z3 hz3 z4 hz4 z5 hz5 z6 hz6 => ?_)
      · subst hq
        replace hF := po_sl hF
        cases hF
        exact rfl
      subst hq
      replace hF := po_sr hF
      refine pr_bipush (v := (-2)) dX0_chain_104 (kb_m2) ?_
      cases hF
      exact pr_iret dX0_chain_106 rfl rfl rfl

def L_X0_isParty_2 : Nat → Nat → Int32 → Int32 → pm_H → Option ((Int32) ⊕ (Unit))
  | 0, _, _, _, _ => none
  | n + 1, x0, x1, x2, h =>
    if x2 < 16 then
      (F_X0_has x1 x2).bind fun q1 =>
      if q1 = 0 then
        L_X0_isParty_2 n x0 x1 (x2 + 1) h
      else
        (pm_fR [(0, 0)] h x0).bind fun v2 =>
        (pm_fR [(1, 1)] h v2).bind fun v3 =>
        (pm_ai 0 h v3 x2).bind fun v4 =>
        if (v4 &&& x1) = 0 then
          L_X0_isParty_2 n x0 x1 (x2 + 1) h
        else
          some (.inl 0)
    else
      some (.inr ())
theorem ok_L_X0_isParty_2 {d : Nat} : ∀ (n : Nat) {x0 : Nat} {x1 : Int32} {x2 : Int32} {h : pm_H} {q : (Int32) ⊕ (Unit)} {res : Option Value × pm_H}, L_X0_isParty_2 n x0 x1 x2 h = some q → (∀ r, q = .inl r → res = (some (.int r), h)) → (∀ e, q = .inr e → ∀ z2 : Value, pm_nolong z2 = true → pm_E (d + 1) 0 cX0_isParty (some .boolean) 38 [.ref x0, .int x1, z2] [] h res) → pm_E (d + 1) 0 cX0_isParty (some .boolean) 2 [.ref x0, .int x1, .int x2] [] h res := by
  intro n
  induction n with
  | zero =>
    intro x0 x1 x2 h q res hF hr hk
    rw [L_X0_isParty_2] at hF
    cases hF
  | succ n ih =>
    intro x0 x1 x2 h q res hF hr hk
    rw [L_X0_isParty_2] at hF
    refine pr_iload_n dX0_isParty_2 rfl ?_
    refine pr_bipush (v := 16) dX0_isParty_3 (kb_16) ?_
    refine po_i hF (fun hc hF => ?_) (fun hc hF => ?_)
    · refine pr_icF (tgt := 38) dX0_isParty_5 (by decide) (pc_geF hc) ?_
      refine pr_iload_n dX0_isParty_8 rfl ?_
      refine pr_iload_n dX0_isParty_9 rfl ?_
      obtain ⟨q1, hq1, hF⟩ := po_b hF
      refine pr_S dX0_isParty_10 cs_0_191 (as := [.int x1, .int x2]) (rest := []) rfl rfl rfl (lb rfl) (lb rfl) (lb rfl) (ok_F_X0_has hq1) ?_
      refine po_i hF (fun hc hF => ?_) (fun hc hF => ?_)
      · refine pr_ifT (tgt := 32) dX0_isParty_13 (by decide) (pc_eqT hc) ?_
        refine pr_iinc (v := 1) (L' := [.ref x0, .int x1, .int (x2 + 1)]) dX0_isParty_32 rfl (kc_1) rfl ?_
        refine pr_goto (tgt := 2) dX0_isParty_35 (by decide) ?_
        exact ih hF hr hk
      · refine pr_ifF (tgt := 32) dX0_isParty_13 (by decide) (pc_eqF hc) ?_
        refine pr_aload_n dX0_isParty_16 rfl ?_
        obtain ⟨v2, hv2, hF⟩ := po_b hF
        refine pr_getR dX0_isParty_17 tf_0_16 (hv2) ?_
        obtain ⟨v3, hv3, hF⟩ := po_b hF
        refine pr_getR dX0_isParty_20 tf_0_194 (hv3) ?_
        refine pr_iload_n dX0_isParty_23 rfl ?_
        obtain ⟨v4, hv4, hF⟩ := po_b hF
        refine pr_iald dX0_isParty_24 (hv4) ?_
        refine pr_iload_n dX0_isParty_25 rfl ?_
        refine pr_iand dX0_isParty_26 ?_
        refine po_i hF (fun hc hF => ?_) (fun hc hF => ?_)
        · refine pr_ifT (tgt := 32) dX0_isParty_27 (by decide) (pc_eqT hc) ?_
          refine pr_iinc (v := 1) (L' := [.ref x0, .int x1, .int (x2 + 1)]) dX0_isParty_32 rfl (kc_1) rfl ?_
          refine pr_goto (tgt := 2) dX0_isParty_35 (by decide) ?_
          exact ih hF hr hk
        · refine pr_ifF (tgt := 32) dX0_isParty_27 (by decide) (pc_eqF hc) ?_
          refine pr_iconst (v := 0) dX0_isParty_30 (kc_0) ?_
          cases hF
          exact pr_iret dX0_isParty_31 rfl nb_0 (hr _ rfl)
    · refine pr_icT (tgt := 38) dX0_isParty_5 (by decide) (pc_geT hc) ?_
      cases hF
      exact hk _ rfl _ rfl
def F_X0_isParty (n : Nat) (h : pm_H) (a0 : Nat) (x1 : Int32) : Option (Int32) :=
  (L_X0_isParty_2 n a0 x1 0 h).bind fun q5 => po_s q5 (fun r => some r) fun e6 =>
  some 1
theorem ok_F_X0_isParty {d n : Nat} {h : pm_H} {a0 : Nat} {x1 : Int32} {q : Int32} (hF : F_X0_isParty n h a0 x1 = some q) : pm_E (d + 1) 0 cX0_isParty (some .boolean) 0 [.ref a0, .int x1, pm_D] [] h (some (.int q), h) := by
  unfold F_X0_isParty at hF
  refine pr_iconst (v := 0) dX0_isParty_0 (kc_0) ?_
  refine pr_istore_n (L' := [.ref a0, .int x1, .int 0]) dX0_isParty_1 rfl ?_
  obtain ⟨q5, hq5, hF⟩ := po_b hF
  refine ok_L_X0_isParty_2 n hq5 (fun r hq => ?_) (fun e6 hq z2 hz2 => ?_)
  · subst hq
    replace hF := po_sl hF
    cases hF
    exact rfl
  subst hq
  replace hF := po_sr hF
  refine pr_iconst (v := 1) dX0_isParty_38 (kc_1) ?_
  cases hF
  exact pr_iret dX0_isParty_39 rfl nb_1 rfl

def L_X0_party_14 : Nat → Nat → Int32 → Int32 → pm_H → Option (Int32)
  | 0, _, _, _, _ => none
  | n + 1, x0, x2, x3, h =>
    (pm_fR [(0, 0)] h x0).bind fun v2 =>
    (pm_fI [(1, 2)] h v2).bind fun v3 =>
    if v3 < x3 then
      some x2
    else
      (pm_fR [(0, 0)] h x0).bind fun v4 =>
      (pm_fI [(1, 2)] h v4).bind fun v5 =>
      if (x3 &&& (v5 ^^^ (-1))) = 0 then
        (F_J6_bitCount x3).bind fun q6 =>
        (F_J6_bitCount x2).bind fun q7 =>
        if q7 < q6 then
          (if pm_cl_ h x0 = some 0 then F_X0_isParty n h x0 x3 else none).bind fun q8 =>
          if q8 = 0 then
            L_X0_party_14 n x0 x2 (x3 + 1) h
          else
            L_X0_party_14 n x0 x3 (x3 + 1) h
        else
          L_X0_party_14 n x0 x2 (x3 + 1) h
      else
        L_X0_party_14 n x0 x2 (x3 + 1) h
theorem ok_L_X0_party_14 {d : Nat} : ∀ (n : Nat) {x0 : Nat} {x2 : Int32} {x3 : Int32} {w1 : Value} {h : pm_H} {q : Int32} {res : Option Value × pm_H}, L_X0_party_14 n x0 x2 x3 h = some q → pm_nolong w1 = true → (∀ z3 : Value, pm_nolong z3 = true → pm_E (d + 2) 0 cX0_party (some .int) 66 [.ref x0, w1, .int q, z3] [] h res) → pm_E (d + 2) 0 cX0_party (some .int) 14 [.ref x0, w1, .int x2, .int x3] [] h res := by
  intro n
  induction n with
  | zero =>
    intro x0 x2 x3 w1 h q res hF hw1 hk
    rw [L_X0_party_14] at hF
    cases hF
  | succ n ih =>
    intro x0 x2 x3 w1 h q res hF hw1 hk
    rw [L_X0_party_14] at hF
    refine pr_iload_n dX0_party_14 rfl ?_
    refine pr_aload_n dX0_party_15 rfl ?_
    obtain ⟨v2, hv2, hF⟩ := po_b hF
    refine pr_getR dX0_party_16 tf_0_16 (hv2) ?_
    obtain ⟨v3, hv3, hF⟩ := po_b hF
    refine pr_getI dX0_party_19 tf_0_22 (hv3) ?_
    refine po_i hF (fun hc hF => ?_) (fun hc hF => ?_)
    · refine pr_icT (tgt := 66) dX0_party_22 (by decide) (pc_gtT hc) ?_
      cases hF
      exact hk _ rfl
    · refine pr_icF (tgt := 66) dX0_party_22 (by decide) (pc_gtF hc) ?_
      refine pr_iload_n dX0_party_25 rfl ?_
      refine pr_aload_n dX0_party_26 rfl ?_
      obtain ⟨v4, hv4, hF⟩ := po_b hF
      refine pr_getR dX0_party_27 tf_0_16 (hv4) ?_
      obtain ⟨v5, hv5, hF⟩ := po_b hF
      refine pr_getI dX0_party_30 tf_0_22 (hv5) ?_
      refine pr_iconst (v := (-1)) dX0_party_33 (kc_m1) ?_
      refine pr_ixor dX0_party_34 ?_
      refine pr_iand dX0_party_35 ?_
      refine po_i hF (fun hc hF => ?_) (fun hc hF => ?_)
      · refine pr_ifF (tgt := 60) dX0_party_36 (by decide) (pc_neF hc) ?_
        refine pr_iload_n dX0_party_39 rfl ?_
        obtain ⟨q6, hq6, hF⟩ := po_b hF
        refine pr_S dX0_party_40 cs_0_214 (as := [.int x3]) (rest := []) rfl rfl rfl (lb rfl) (lb rfl) (lb rfl) (ok_F_J6_bitCount hq6) ?_
        refine pr_iload_n dX0_party_43 rfl ?_
        obtain ⟨q7, hq7, hF⟩ := po_b hF
        refine pr_S dX0_party_44 cs_0_214 (as := [.int x2]) (rest := [.int q6]) rfl rfl rfl (lb rfl) (lb rfl) (lb rfl) (ok_F_J6_bitCount hq7) ?_
        refine po_i hF (fun hc hF => ?_) (fun hc hF => ?_)
        · refine pr_icF (tgt := 60) dX0_party_47 (by decide) (pc_leF hc) ?_
          refine pr_aload_n dX0_party_50 rfl ?_
          refine pr_iload_n dX0_party_51 rfl ?_
          obtain ⟨q8, hq8, hF⟩ := po_b hF
          refine po_i hq8 (fun hcl hq => ?_) (fun _ hq => nomatch hq)
          refine pr_V (as := [.int x3]) (rest := []) dX0_party_52 cv_0_229 hcl rfl rfl rfl rfl (lb rfl) (lb rfl) (lb rfl) (ok_F_X0_isParty hq) ?_
          refine po_i hF (fun hc hF => ?_) (fun hc hF => ?_)
          · refine pr_ifT (tgt := 60) dX0_party_55 (by decide) (pc_eqT hc) ?_
            refine pr_iinc (v := 1) (L' := [.ref x0, w1, .int x2, .int (x3 + 1)]) dX0_party_60 rfl (kc_1) rfl ?_
            refine pr_goto (tgt := 14) dX0_party_63 (by decide) ?_
            exact ih hF hw1 hk
          · refine pr_ifF (tgt := 60) dX0_party_55 (by decide) (pc_eqF hc) ?_
            refine pr_iload_n dX0_party_58 rfl ?_
            refine pr_istore_n (L' := [.ref x0, w1, .int x3, .int x3]) dX0_party_59 (pm_st_w (i := 1) rfl rfl hw1 rfl) ?_
            refine pr_iinc (v := 1) (L' := [.ref x0, w1, .int x3, .int (x3 + 1)]) dX0_party_60 rfl (kc_1) rfl ?_
            refine pr_goto (tgt := 14) dX0_party_63 (by decide) ?_
            exact ih hF hw1 hk
        · refine pr_icT (tgt := 60) dX0_party_47 (by decide) (pc_leT hc) ?_
          refine pr_iinc (v := 1) (L' := [.ref x0, w1, .int x2, .int (x3 + 1)]) dX0_party_60 rfl (kc_1) rfl ?_
          refine pr_goto (tgt := 14) dX0_party_63 (by decide) ?_
          exact ih hF hw1 hk
      · refine pr_ifT (tgt := 60) dX0_party_36 (by decide) (pc_neT hc) ?_
        refine pr_iinc (v := 1) (L' := [.ref x0, w1, .int x2, .int (x3 + 1)]) dX0_party_60 rfl (kc_1) rfl ?_
        refine pr_goto (tgt := 14) dX0_party_63 (by decide) ?_
        exact ih hF hw1 hk
def F_X0_party (n : Nat) (h : pm_H) (a0 : Nat) (x1 : Int32) : Option (Int32) :=
  (F_X0_in x1 2).bind fun q1 =>
  if q1 = 0 then
    some (-1)
  else
    (L_X0_party_14 n a0 0 1 h).bind fun q9 =>
    if x1 = 0 then
      (F_J6_bitCount q9).bind fun q10 =>
      some q10
    else
      some q9
theorem ok_F_X0_party {d n : Nat} {h : pm_H} {a0 : Nat} {x1 : Int32} {q : Int32} (hF : F_X0_party n h a0 x1 = some q) : pm_E (d + 2) 0 cX0_party (some .int) 0 [.ref a0, .int x1, pm_D, pm_D] [] h (some (.int q), h) := by
  unfold F_X0_party at hF
  refine pr_iload_n dX0_party_0 rfl ?_
  refine pr_iconst (v := 2) dX0_party_1 (kc_2) ?_
  obtain ⟨q1, hq1, hF⟩ := po_b hF
  refine pr_S dX0_party_2 cs_0_144 (as := [.int x1, .int 2]) (rest := []) rfl rfl rfl (lb rfl) (lb rfl) (lb rfl) (ok_F_X0_in hq1) ?_
  refine po_i hF (fun hc hF => ?_) (fun hc hF => ?_)
  · refine pr_ifF (tgt := 10) dX0_party_5 (by decide) (pc_neF hc) ?_
    refine pr_iconst (v := (-1)) dX0_party_8 (kc_m1) ?_
    cases hF
    exact pr_iret dX0_party_9 rfl rfl rfl
  · refine pr_ifT (tgt := 10) dX0_party_5 (by decide) (pc_neT hc) ?_
    refine pr_iconst (v := 0) dX0_party_10 (kc_0) ?_
    refine pr_istore_n (L' := [.ref a0, .int x1, .int 0, pm_D]) dX0_party_11 rfl ?_
    refine pr_iconst (v := 1) dX0_party_12 (kc_1) ?_
    refine pr_istore_n (L' := [.ref a0, .int x1, .int 0, .int 1]) dX0_party_13 rfl ?_
    obtain ⟨q9, hq9, hF⟩ := po_b hF
    refine ok_L_X0_party_14 n hq9 rfl (fun z3 hz3 => ?_)
    refine pr_iload_n dX0_party_66 rfl ?_
    refine po_i hF (fun hc hF => ?_) (fun hc hF => ?_)
    · refine pr_ifF (tgt := 77) dX0_party_67 (by decide) (pc_neF hc) ?_
      refine pr_iload_n dX0_party_70 rfl ?_
      obtain ⟨q10, hq10, hF⟩ := po_b hF
      refine pr_S dX0_party_71 cs_0_214 (as := [.int q9]) (rest := []) rfl rfl rfl (lb rfl) (lb rfl) (lb rfl) (ok_F_J6_bitCount hq10) ?_
      refine pr_goto (tgt := 78) dX0_party_74 (by decide) ?_
      cases hF
      exact pr_iret dX0_party_78 rfl rfl rfl
    · refine pr_ifT (tgt := 77) dX0_party_67 (by decide) (pc_neT hc) ?_
      refine pr_iload_n dX0_party_77 rfl ?_
      cases hF
      exact pr_iret dX0_party_78 rfl rfl rfl

def L_X0_canParty_50 (fS : pm_H → Nat → Int32 → Int32 → Int32 → Option (Int32 × pm_H)) : Nat → Nat → Int32 → Int32 → Int32 → Int32 → pm_H → Option (Int32)
  | 0, _, _, _, _, _, _ => none
  | n + 1, x0, x1, x4, x5, x6, h =>
    if x6 < x1 then
      if x5 = 0 then
        L_X0_canParty_50 fS n x0 x1 x4 0 (x6 + 1) h
      else
        (pm_fR [(0, 0)] h x0).bind fun v3 =>
        (if pm_cl_ h v3 = some 1 then F_X1_isTold h v3 x6 else none).bind fun q4 =>
        if q4 = 0 then
          L_X0_canParty_50 fS n x0 x1 x4 1 (x6 + 1) h
        else
          (pm_fR [(0, 11)] h x0).bind fun v5 =>
          (pm_ai 0 h v5 x6).bind fun v6 =>
          if v6 = x4 then
            (pm_fR [(0, 0)] h x0).bind fun v7 =>
            (pm_fR [(1, 1)] h v7).bind fun v8 =>
            (pm_ai 0 h v8 x1).bind fun v9 =>
            (F_X0_has v9 x6).bind fun q10 =>
            if q10 = 0 then
              L_X0_canParty_50 fS n x0 x1 x4 1 (x6 + 1) h
            else
              L_X0_canParty_50 fS n x0 x1 x4 0 (x6 + 1) h
          else
            L_X0_canParty_50 fS n x0 x1 x4 1 (x6 + 1) h
    else
      some x5
theorem ok_L_X0_canParty_50 {d : Nat} {fS : pm_H → Nat → Int32 → Int32 → Int32 → Option (Int32 × pm_H)} (hfS : ∀ {h : pm_H} {a : Nat} {p u m : Int32} {q : Int32 × pm_H}, fS h a p u m = some q → pm_E d 0 cX0_canParty (some .boolean) 0 (pm_en [.ref a, .int p, .int u, .int m] 7) [] h (some (.int q.1), q.2)) : ∀ (n : Nat) {x0 : Nat} {x1 : Int32} {x4 : Int32} {x5 : Int32} {x6 : Int32} {w2 w3 : Value} {h : pm_H} {q : Int32} {res : Option Value × pm_H}, L_X0_canParty_50 fS n x0 x1 x4 x5 x6 h = some q → pm_nolong w2 = true → pm_nolong w3 = true → (∀ z6 : Value, pm_nolong z6 = true → pm_E (d + 1) 0 cX0_canParty (some .boolean) 115 [.ref x0, .int x1, w2, w3, .int x4, .int q, z6] [] h res) → pm_E (d + 1) 0 cX0_canParty (some .boolean) 50 [.ref x0, .int x1, w2, w3, .int x4, .int x5, .int x6] [] h res := by
  intro n
  induction n with
  | zero =>
    intro x0 x1 x4 x5 x6 w2 w3 h q res hF hw2 hw3 hk
    rw [L_X0_canParty_50] at hF
    cases hF
  | succ n ih =>
    intro x0 x1 x4 x5 x6 w2 w3 h q res hF hw2 hw3 hk
    rw [L_X0_canParty_50] at hF
    refine pr_iload dX0_canParty_50 rfl ?_
    refine pr_iload_n dX0_canParty_52 rfl ?_
    refine po_i hF (fun hc hF => ?_) (fun hc hF => ?_)
    · refine pr_icF (tgt := 115) dX0_canParty_53 (by decide) (pc_geF hc) ?_
      refine pr_iload dX0_canParty_56 rfl ?_
      refine po_i hF (fun hc hF => ?_) (fun hc hF => ?_)
      · refine pr_ifT (tgt := 106) dX0_canParty_58 (by decide) (pc_eqT hc) ?_
        refine pr_iconst (v := 0) dX0_canParty_106 (kc_0) ?_
        refine pr_istore (L' := [.ref x0, .int x1, w2, w3, .int x4, .int 0, .int x6]) dX0_canParty_107 rfl ?_
        refine pr_iinc (v := 1) (L' := [.ref x0, .int x1, w2, w3, .int x4, .int 0, .int (x6 + 1)]) dX0_canParty_109 rfl (kc_1) rfl ?_
        refine pr_goto (tgt := 50) dX0_canParty_112 (by decide) ?_
        exact ih hF hw2 hw3 hk
      · refine pr_ifF (tgt := 106) dX0_canParty_58 (by decide) (pc_eqF hc) ?_
        refine pr_aload_n dX0_canParty_61 rfl ?_
        obtain ⟨v3, hv3, hF⟩ := po_b hF
        refine pr_getR dX0_canParty_62 tf_0_16 (hv3) ?_
        refine pr_iload dX0_canParty_65 rfl ?_
        obtain ⟨q4, hq4, hF⟩ := po_b hF
        refine po_i hq4 (fun hcl hq => ?_) (fun _ hq => nomatch hq)
        refine pr_V (as := [.int x6]) (rest := []) dX0_canParty_67 cv_0_168 hcl rfl rfl rfl rfl (lb rfl) (lb rfl) (lb rfl) (ok_F_X1_isTold hq) ?_
        refine po_i hF (fun hc hF => ?_) (fun hc hF => ?_)
        · refine pr_ifT (tgt := 102) dX0_canParty_70 (by decide) (pc_eqT hc) ?_
          refine pr_iconst (v := 1) dX0_canParty_102 (kc_1) ?_
          refine pr_goto (tgt := 107) dX0_canParty_103 (by decide) ?_
          refine pr_istore (L' := [.ref x0, .int x1, w2, w3, .int x4, .int 1, .int x6]) dX0_canParty_107 rfl ?_
          refine pr_iinc (v := 1) (L' := [.ref x0, .int x1, w2, w3, .int x4, .int 1, .int (x6 + 1)]) dX0_canParty_109 rfl (kc_1) rfl ?_
          refine pr_goto (tgt := 50) dX0_canParty_112 (by decide) ?_
          exact ih hF hw2 hw3 hk
        · refine pr_ifF (tgt := 102) dX0_canParty_70 (by decide) (pc_eqF hc) ?_
          refine pr_aload_n dX0_canParty_73 rfl ?_
          obtain ⟨v5, hv5, hF⟩ := po_b hF
          refine pr_getR dX0_canParty_74 tf_0_83 (hv5) ?_
          refine pr_iload dX0_canParty_77 rfl ?_
          obtain ⟨v6, hv6, hF⟩ := po_b hF
          refine pr_iald dX0_canParty_79 (hv6) ?_
          refine pr_iload dX0_canParty_80 rfl ?_
          refine po_i hF (fun hc hF => ?_) (fun hc hF => ?_)
          · refine pr_icF (tgt := 102) dX0_canParty_82 (by decide) (pc_neF hc) ?_
            refine pr_aload_n dX0_canParty_85 rfl ?_
            obtain ⟨v7, hv7, hF⟩ := po_b hF
            refine pr_getR dX0_canParty_86 tf_0_16 (hv7) ?_
            obtain ⟨v8, hv8, hF⟩ := po_b hF
            refine pr_getR dX0_canParty_89 tf_0_194 (hv8) ?_
            refine pr_iload_n dX0_canParty_92 rfl ?_
            obtain ⟨v9, hv9, hF⟩ := po_b hF
            refine pr_iald dX0_canParty_93 (hv9) ?_
            refine pr_iload dX0_canParty_94 rfl ?_
            obtain ⟨q10, hq10, hF⟩ := po_b hF
            refine pr_S dX0_canParty_96 cs_0_191 (as := [.int v9, .int x6]) (rest := []) rfl rfl rfl (lb rfl) (lb rfl) (lb rfl) (ok_F_X0_has hq10) ?_
            refine po_i hF (fun hc hF => ?_) (fun hc hF => ?_)
            · refine pr_ifF (tgt := 106) dX0_canParty_99 (by decide) (pc_neF hc) ?_
              refine pr_iconst (v := 1) dX0_canParty_102 (kc_1) ?_
              refine pr_goto (tgt := 107) dX0_canParty_103 (by decide) ?_
              refine pr_istore (L' := [.ref x0, .int x1, w2, w3, .int x4, .int 1, .int x6]) dX0_canParty_107 rfl ?_
              refine pr_iinc (v := 1) (L' := [.ref x0, .int x1, w2, w3, .int x4, .int 1, .int (x6 + 1)]) dX0_canParty_109 rfl (kc_1) rfl ?_
              refine pr_goto (tgt := 50) dX0_canParty_112 (by decide) ?_
              exact ih hF hw2 hw3 hk
            · refine pr_ifT (tgt := 106) dX0_canParty_99 (by decide) (pc_neT hc) ?_
              refine pr_iconst (v := 0) dX0_canParty_106 (kc_0) ?_
              refine pr_istore (L' := [.ref x0, .int x1, w2, w3, .int x4, .int 0, .int x6]) dX0_canParty_107 rfl ?_
              refine pr_iinc (v := 1) (L' := [.ref x0, .int x1, w2, w3, .int x4, .int 0, .int (x6 + 1)]) dX0_canParty_109 rfl (kc_1) rfl ?_
              refine pr_goto (tgt := 50) dX0_canParty_112 (by decide) ?_
              exact ih hF hw2 hw3 hk
          · refine pr_icT (tgt := 102) dX0_canParty_82 (by decide) (pc_neT hc) ?_
            refine pr_iconst (v := 1) dX0_canParty_102 (kc_1) ?_
            refine pr_goto (tgt := 107) dX0_canParty_103 (by decide) ?_
            refine pr_istore (L' := [.ref x0, .int x1, w2, w3, .int x4, .int 1, .int x6]) dX0_canParty_107 rfl ?_
            refine pr_iinc (v := 1) (L' := [.ref x0, .int x1, w2, w3, .int x4, .int 1, .int (x6 + 1)]) dX0_canParty_109 rfl (kc_1) rfl ?_
            refine pr_goto (tgt := 50) dX0_canParty_112 (by decide) ?_
            exact ih hF hw2 hw3 hk
    · refine pr_icT (tgt := 115) dX0_canParty_53 (by decide) (pc_geT hc) ?_
      cases hF
      exact hk _ rfl
def L_X0_canParty_32 (fS : pm_H → Nat → Int32 → Int32 → Int32 → Option (Int32 × pm_H)) : Nat → Nat → Int32 → Int32 → Int32 → Int32 → pm_H → Option ((Int32 × pm_H) ⊕ (pm_H))
  | 0, _, _, _, _, _, _ => none
  | n + 1, x0, x1, x2, x3, x4, h =>
    if x4 < x3 then
      if x2 < x4 then
        some (.inr h)
      else
        (L_X0_canParty_50 fS n x0 x1 x4 1 0 h).bind fun q11 =>
        (pm_fR [(0, 11)] h x0).bind fun v12 =>
        (pm_si 0 h v12 x1 x4).bind fun h13 =>
        if q11 = 0 then
          L_X0_canParty_32 fS n x0 x1 x2 x3 (x4 + 1) h13
        else
          (F_J2_max x2 (x4 + 1)).bind fun q14 =>
          (if pm_cl_ h13 x0 = some 0 then fS h13 x0 (x1 + 1) q14 x3 else none).bind fun q15 =>
          if q15.1 = 0 then
            L_X0_canParty_32 fS n x0 x1 x2 x3 (x4 + 1) q15.2
          else
            some (.inl (1, q15.2))
    else
      some (.inr h)
theorem ok_L_X0_canParty_32 {d : Nat} {fS : pm_H → Nat → Int32 → Int32 → Int32 → Option (Int32 × pm_H)} (hfS : ∀ {h : pm_H} {a : Nat} {p u m : Int32} {q : Int32 × pm_H}, fS h a p u m = some q → pm_E d 0 cX0_canParty (some .boolean) 0 (pm_en [.ref a, .int p, .int u, .int m] 7) [] h (some (.int q.1), q.2)) : ∀ (n : Nat) {x0 : Nat} {x1 : Int32} {x2 : Int32} {x3 : Int32} {x4 : Int32} {w5 w6 : Value} {h : pm_H} {q : (Int32 × pm_H) ⊕ (pm_H)} {res : Option Value × pm_H}, L_X0_canParty_32 fS n x0 x1 x2 x3 x4 h = some q → pm_nolong w5 = true → pm_nolong w6 = true → (∀ r, q = .inl r → res = (some (.int r.1), r.2)) → (∀ e, q = .inr e → ∀ z4 : Value, pm_nolong z4 = true → ∀ z5 : Value, pm_nolong z5 = true → ∀ z6 : Value, pm_nolong z6 = true → pm_E (d + 1) 0 cX0_canParty (some .boolean) 155 [.ref x0, .int x1, .int x2, .int x3, z4, z5, z6] [] e res) → pm_E (d + 1) 0 cX0_canParty (some .boolean) 32 [.ref x0, .int x1, .int x2, .int x3, .int x4, w5, w6] [] h res := by
  intro n
  induction n with
  | zero =>
    intro x0 x1 x2 x3 x4 w5 w6 h q res hF hw5 hw6 hr hk
    rw [L_X0_canParty_32] at hF
    cases hF
  | succ n ih =>
    intro x0 x1 x2 x3 x4 w5 w6 h q res hF hw5 hw6 hr hk
    rw [L_X0_canParty_32] at hF
    refine pr_iload dX0_canParty_32 rfl ?_
    refine pr_iload_n dX0_canParty_34 rfl ?_
    refine po_i hF (fun hc hF => ?_) (fun hc hF => ?_)
    · refine pr_icF (tgt := 155) dX0_canParty_35 (by decide) (pc_geF hc) ?_
      refine pr_iload dX0_canParty_38 rfl ?_
      refine pr_iload_n dX0_canParty_40 rfl ?_
      refine po_i hF (fun hc hF => ?_) (fun hc hF => ?_)
      · refine pr_icT (tgt := 155) dX0_canParty_41 (by decide) (pc_gtT hc) ?_
        cases hF
        exact hk _ rfl _ rfl _ hw5 _ hw6
      · refine pr_icF (tgt := 155) dX0_canParty_41 (by decide) (pc_gtF hc) ?_
        refine pr_iconst (v := 1) dX0_canParty_44 (kc_1) ?_
        refine pr_istore (L' := [.ref x0, .int x1, .int x2, .int x3, .int x4, .int 1, w6]) dX0_canParty_45 rfl ?_
        refine pr_iconst (v := 0) dX0_canParty_47 (kc_0) ?_
        refine pr_istore (L' := [.ref x0, .int x1, .int x2, .int x3, .int x4, .int 1, .int 0]) dX0_canParty_48 rfl ?_
        obtain ⟨q11, hq11, hF⟩ := po_b hF
        refine ok_L_X0_canParty_50 hfS n hq11 rfl rfl (fun z6 hz6 => ?_)
        refine pr_aload_n dX0_canParty_115 rfl ?_
        obtain ⟨v12, hv12, hF⟩ := po_b hF
        refine pr_getR dX0_canParty_116 tf_0_83 (hv12) ?_
        refine pr_iload_n dX0_canParty_119 rfl ?_
        refine pr_iload dX0_canParty_120 rfl ?_
        obtain ⟨h13, hh13, hF⟩ := po_b hF
        refine pr_iast dX0_canParty_122 (hh13) ?_
        refine pr_iload dX0_canParty_123 rfl ?_
        refine po_i hF (fun hc hF => ?_) (fun hc hF => ?_)
        · refine pr_ifT (tgt := 149) dX0_canParty_125 (by decide) (pc_eqT hc) ?_
          refine pr_iinc (v := 1) (L' := [.ref x0, .int x1, .int x2, .int x3, .int (x4 + 1), .int q11, z6]) dX0_canParty_149 rfl (kc_1) rfl ?_
          refine pr_goto (tgt := 32) dX0_canParty_152 (by decide) ?_
          exact ih hF rfl hz6 hr hk
        · refine pr_ifF (tgt := 149) dX0_canParty_125 (by decide) (pc_eqF hc) ?_
          refine pr_aload_n dX0_canParty_128 rfl ?_
          refine pr_iload_n dX0_canParty_129 rfl ?_
          refine pr_iconst (v := 1) dX0_canParty_130 (kc_1) ?_
          refine pr_iadd dX0_canParty_131 ?_
          refine pr_iload_n dX0_canParty_132 rfl ?_
          refine pr_iload dX0_canParty_133 rfl ?_
          refine pr_iconst (v := 1) dX0_canParty_135 (kc_1) ?_
          refine pr_iadd dX0_canParty_136 ?_
          obtain ⟨q14, hq14, hF⟩ := po_b hF
          refine pr_S dX0_canParty_137 cs_0_7 (as := [.int x2, .int (x4 + 1)]) (rest := [.int (x1 + 1), .ref x0]) rfl rfl rfl (lb rfl) (lb rfl) (lb rfl) (ok_F_J2_max hq14) ?_
          refine pr_iload_n dX0_canParty_140 rfl ?_
          obtain ⟨q15, hq15, hF⟩ := po_b hF
          refine po_i hq15 (fun hcl hq => ?_) (fun _ hq => nomatch hq)
          refine pr_V (as := [.int (x1 + 1), .int q14, .int x3]) (rest := []) dX0_canParty_141 cv_0_232 hcl rfl rfl rfl rfl (lb rfl) (lb rfl) (lb rfl) (pm_E_up 0 (hfS hq)) ?_
          refine po_i hF (fun hc hF => ?_) (fun hc hF => ?_)
          · refine pr_ifT (tgt := 149) dX0_canParty_144 (by decide) (pc_eqT hc) ?_
            refine pr_iinc (v := 1) (L' := [.ref x0, .int x1, .int x2, .int x3, .int (x4 + 1), .int q11, z6]) dX0_canParty_149 rfl (kc_1) rfl ?_
            refine pr_goto (tgt := 32) dX0_canParty_152 (by decide) ?_
            exact ih hF rfl hz6 hr hk
          · refine pr_ifF (tgt := 149) dX0_canParty_144 (by decide) (pc_eqF hc) ?_
            refine pr_iconst (v := 1) dX0_canParty_147 (kc_1) ?_
            cases hF
            exact pr_iret dX0_canParty_148 rfl nb_1 (hr _ rfl)
    · refine pr_icT (tgt := 155) dX0_canParty_35 (by decide) (pc_geT hc) ?_
      cases hF
      exact hk _ rfl _ rfl _ hw5 _ hw6
def F_X0_canParty (fS : pm_H → Nat → Int32 → Int32 → Int32 → Option (Int32 × pm_H)) (n : Nat) (h : pm_H) (a0 : Nat) (x1 : Int32) (x2 : Int32) (x3 : Int32) : Option (Int32 × pm_H) :=
  if x1 = 16 then
    some (1, h)
  else
    (pm_fR [(0, 0)] h a0).bind fun v1 =>
    (if pm_cl_ h v1 = some 1 then F_X1_isTold h v1 x1 else none).bind fun q2 =>
    if q2 = 0 then
      (if pm_cl_ h a0 = some 0 then fS h a0 (x1 + 1) x2 x3 else none).bind fun q18 =>
      if q18.1 = 0 ∨ q18.1 = 1 then
        some (q18.1, q18.2)
      else none
    else
      (L_X0_canParty_32 fS n a0 x1 x2 x3 0 h).bind fun q16 => po_s q16 (fun r => some r) fun e17 =>
      some (0, e17)
theorem ok_F_X0_canParty {d n : Nat} {h : pm_H} {a0 : Nat} {x1 : Int32} {x2 : Int32} {x3 : Int32} {q : Int32 × pm_H} {fS : pm_H → Nat → Int32 → Int32 → Int32 → Option (Int32 × pm_H)} (hfS : ∀ {h : pm_H} {a : Nat} {p u m : Int32} {q : Int32 × pm_H}, fS h a p u m = some q → pm_E d 0 cX0_canParty (some .boolean) 0 (pm_en [.ref a, .int p, .int u, .int m] 7) [] h (some (.int q.1), q.2)) (hF : F_X0_canParty fS n h a0 x1 x2 x3 = some q) : pm_E (d + 1) 0 cX0_canParty (some .boolean) 0 [.ref a0, .int x1, .int x2, .int x3, pm_D, pm_D, pm_D] [] h (some (.int q.1), q.2) := by
  unfold F_X0_canParty at hF
  refine pr_iload_n dX0_canParty_0 rfl ?_
  refine pr_bipush (v := 16) dX0_canParty_1 (kb_16) ?_
  refine po_i hF (fun hc hF => ?_) (fun hc hF => ?_)
  · refine pr_icF (tgt := 8) dX0_canParty_3 (by decide) (pc_neF hc) ?_
    refine pr_iconst (v := 1) dX0_canParty_6 (kc_1) ?_
    cases hF
    exact pr_iret dX0_canParty_7 rfl nb_1 rfl
  · refine pr_icT (tgt := 8) dX0_canParty_3 (by decide) (pc_neT hc) ?_
    refine pr_aload_n dX0_canParty_8 rfl ?_
    obtain ⟨v1, hv1, hF⟩ := po_b hF
    refine pr_getR dX0_canParty_9 tf_0_16 (hv1) ?_
    refine pr_iload_n dX0_canParty_12 rfl ?_
    obtain ⟨q2, hq2, hF⟩ := po_b hF
    refine po_i hq2 (fun hcl hq => ?_) (fun _ hq => nomatch hq)
    refine pr_V (as := [.int x1]) (rest := []) dX0_canParty_13 cv_0_168 hcl rfl rfl rfl rfl (lb rfl) (lb rfl) (lb rfl) (ok_F_X1_isTold hq) ?_
    refine po_i hF (fun hc hF => ?_) (fun hc hF => ?_)
    · refine pr_ifF (tgt := 29) dX0_canParty_16 (by decide) (pc_neF hc) ?_
      refine pr_aload_n dX0_canParty_19 rfl ?_
      refine pr_iload_n dX0_canParty_20 rfl ?_
      refine pr_iconst (v := 1) dX0_canParty_21 (kc_1) ?_
      refine pr_iadd dX0_canParty_22 ?_
      refine pr_iload_n dX0_canParty_23 rfl ?_
      refine pr_iload_n dX0_canParty_24 rfl ?_
      obtain ⟨q18, hq18, hF⟩ := po_b hF
      refine po_i hq18 (fun hcl hq => ?_) (fun _ hq => nomatch hq)
      refine pr_V (as := [.int (x1 + 1), .int x2, .int x3]) (rest := []) dX0_canParty_25 cv_0_232 hcl rfl rfl rfl rfl (lb rfl) (lb rfl) (lb rfl) (pm_E_up 0 (hfS hq)) ?_
      refine po_i hF (fun hg hF => ?_) (fun _ hF => nomatch hF)
      cases hF
      exact pr_iret dX0_canParty_28 rfl (nb_of hg) rfl
    · refine pr_ifT (tgt := 29) dX0_canParty_16 (by decide) (pc_neT hc) ?_
      refine pr_iconst (v := 0) dX0_canParty_29 (kc_0) ?_
      refine pr_istore (L' := [.ref a0, .int x1, .int x2, .int x3, .int 0, pm_D, pm_D]) dX0_canParty_30 rfl ?_
      obtain ⟨q16, hq16, hF⟩ := po_b hF
      refine ok_L_X0_canParty_32 hfS n hq16 rfl rfl (fun r hq => ?_) (fun e17 hq z4 hz4 z5 hz5 z6 hz6 => ?_)
      · subst hq
        replace hF := po_sl hF
        cases hF
        exact rfl
      subst hq
      replace hF := po_sr hF
      refine pr_iconst (v := 0) dX0_canParty_155 (kc_0) ?_
      cases hF
      exact pr_iret dX0_canParty_156 rfl nb_0 rfl
def K_X0_canParty : Nat → Nat → pm_H → Nat → Int32 → Int32 → Int32 → Option (Int32 × pm_H)
  | 0, _, _, _, _, _, _ => none
  | k + 1, n, h, a, p, u, m => F_X0_canParty (K_X0_canParty k n) n h a p u m
theorem ok_K_X0_canParty_ {d n : Nat} : ∀ (k : Nat) {h : pm_H} {a : Nat} {p u m : Int32} {q : Int32 × pm_H}, K_X0_canParty k n h a p u m = some q → pm_E (d + 1 * k) 0 cX0_canParty (some .boolean) 0 (pm_en [.ref a, .int p, .int u, .int m] 7) [] h (some (.int q.1), q.2) := by
  intro k
  induction k with
  | zero => intro h a p u m q hF; rw [K_X0_canParty] at hF; cases hF
  | succ k ih =>
    intro h a p u m q hF
    rw [K_X0_canParty] at hF
    exact ok_F_X0_canParty (d := d + 1 * k) (fun e => ih e) hF
def G_X0_canParty (n : Nat) (h : pm_H) (a : Nat) (p : Int32) (u : Int32) (m : Int32) : Option (Int32 × pm_H) := K_X0_canParty 20 n h a p u m
theorem ok_G_X0_canParty {d n : Nat} {h : pm_H} {a : Nat} {p u m : Int32} {q : Int32 × pm_H} (hF : G_X0_canParty n h a p u m = some q) : pm_E (d + 20) 0 cX0_canParty (some .boolean) 0 [.ref a, .int p, .int u, .int m, pm_D, pm_D, pm_D] [] h (some (.int q.1), q.2) := ok_K_X0_canParty_ 20 hF

def L_X0_parties_21 : Nat → Nat → Int32 → pm_H → Option (Int32 × pm_H)
  | 0, _, _, _ => none
  | n + 1, x0, x2, h =>
    (if pm_cl_ h x0 = some 0 then G_X0_canParty n h x0 0 0 x2 else none).bind fun q1 =>
    if q1.1 = 0 then
      L_X0_parties_21 n x0 (x2 + 1) q1.2
    else
      some (x2, q1.2)
theorem ok_L_X0_parties_21 {d : Nat} : ∀ (n : Nat) {x0 : Nat} {x2 : Int32} {w1 : Value} {h : pm_H} {q : Int32 × pm_H} {res : Option Value × pm_H}, L_X0_parties_21 n x0 x2 h = some q → pm_nolong w1 = true → (pm_E (d + 21) 0 cX0_parties (some .int) 37 [.ref x0, w1, .int q.1] [] q.2 res) → pm_E (d + 21) 0 cX0_parties (some .int) 21 [.ref x0, w1, .int x2] [] h res := by
  intro n
  induction n with
  | zero =>
    intro x0 x2 w1 h q res hF hw1 hk
    rw [L_X0_parties_21] at hF
    cases hF
  | succ n ih =>
    intro x0 x2 w1 h q res hF hw1 hk
    rw [L_X0_parties_21] at hF
    refine pr_aload_n dX0_parties_21 rfl ?_
    refine pr_iconst (v := 0) dX0_parties_22 (kc_0) ?_
    refine pr_iconst (v := 0) dX0_parties_23 (kc_0) ?_
    refine pr_iload_n dX0_parties_24 rfl ?_
    obtain ⟨q1, hq1, hF⟩ := po_b hF
    refine po_i hq1 (fun hcl hq => ?_) (fun _ hq => nomatch hq)
    refine pr_V (as := [.int 0, .int 0, .int x2]) (rest := []) dX0_parties_25 cv_0_232 hcl rfl rfl rfl rfl (lb rfl) (lb rfl) (lb rfl) (ok_G_X0_canParty hq) ?_
    refine po_i hF (fun hc hF => ?_) (fun hc hF => ?_)
    · refine pr_ifF (tgt := 37) dX0_parties_28 (by decide) (pc_neF hc) ?_
      refine pr_iinc (v := 1) (L' := [.ref x0, w1, .int (x2 + 1)]) dX0_parties_31 rfl (kc_1) (pm_st_w (i := 1) rfl rfl hw1 rfl) ?_
      refine pr_goto (tgt := 21) dX0_parties_34 (by decide) ?_
      exact ih hF hw1 hk
    · refine pr_ifT (tgt := 37) dX0_parties_28 (by decide) (pc_neT hc) ?_
      cases hF
      exact hk
def F_X0_parties (n : Nat) (h : pm_H) (a0 : Nat) (x1 : Int32) : Option (Int32 × pm_H) :=
  if x1 = 100 then
    (L_X0_parties_21 n a0 0 h).bind fun q2 =>
    if x1 = 100 then
      some (q2.1, q2.2)
    else
      (pm_fR [(0, 11)] q2.2 a0).bind fun v3 =>
      (pm_ai 0 q2.2 v3 x1).bind fun v4 =>
      some (v4, q2.2)
  else
    (pm_fR [(0, 0)] h a0).bind fun v5 =>
    (if pm_cl_ h v5 = some 1 then F_X1_isTold h v5 x1 else none).bind fun q6 =>
    if q6 = 0 then
      some ((-1), h)
    else
      (L_X0_parties_21 n a0 0 h).bind fun q8 =>
      if x1 = 100 then
        some (q8.1, q8.2)
      else
        (pm_fR [(0, 11)] q8.2 a0).bind fun v9 =>
        (pm_ai 0 q8.2 v9 x1).bind fun v10 =>
        some (v10, q8.2)
theorem ok_F_X0_parties {d n : Nat} {h : pm_H} {a0 : Nat} {x1 : Int32} {q : Int32 × pm_H} (hF : F_X0_parties n h a0 x1 = some q) : pm_E (d + 21) 0 cX0_parties (some .int) 0 [.ref a0, .int x1, pm_D] [] h (some (.int q.1), q.2) := by
  unfold F_X0_parties at hF
  refine pr_iload_n dX0_parties_0 rfl ?_
  refine pr_bipush (v := 100) dX0_parties_1 (kb_100) ?_
  refine po_i hF (fun hc hF => ?_) (fun hc hF => ?_)
  · refine pr_icT (tgt := 19) dX0_parties_3 (by decide) (pc_eqT hc) ?_
    refine pr_iconst (v := 0) dX0_parties_19 (kc_0) ?_
    refine pr_istore_n (L' := [.ref a0, .int x1, .int 0]) dX0_parties_20 rfl ?_
    obtain ⟨q2, hq2, hF⟩ := po_b hF
    refine ok_L_X0_parties_21 n hq2 rfl ?_
    refine pr_iload_n dX0_parties_37 rfl ?_
    refine pr_bipush (v := 100) dX0_parties_38 (kb_100) ?_
    refine po_i hF (fun hc hF => ?_) (fun hc hF => ?_)
    · refine pr_icF (tgt := 47) dX0_parties_40 (by decide) (pc_neF hc) ?_
      refine pr_iload_n dX0_parties_43 rfl ?_
      refine pr_goto (tgt := 53) dX0_parties_44 (by decide) ?_
      cases hF
      exact pr_iret dX0_parties_53 rfl rfl rfl
    · refine pr_icT (tgt := 47) dX0_parties_40 (by decide) (pc_neT hc) ?_
      refine pr_aload_n dX0_parties_47 rfl ?_
      obtain ⟨v3, hv3, hF⟩ := po_b hF
      refine pr_getR dX0_parties_48 tf_0_83 (hv3) ?_
      refine pr_iload_n dX0_parties_51 rfl ?_
      obtain ⟨v4, hv4, hF⟩ := po_b hF
      refine pr_iald dX0_parties_52 (hv4) ?_
      cases hF
      exact pr_iret dX0_parties_53 rfl rfl rfl
  · refine pr_icF (tgt := 19) dX0_parties_3 (by decide) (pc_eqF hc) ?_
    refine pr_aload_n dX0_parties_6 rfl ?_
    obtain ⟨v5, hv5, hF⟩ := po_b hF
    refine pr_getR dX0_parties_7 tf_0_16 (hv5) ?_
    refine pr_iload_n dX0_parties_10 rfl ?_
    obtain ⟨q6, hq6, hF⟩ := po_b hF
    refine po_i hq6 (fun hcl hq => ?_) (fun _ hq => nomatch hq)
    refine pr_V (as := [.int x1]) (rest := []) dX0_parties_11 cv_0_168 hcl rfl rfl rfl rfl (lb rfl) (lb rfl) (lb rfl) (ok_F_X1_isTold hq) ?_
    refine po_i hF (fun hc hF => ?_) (fun hc hF => ?_)
    · refine pr_ifF (tgt := 19) dX0_parties_14 (by decide) (pc_neF hc) ?_
      refine pr_iconst (v := (-1)) dX0_parties_17 (kc_m1) ?_
      cases hF
      exact pr_iret dX0_parties_18 rfl rfl rfl
    · refine pr_ifT (tgt := 19) dX0_parties_14 (by decide) (pc_neT hc) ?_
      refine pr_iconst (v := 0) dX0_parties_19 (kc_0) ?_
      refine pr_istore_n (L' := [.ref a0, .int x1, .int 0]) dX0_parties_20 rfl ?_
      obtain ⟨q8, hq8, hF⟩ := po_b hF
      refine ok_L_X0_parties_21 n hq8 rfl ?_
      refine pr_iload_n dX0_parties_37 rfl ?_
      refine pr_bipush (v := 100) dX0_parties_38 (kb_100) ?_
      refine po_i hF (fun hc hF => ?_) (fun hc hF => ?_)
      · refine pr_icF (tgt := 47) dX0_parties_40 (by decide) (pc_neF hc) ?_
        refine pr_iload_n dX0_parties_43 rfl ?_
        refine pr_goto (tgt := 53) dX0_parties_44 (by decide) ?_
        cases hF
        exact pr_iret dX0_parties_53 rfl rfl rfl
      · refine pr_icT (tgt := 47) dX0_parties_40 (by decide) (pc_neT hc) ?_
        refine pr_aload_n dX0_parties_47 rfl ?_
        obtain ⟨v9, hv9, hF⟩ := po_b hF
        refine pr_getR dX0_parties_48 tf_0_83 (hv9) ?_
        refine pr_iload_n dX0_parties_51 rfl ?_
        obtain ⟨v10, hv10, hF⟩ := po_b hF
        refine pr_iald dX0_parties_52 (hv10) ?_
        cases hF
        exact pr_iret dX0_parties_53 rfl rfl rfl

def L_X0_groups_4 : Nat → Nat → Int32 → Int32 → pm_H → Option (Int32)
  | 0, _, _, _, _ => none
  | n + 1, x0, x1, x2, h =>
    if x2 < 16 then
      (pm_fR [(0, 0)] h x0).bind fun v1 =>
      (if pm_cl_ h v1 = some 1 then F_X1_isTold h v1 x2 else none).bind fun q2 =>
      if q2 = 0 then
        L_X0_groups_4 n x0 (x1 + 0) (x2 + 1) h
      else
        (pm_fR [(0, 0)] h x0).bind fun v3 =>
        (F_X0_groupOf n h v3 x2).bind fun q4 =>
        (F_X0_lowest q4).bind fun q5 =>
        if q5 = x2 then
          L_X0_groups_4 n x0 (x1 + 1) (x2 + 1) h
        else
          L_X0_groups_4 n x0 (x1 + 0) (x2 + 1) h
    else
      some x1
theorem ok_L_X0_groups_4 {d : Nat} : ∀ (n : Nat) {x0 : Nat} {x1 : Int32} {x2 : Int32} {h : pm_H} {q : Int32} {res : Option Value × pm_H}, L_X0_groups_4 n x0 x1 x2 h = some q → (∀ z2 : Value, pm_nolong z2 = true → pm_E (d + 2) 0 cX0_groups (some .int) 50 [.ref x0, .int q, z2] [] h res) → pm_E (d + 2) 0 cX0_groups (some .int) 4 [.ref x0, .int x1, .int x2] [] h res := by
  intro n
  induction n with
  | zero =>
    intro x0 x1 x2 h q res hF hk
    rw [L_X0_groups_4] at hF
    cases hF
  | succ n ih =>
    intro x0 x1 x2 h q res hF hk
    rw [L_X0_groups_4] at hF
    refine pr_iload_n dX0_groups_4 rfl ?_
    refine pr_bipush (v := 16) dX0_groups_5 (kb_16) ?_
    refine po_i hF (fun hc hF => ?_) (fun hc hF => ?_)
    · refine pr_icF (tgt := 50) dX0_groups_7 (by decide) (pc_geF hc) ?_
      refine pr_iload_n dX0_groups_10 rfl ?_
      refine pr_aload_n dX0_groups_11 rfl ?_
      obtain ⟨v1, hv1, hF⟩ := po_b hF
      refine pr_getR dX0_groups_12 tf_0_16 (hv1) ?_
      refine pr_iload_n dX0_groups_15 rfl ?_
      obtain ⟨q2, hq2, hF⟩ := po_b hF
      refine po_i hq2 (fun hcl hq => ?_) (fun _ hq => nomatch hq)
      refine pr_V (as := [.int x2]) (rest := [.int x1]) dX0_groups_16 cv_0_168 hcl rfl rfl rfl rfl (lb rfl) (lb rfl) (lb rfl) (ok_F_X1_isTold hq) ?_
      refine po_i hF (fun hc hF => ?_) (fun hc hF => ?_)
      · refine pr_ifT (tgt := 41) dX0_groups_19 (by decide) (pc_eqT hc) ?_
        refine pr_iconst (v := 0) dX0_groups_41 (kc_0) ?_
        refine pr_iadd dX0_groups_42 ?_
        refine pr_istore_n (L' := [.ref x0, .int (x1 + 0), .int x2]) dX0_groups_43 rfl ?_
        refine pr_iinc (v := 1) (L' := [.ref x0, .int (x1 + 0), .int (x2 + 1)]) dX0_groups_44 rfl (kc_1) rfl ?_
        refine pr_goto (tgt := 4) dX0_groups_47 (by decide) ?_
        exact ih hF hk
      · refine pr_ifF (tgt := 41) dX0_groups_19 (by decide) (pc_eqF hc) ?_
        refine pr_aload_n dX0_groups_22 rfl ?_
        obtain ⟨v3, hv3, hF⟩ := po_b hF
        refine pr_getR dX0_groups_23 tf_0_16 (hv3) ?_
        refine pr_iload_n dX0_groups_26 rfl ?_
        obtain ⟨q4, hq4, hF⟩ := po_b hF
        refine pr_S dX0_groups_27 cs_0_203 (as := [.ref v3, .int x2]) (rest := [.int x1]) rfl rfl rfl (lb rfl) (lb rfl) (lb rfl) (ok_F_X0_groupOf hq4) ?_
        obtain ⟨q5, hq5, hF⟩ := po_b hF
        refine pr_S dX0_groups_30 cs_0_207 (as := [.int q4]) (rest := [.int x1]) rfl rfl rfl (lb rfl) (lb rfl) (lb rfl) (ok_F_X0_lowest hq5) ?_
        refine pr_iload_n dX0_groups_33 rfl ?_
        refine po_i hF (fun hc hF => ?_) (fun hc hF => ?_)
        · refine pr_icF (tgt := 41) dX0_groups_34 (by decide) (pc_neF hc) ?_
          refine pr_iconst (v := 1) dX0_groups_37 (kc_1) ?_
          refine pr_goto (tgt := 42) dX0_groups_38 (by decide) ?_
          refine pr_iadd dX0_groups_42 ?_
          refine pr_istore_n (L' := [.ref x0, .int (x1 + 1), .int x2]) dX0_groups_43 rfl ?_
          refine pr_iinc (v := 1) (L' := [.ref x0, .int (x1 + 1), .int (x2 + 1)]) dX0_groups_44 rfl (kc_1) rfl ?_
          refine pr_goto (tgt := 4) dX0_groups_47 (by decide) ?_
          exact ih hF hk
        · refine pr_icT (tgt := 41) dX0_groups_34 (by decide) (pc_neT hc) ?_
          refine pr_iconst (v := 0) dX0_groups_41 (kc_0) ?_
          refine pr_iadd dX0_groups_42 ?_
          refine pr_istore_n (L' := [.ref x0, .int (x1 + 0), .int x2]) dX0_groups_43 rfl ?_
          refine pr_iinc (v := 1) (L' := [.ref x0, .int (x1 + 0), .int (x2 + 1)]) dX0_groups_44 rfl (kc_1) rfl ?_
          refine pr_goto (tgt := 4) dX0_groups_47 (by decide) ?_
          exact ih hF hk
    · refine pr_icT (tgt := 50) dX0_groups_7 (by decide) (pc_geT hc) ?_
      cases hF
      exact hk _ rfl
def F_X0_groups (n : Nat) (h : pm_H) (a0 : Nat) : Option (Int32) :=
  (L_X0_groups_4 n a0 0 0 h).bind fun q6 =>
  some q6
theorem ok_F_X0_groups {d n : Nat} {h : pm_H} {a0 : Nat} {q : Int32} (hF : F_X0_groups n h a0 = some q) : pm_E (d + 2) 0 cX0_groups (some .int) 0 [.ref a0, pm_D, pm_D] [] h (some (.int q), h) := by
  unfold F_X0_groups at hF
  refine pr_iconst (v := 0) dX0_groups_0 (kc_0) ?_
  refine pr_istore_n (L' := [.ref a0, .int 0, pm_D]) dX0_groups_1 rfl ?_
  refine pr_iconst (v := 0) dX0_groups_2 (kc_0) ?_
  refine pr_istore_n (L' := [.ref a0, .int 0, .int 0]) dX0_groups_3 rfl ?_
  obtain ⟨q6, hq6, hF⟩ := po_b hF
  refine ok_L_X0_groups_4 n hq6 (fun z2 hz2 => ?_)
  refine pr_iload_n dX0_groups_50 rfl ?_
  cases hF
  exact pr_iret dX0_groups_51 rfl rfl rfl

def L_X0_mended_37 : Nat → Nat → Int32 → Int32 → pm_H → Option ((Int32) ⊕ (Unit))
  | 0, _, _, _, _ => none
  | n + 1, x0, x2, x3, h =>
    if x3 < 16 then
      (pm_fR [(0, 0)] h x0).bind fun v2 =>
      (if pm_cl_ h v2 = some 1 then F_X1_isTold h v2 x2 else none).bind fun q3 =>
      if q3 = 0 then
        L_X0_mended_37 n x0 x2 (x3 + 1) h
      else
        (pm_fR [(0, 0)] h x0).bind fun v4 =>
        (pm_fR [(1, 1)] h v4).bind fun v5 =>
        (pm_ai 0 h v5 x2).bind fun v6 =>
        (F_X0_has v6 x3).bind fun q7 =>
        if q7 = 0 then
          L_X0_mended_37 n x0 x2 (x3 + 1) h
        else
          (pm_fR [(0, 0)] h x0).bind fun v8 =>
          (F_X0_groupOf n h v8 x2).bind fun q9 =>
          (F_X0_has q9 x3).bind fun q10 =>
          if q10 = 0 then
            some (.inl ((16 * x2) + x3))
          else
            L_X0_mended_37 n x0 x2 (x3 + 1) h
    else
      some (.inr ())
theorem ok_L_X0_mended_37 {d : Nat} : ∀ (n : Nat) {x0 : Nat} {x2 : Int32} {x3 : Int32} {w1 : Value} {h : pm_H} {q : (Int32) ⊕ (Unit)} {res : Option Value × pm_H}, L_X0_mended_37 n x0 x2 x3 h = some q → pm_nolong w1 = true → (∀ r, q = .inl r → res = (some (.int r), h)) → (∀ e, q = .inr e → ∀ z3 : Value, pm_nolong z3 = true → pm_E (d + 3) 0 cX0_mended (some .int) 98 [.ref x0, w1, .int x2, z3] [] h res) → pm_E (d + 3) 0 cX0_mended (some .int) 37 [.ref x0, w1, .int x2, .int x3] [] h res := by
  intro n
  induction n with
  | zero =>
    intro x0 x2 x3 w1 h q res hF hw1 hr hk
    rw [L_X0_mended_37] at hF
    cases hF
  | succ n ih =>
    intro x0 x2 x3 w1 h q res hF hw1 hr hk
    rw [L_X0_mended_37] at hF
    refine pr_iload_n dX0_mended_37 rfl ?_
    refine pr_bipush (v := 16) dX0_mended_38 (kb_16) ?_
    refine po_i hF (fun hc hF => ?_) (fun hc hF => ?_)
    · refine pr_icF (tgt := 98) dX0_mended_40 (by decide) (pc_geF hc) ?_
      refine pr_aload_n dX0_mended_43 rfl ?_
      obtain ⟨v2, hv2, hF⟩ := po_b hF
      refine pr_getR dX0_mended_44 tf_0_16 (hv2) ?_
      refine pr_iload_n dX0_mended_47 rfl ?_
      obtain ⟨q3, hq3, hF⟩ := po_b hF
      refine po_i hq3 (fun hcl hq => ?_) (fun _ hq => nomatch hq)
      refine pr_V (as := [.int x2]) (rest := []) dX0_mended_48 cv_0_168 hcl rfl rfl rfl rfl (lb rfl) (lb rfl) (lb rfl) (ok_F_X1_isTold hq) ?_
      refine po_i hF (fun hc hF => ?_) (fun hc hF => ?_)
      · refine pr_ifT (tgt := 92) dX0_mended_51 (by decide) (pc_eqT hc) ?_
        refine pr_iinc (v := 1) (L' := [.ref x0, w1, .int x2, .int (x3 + 1)]) dX0_mended_92 rfl (kc_1) rfl ?_
        refine pr_goto (tgt := 37) dX0_mended_95 (by decide) ?_
        exact ih hF hw1 hr hk
      · refine pr_ifF (tgt := 92) dX0_mended_51 (by decide) (pc_eqF hc) ?_
        refine pr_aload_n dX0_mended_54 rfl ?_
        obtain ⟨v4, hv4, hF⟩ := po_b hF
        refine pr_getR dX0_mended_55 tf_0_16 (hv4) ?_
        obtain ⟨v5, hv5, hF⟩ := po_b hF
        refine pr_getR dX0_mended_58 tf_0_194 (hv5) ?_
        refine pr_iload_n dX0_mended_61 rfl ?_
        obtain ⟨v6, hv6, hF⟩ := po_b hF
        refine pr_iald dX0_mended_62 (hv6) ?_
        refine pr_iload_n dX0_mended_63 rfl ?_
        obtain ⟨q7, hq7, hF⟩ := po_b hF
        refine pr_S dX0_mended_64 cs_0_191 (as := [.int v6, .int x3]) (rest := []) rfl rfl rfl (lb rfl) (lb rfl) (lb rfl) (ok_F_X0_has hq7) ?_
        refine po_i hF (fun hc hF => ?_) (fun hc hF => ?_)
        · refine pr_ifT (tgt := 92) dX0_mended_67 (by decide) (pc_eqT hc) ?_
          refine pr_iinc (v := 1) (L' := [.ref x0, w1, .int x2, .int (x3 + 1)]) dX0_mended_92 rfl (kc_1) rfl ?_
          refine pr_goto (tgt := 37) dX0_mended_95 (by decide) ?_
          exact ih hF hw1 hr hk
        · refine pr_ifF (tgt := 92) dX0_mended_67 (by decide) (pc_eqF hc) ?_
          refine pr_aload_n dX0_mended_70 rfl ?_
          obtain ⟨v8, hv8, hF⟩ := po_b hF
          refine pr_getR dX0_mended_71 tf_0_16 (hv8) ?_
          refine pr_iload_n dX0_mended_74 rfl ?_
          obtain ⟨q9, hq9, hF⟩ := po_b hF
          refine pr_S dX0_mended_75 cs_0_203 (as := [.ref v8, .int x2]) (rest := []) rfl rfl rfl (lb rfl) (lb rfl) (lb rfl) (ok_F_X0_groupOf hq9) ?_
          refine pr_iload_n dX0_mended_78 rfl ?_
          obtain ⟨q10, hq10, hF⟩ := po_b hF
          refine pr_S dX0_mended_79 cs_0_191 (as := [.int q9, .int x3]) (rest := []) rfl rfl rfl (lb rfl) (lb rfl) (lb rfl) (ok_F_X0_has hq10) ?_
          refine po_i hF (fun hc hF => ?_) (fun hc hF => ?_)
          · refine pr_ifF (tgt := 92) dX0_mended_82 (by decide) (pc_neF hc) ?_
            refine pr_bipush (v := 16) dX0_mended_85 (kb_16) ?_
            refine pr_iload_n dX0_mended_87 rfl ?_
            refine pr_imul dX0_mended_88 ?_
            refine pr_iload_n dX0_mended_89 rfl ?_
            refine pr_iadd dX0_mended_90 ?_
            cases hF
            exact pr_iret dX0_mended_91 rfl rfl (hr _ rfl)
          · refine pr_ifT (tgt := 92) dX0_mended_82 (by decide) (pc_neT hc) ?_
            refine pr_iinc (v := 1) (L' := [.ref x0, w1, .int x2, .int (x3 + 1)]) dX0_mended_92 rfl (kc_1) rfl ?_
            refine pr_goto (tgt := 37) dX0_mended_95 (by decide) ?_
            exact ih hF hw1 hr hk
    · refine pr_icT (tgt := 98) dX0_mended_40 (by decide) (pc_geT hc) ?_
      cases hF
      exact hk _ rfl _ rfl
def L_X0_mended_27 : Nat → Nat → Int32 → pm_H → Option ((Int32) ⊕ (Unit))
  | 0, _, _, _ => none
  | n + 1, x0, x2, h =>
    if x2 < 16 then
      (L_X0_mended_37 n x0 x2 (x2 + 1) h).bind fun q11 => po_s q11 (fun r => some (.inl r)) fun e12 =>
      L_X0_mended_27 n x0 (x2 + 1) h
    else
      some (.inr ())
theorem ok_L_X0_mended_27 {d : Nat} : ∀ (n : Nat) {x0 : Nat} {x2 : Int32} {w1 w3 : Value} {h : pm_H} {q : (Int32) ⊕ (Unit)} {res : Option Value × pm_H}, L_X0_mended_27 n x0 x2 h = some q → pm_nolong w1 = true → pm_nolong w3 = true → (∀ r, q = .inl r → res = (some (.int r), h)) → (∀ e, q = .inr e → ∀ z2 : Value, pm_nolong z2 = true → ∀ z3 : Value, pm_nolong z3 = true → pm_E (d + 3) 0 cX0_mended (some .int) 104 [.ref x0, w1, z2, z3] [] h res) → pm_E (d + 3) 0 cX0_mended (some .int) 27 [.ref x0, w1, .int x2, w3] [] h res := by
  intro n
  induction n with
  | zero =>
    intro x0 x2 w1 w3 h q res hF hw1 hw3 hr hk
    rw [L_X0_mended_27] at hF
    cases hF
  | succ n ih =>
    intro x0 x2 w1 w3 h q res hF hw1 hw3 hr hk
    rw [L_X0_mended_27] at hF
    refine pr_iload_n dX0_mended_27 rfl ?_
    refine pr_bipush (v := 16) dX0_mended_28 (kb_16) ?_
    refine po_i hF (fun hc hF => ?_) (fun hc hF => ?_)
    · refine pr_icF (tgt := 104) dX0_mended_30 (by decide) (pc_geF hc) ?_
      refine pr_iload_n dX0_mended_33 rfl ?_
      refine pr_iconst (v := 1) dX0_mended_34 (kc_1) ?_
      refine pr_iadd dX0_mended_35 ?_
      refine pr_istore_n (L' := [.ref x0, w1, .int x2, .int (x2 + 1)]) dX0_mended_36 rfl ?_
      obtain ⟨q11, hq11, hF⟩ := po_b hF
      refine ok_L_X0_mended_37 n hq11 hw1 (fun r hq => ?_) (fun e12 hq z3 hz3 => ?_)
      · subst hq
        replace hF := po_sl hF
        cases hF
        exact (hr _ rfl)
      subst hq
      replace hF := po_sr hF
      refine pr_iinc (v := 1) (L' := [.ref x0, w1, .int (x2 + 1), z3]) dX0_mended_98 rfl (kc_1) (pm_st_w (i := 1) rfl rfl hw1 rfl) ?_
      refine pr_goto (tgt := 27) dX0_mended_101 (by decide) ?_
      exact ih hF hw1 hz3 hr hk
    · refine pr_icT (tgt := 104) dX0_mended_30 (by decide) (pc_geT hc) ?_
      cases hF
      exact hk _ rfl _ rfl _ hw3
def F_X0_mended (n : Nat) (h : pm_H) (a0 : Nat) (x1 : Int32) : Option (Int32) :=
  (F_X0_in x1 2).bind fun q1 =>
  if q1 = 0 then
    some (-1)
  else
  if x1 = 0 then
    (if pm_cl_ h a0 = some 0 then F_X0_groups n h a0 else none).bind fun q15 =>
    (F_J2_max 0 (q15 - 1)).bind fun q16 =>
    some q16
  else
    (L_X0_mended_27 n a0 0 h).bind fun q13 => po_s q13 (fun r => some r) fun e14 =>
    some (-2)
theorem ok_F_X0_mended {d n : Nat} {h : pm_H} {a0 : Nat} {x1 : Int32} {q : Int32} (hF : F_X0_mended n h a0 x1 = some q) : pm_E (d + 3) 0 cX0_mended (some .int) 0 [.ref a0, .int x1, pm_D, pm_D] [] h (some (.int q), h) := by
  unfold F_X0_mended at hF
  refine pr_iload_n dX0_mended_0 rfl ?_
  refine pr_iconst (v := 2) dX0_mended_1 (kc_2) ?_
  obtain ⟨q1, hq1, hF⟩ := po_b hF
  refine pr_S dX0_mended_2 cs_0_144 (as := [.int x1, .int 2]) (rest := []) rfl rfl rfl (lb rfl) (lb rfl) (lb rfl) (ok_F_X0_in hq1) ?_
  refine po_i hF (fun hc hF => ?_) (fun hc hF => ?_)
  · refine pr_ifF (tgt := 10) dX0_mended_5 (by decide) (pc_neF hc) ?_
    refine pr_iconst (v := (-1)) dX0_mended_8 (kc_m1) ?_
    cases hF
    exact pr_iret dX0_mended_9 rfl rfl rfl
  · refine pr_ifT (tgt := 10) dX0_mended_5 (by decide) (pc_neT hc) ?_
    refine pr_iload_n dX0_mended_10 rfl ?_
    refine po_i hF (fun hc hF => ?_) (fun hc hF => ?_)
    · refine pr_ifF (tgt := 25) dX0_mended_11 (by decide) (pc_neF hc) ?_
      refine pr_iconst (v := 0) dX0_mended_14 (kc_0) ?_
      refine pr_aload_n dX0_mended_15 rfl ?_
      obtain ⟨q15, hq15, hF⟩ := po_b hF
      refine po_i hq15 (fun hcl hq => ?_) (fun _ hq => nomatch hq)
      refine pr_V (as := []) (rest := [.int 0]) dX0_mended_16 cv_0_235 hcl rfl rfl rfl rfl (lb rfl) (lb rfl) (lb rfl) (ok_F_X0_groups hq) ?_
      refine pr_iconst (v := 1) dX0_mended_19 (kc_1) ?_
      refine pr_isub dX0_mended_20 ?_
      obtain ⟨q16, hq16, hF⟩ := po_b hF
      refine pr_S dX0_mended_21 cs_0_7 (as := [.int 0, .int (q15 - 1)]) (rest := []) rfl rfl rfl (lb rfl) (lb rfl) (lb rfl) (ok_F_J2_max hq16) ?_
      cases hF
      exact pr_iret dX0_mended_24 rfl rfl rfl
    · refine pr_ifT (tgt := 25) dX0_mended_11 (by decide) (pc_neT hc) ?_
      refine pr_iconst (v := 0) dX0_mended_25 (kc_0) ?_
      refine pr_istore_n (L' := [.ref a0, .int x1, .int 0, pm_D]) dX0_mended_26 rfl ?_
      obtain ⟨q13, hq13, hF⟩ := po_b hF
      refine ok_L_X0_mended_27 n hq13 rfl rfl (fun r hq => ?_) (fun e14 hq z2 hz2 z3 hz3 => ?_)
      · subst hq
        replace hF := po_sl hF
        cases hF
        exact rfl
      subst hq
      replace hF := po_sr hF
      refine pr_bipush (v := (-2)) dX0_mended_104 (kb_m2) ?_
      cases hF
      exact pr_iret dX0_mended_106 rfl rfl rfl

def L_X0_longest_61 : Nat → Nat → Int32 → Int32 → pm_H → Option (pm_H)
  | 0, _, _, _, _ => none
  | n + 1, x0, x3, x4, h =>
    if x4 < 16 then
      (pm_fR [(0, 0)] h x0).bind fun v10 =>
      (pm_fI [(1, 2)] h v10).bind fun v11 =>
      (F_X0_has (x3 &&& v11) x4).bind fun q12 =>
      if q12 = 0 then
        L_X0_longest_61 n x0 x3 (x4 + 1) h
      else
        (pm_fR [(0, 12)] h x0).bind fun v13 =>
        (pm_ai 0 h v13 (x3 &&& ((pm_shl 1 x4) ^^^ (-1)))).bind fun v14 =>
        (pm_fR [(0, 0)] h x0).bind fun v15 =>
        (if pm_cl_ h v15 = some 1 then F_X1_friends h v15 x4 else none).bind fun q16 =>
        if (v14 &&& q16) = 0 then
          L_X0_longest_61 n x0 x3 (x4 + 1) h
        else
          (pm_fR [(0, 12)] h x0).bind fun v17 =>
          (pm_ai 0 h v17 x3).bind fun v18 =>
          (pm_si 0 h v17 x3 (v18 ||| (pm_shl 1 x4))).bind fun h19 =>
          L_X0_longest_61 n x0 x3 (x4 + 1) h19
    else
      some h
theorem ok_L_X0_longest_61 {d : Nat} : ∀ (n : Nat) {x0 : Nat} {x3 : Int32} {x4 : Int32} {w1 w2 : Value} {h : pm_H} {q : pm_H} {res : Option Value × pm_H}, L_X0_longest_61 n x0 x3 x4 h = some q → pm_nolong w1 = true → pm_nolong w2 = true → (∀ z4 : Value, pm_nolong z4 = true → pm_E (d + 2) 0 cX0_longest (some .int) 130 [.ref x0, w1, w2, .int x3, z4] [] q res) → pm_E (d + 2) 0 cX0_longest (some .int) 61 [.ref x0, w1, w2, .int x3, .int x4] [] h res := by
  intro n
  induction n with
  | zero =>
    intro x0 x3 x4 w1 w2 h q res hF hw1 hw2 hk
    rw [L_X0_longest_61] at hF
    cases hF
  | succ n ih =>
    intro x0 x3 x4 w1 w2 h q res hF hw1 hw2 hk
    rw [L_X0_longest_61] at hF
    refine pr_iload dX0_longest_61 rfl ?_
    refine pr_bipush (v := 16) dX0_longest_63 (kb_16) ?_
    refine po_i hF (fun hc hF => ?_) (fun hc hF => ?_)
    · refine pr_icF (tgt := 130) dX0_longest_65 (by decide) (pc_geF hc) ?_
      refine pr_iload_n dX0_longest_68 rfl ?_
      refine pr_aload_n dX0_longest_69 rfl ?_
      obtain ⟨v10, hv10, hF⟩ := po_b hF
      refine pr_getR dX0_longest_70 tf_0_16 (hv10) ?_
      obtain ⟨v11, hv11, hF⟩ := po_b hF
      refine pr_getI dX0_longest_73 tf_0_22 (hv11) ?_
      refine pr_iand dX0_longest_76 ?_
      refine pr_iload dX0_longest_77 rfl ?_
      obtain ⟨q12, hq12, hF⟩ := po_b hF
      refine pr_S dX0_longest_79 cs_0_191 (as := [.int (x3 &&& v11), .int x4]) (rest := []) rfl rfl rfl (lb rfl) (lb rfl) (lb rfl) (ok_F_X0_has hq12) ?_
      refine po_i hF (fun hc hF => ?_) (fun hc hF => ?_)
      · refine pr_ifT (tgt := 124) dX0_longest_82 (by decide) (pc_eqT hc) ?_
        refine pr_iinc (v := 1) (L' := [.ref x0, w1, w2, .int x3, .int (x4 + 1)]) dX0_longest_124 rfl (kc_1) rfl ?_
        refine pr_goto (tgt := 61) dX0_longest_127 (by decide) ?_
        exact ih hF hw1 hw2 hk
      · refine pr_ifF (tgt := 124) dX0_longest_82 (by decide) (pc_eqF hc) ?_
        refine pr_aload_n dX0_longest_85 rfl ?_
        obtain ⟨v13, hv13, hF⟩ := po_b hF
        refine pr_getR dX0_longest_86 tf_0_87 (hv13) ?_
        refine pr_iload_n dX0_longest_89 rfl ?_
        refine pr_iconst (v := 1) dX0_longest_90 (kc_1) ?_
        refine pr_iload dX0_longest_91 rfl ?_
        refine pr_ishl dX0_longest_93 ?_
        refine pr_iconst (v := (-1)) dX0_longest_94 (kc_m1) ?_
        refine pr_ixor dX0_longest_95 ?_
        refine pr_iand dX0_longest_96 ?_
        obtain ⟨v14, hv14, hF⟩ := po_b hF
        refine pr_iald dX0_longest_97 (hv14) ?_
        refine pr_aload_n dX0_longest_98 rfl ?_
        obtain ⟨v15, hv15, hF⟩ := po_b hF
        refine pr_getR dX0_longest_99 tf_0_16 (hv15) ?_
        refine pr_iload dX0_longest_102 rfl ?_
        obtain ⟨q16, hq16, hF⟩ := po_b hF
        refine po_i hq16 (fun hcl hq => ?_) (fun _ hq => nomatch hq)
        refine pr_V (as := [.int x4]) (rest := [.int v14]) dX0_longest_104 cv_0_200 hcl rfl rfl rfl rfl (lb rfl) (lb rfl) (lb rfl) (ok_F_X1_friends hq) ?_
        refine pr_iand dX0_longest_107 ?_
        refine po_i hF (fun hc hF => ?_) (fun hc hF => ?_)
        · refine pr_ifT (tgt := 124) dX0_longest_108 (by decide) (pc_eqT hc) ?_
          refine pr_iinc (v := 1) (L' := [.ref x0, w1, w2, .int x3, .int (x4 + 1)]) dX0_longest_124 rfl (kc_1) rfl ?_
          refine pr_goto (tgt := 61) dX0_longest_127 (by decide) ?_
          exact ih hF hw1 hw2 hk
        · refine pr_ifF (tgt := 124) dX0_longest_108 (by decide) (pc_eqF hc) ?_
          refine pr_aload_n dX0_longest_111 rfl ?_
          obtain ⟨v17, hv17, hF⟩ := po_b hF
          refine pr_getR dX0_longest_112 tf_0_87 (hv17) ?_
          refine pr_iload_n dX0_longest_115 rfl ?_
          refine pr_dup2 dX0_longest_116 rfl rfl ?_
          obtain ⟨v18, hv18, hF⟩ := po_b hF
          refine pr_iald dX0_longest_117 (hv18) ?_
          refine pr_iconst (v := 1) dX0_longest_118 (kc_1) ?_
          refine pr_iload dX0_longest_119 rfl ?_
          refine pr_ishl dX0_longest_121 ?_
          refine pr_ior dX0_longest_122 ?_
          obtain ⟨h19, hh19, hF⟩ := po_b hF
          refine pr_iast dX0_longest_123 (hh19) ?_
          refine pr_iinc (v := 1) (L' := [.ref x0, w1, w2, .int x3, .int (x4 + 1)]) dX0_longest_124 rfl (kc_1) rfl ?_
          refine pr_goto (tgt := 61) dX0_longest_127 (by decide) ?_
          exact ih hF hw1 hw2 hk
    · refine pr_icT (tgt := 130) dX0_longest_65 (by decide) (pc_geT hc) ?_
      cases hF
      exact hk _ rfl
def L_X0_longest_14 : Nat → Nat → Int32 → Int32 → pm_H → Option (Int32 × pm_H)
  | 0, _, _, _, _ => none
  | n + 1, x0, x2, x3, h =>
    (pm_fR [(0, 0)] h x0).bind fun v2 =>
    (pm_fI [(1, 2)] h v2).bind fun v3 =>
    if v3 < x3 then
      some (x2, h)
    else
      (pm_fR [(0, 12)] h x0).bind fun v4 =>
      (F_J6_bitCount x3).bind fun q5 =>
      ((
        if q5 = 1 then
          (pm_fR [(0, 0)] h x0).bind fun v6 =>
          (pm_fI [(1, 2)] h v6).bind fun v7 =>
          if (x3 &&& (v7 ^^^ (-1))) = 0 then
            some x3
          else
            some 0
        else
          some 0
      ) : Option (Int32)).bind fun q8 =>
      (pm_si 0 h v4 x3 q8).bind fun h9 =>
      (L_X0_longest_61 n x0 x3 0 h9).bind fun q20 =>
      (pm_fR [(0, 12)] q20 x0).bind fun v21 =>
      (pm_ai 0 q20 v21 x3).bind fun v22 =>
      ((
        if v22 = 0 then
          some (-1)
        else
          (F_J6_bitCount x3).bind fun q23 =>
          (F_J6_bitCount x2).bind fun q24 =>
          some (q23 - q24)
      ) : Option (Int32)).bind fun q25 =>
      if 0 < q25 then
        L_X0_longest_14 n x0 x3 (x3 + 1) q20
      else
      if q25 = 0 then
        (pm_fR [(0, 12)] q20 x0).bind fun v26 =>
        (pm_ai 0 q20 v26 x3).bind fun v27 =>
        (F_X0_lowest v27).bind fun q28 =>
        (pm_fR [(0, 12)] q20 x0).bind fun v29 =>
        (pm_ai 0 q20 v29 x2).bind fun v30 =>
        (F_X0_lowest v30).bind fun q31 =>
        if q28 < q31 then
          L_X0_longest_14 n x0 x3 (x3 + 1) q20
        else
          L_X0_longest_14 n x0 x2 (x3 + 1) q20
      else
        L_X0_longest_14 n x0 x2 (x3 + 1) q20
theorem ok_L_X0_longest_14 {d : Nat} : ∀ (n : Nat) {x0 : Nat} {x2 : Int32} {x3 : Int32} {w1 w4 : Value} {h : pm_H} {q : Int32 × pm_H} {res : Option Value × pm_H}, L_X0_longest_14 n x0 x2 x3 h = some q → pm_nolong w1 = true → pm_nolong w4 = true → (∀ z3 : Value, pm_nolong z3 = true → ∀ z4 : Value, pm_nolong z4 = true → pm_E (d + 2) 0 cX0_longest (some .int) 193 [.ref x0, w1, .int q.1, z3, z4] [] q.2 res) → pm_E (d + 2) 0 cX0_longest (some .int) 14 [.ref x0, w1, .int x2, .int x3, w4] [] h res := by
  intro n
  induction n with
  | zero =>
    intro x0 x2 x3 w1 w4 h q res hF hw1 hw4 hk
    rw [L_X0_longest_14] at hF
    cases hF
  | succ n ih =>
    intro x0 x2 x3 w1 w4 h q res hF hw1 hw4 hk
    rw [L_X0_longest_14] at hF
    refine pr_iload_n dX0_longest_14 rfl ?_
    refine pr_aload_n dX0_longest_15 rfl ?_
    obtain ⟨v2, hv2, hF⟩ := po_b hF
    refine pr_getR dX0_longest_16 tf_0_16 (hv2) ?_
    obtain ⟨v3, hv3, hF⟩ := po_b hF
    refine pr_getI dX0_longest_19 tf_0_22 (hv3) ?_
    refine po_i hF (fun hc hF => ?_) (fun hc hF => ?_)
    · refine pr_icT (tgt := 193) dX0_longest_22 (by decide) (pc_gtT hc) ?_
      cases hF
      exact hk _ rfl _ hw4
    · refine pr_icF (tgt := 193) dX0_longest_22 (by decide) (pc_gtF hc) ?_
      refine pr_aload_n dX0_longest_25 rfl ?_
      obtain ⟨v4, hv4, hF⟩ := po_b hF
      refine pr_getR dX0_longest_26 tf_0_87 (hv4) ?_
      refine pr_iload_n dX0_longest_29 rfl ?_
      refine pr_iload_n dX0_longest_30 rfl ?_
      obtain ⟨q5, hq5, hF⟩ := po_b hF
      refine pr_S dX0_longest_31 cs_0_214 (as := [.int x3]) (rest := [.int x3, .ref v4]) rfl rfl rfl (lb rfl) (lb rfl) (lb rfl) (ok_F_J6_bitCount hq5) ?_
      refine pr_iconst (v := 1) dX0_longest_34 (kc_1) ?_
      obtain ⟨q8, hq8, hF⟩ := po_b hF
      have J57 : pm_E (d + 2) 0 cX0_longest (some .int) 57 [.ref x0, w1, .int x2, .int x3, w4] [.int q8, .int x3, .ref v4] h res := by
        obtain ⟨h9, hh9, hF⟩ := po_b hF
        refine pr_iast dX0_longest_57 (hh9) ?_
        refine pr_iconst (v := 0) dX0_longest_58 (kc_0) ?_
        refine pr_istore (L' := [.ref x0, w1, .int x2, .int x3, .int 0]) dX0_longest_59 rfl ?_
        obtain ⟨q20, hq20, hF⟩ := po_b hF
        refine ok_L_X0_longest_61 n hq20 hw1 rfl (fun z4 hz4 => ?_)
        refine pr_aload_n dX0_longest_130 rfl ?_
        obtain ⟨v21, hv21, hF⟩ := po_b hF
        refine pr_getR dX0_longest_131 tf_0_87 (hv21) ?_
        refine pr_iload_n dX0_longest_134 rfl ?_
        obtain ⟨v22, hv22, hF⟩ := po_b hF
        refine pr_iald dX0_longest_135 (hv22) ?_
        obtain ⟨q25, hq25, hF⟩ := po_b hF
        have J152 : pm_E (d + 2) 0 cX0_longest (some .int) 152 [.ref x0, w1, .int x2, .int x3, z4] [.int q25] q20 res := by
          refine pr_istore (L' := [.ref x0, w1, .int x2, .int x3, .int q25]) dX0_longest_152 rfl ?_
          refine pr_iload dX0_longest_154 rfl ?_
          refine po_i hF (fun hc hF => ?_) (fun hc hF => ?_)
          · refine pr_ifT (tgt := 185) dX0_longest_156 (by decide) (pc_gtT hc) ?_
            refine pr_iload_n dX0_longest_185 rfl ?_
            refine pr_istore_n (L' := [.ref x0, w1, .int x3, .int x3, .int q25]) dX0_longest_186 (pm_st_w (i := 1) rfl rfl hw1 rfl) ?_
            refine pr_iinc (v := 1) (L' := [.ref x0, w1, .int x3, .int (x3 + 1), .int q25]) dX0_longest_187 rfl (kc_1) rfl ?_
            refine pr_goto (tgt := 14) dX0_longest_190 (by decide) ?_
            exact ih hF hw1 rfl hk
          · refine pr_ifF (tgt := 185) dX0_longest_156 (by decide) (pc_gtF hc) ?_
            refine pr_iload dX0_longest_159 rfl ?_
            refine po_i hF (fun hc hF => ?_) (fun hc hF => ?_)
            · refine pr_ifF (tgt := 187) dX0_longest_161 (by decide) (pc_neF hc) ?_
              refine pr_aload_n dX0_longest_164 rfl ?_
              obtain ⟨v26, hv26, hF⟩ := po_b hF
              refine pr_getR dX0_longest_165 tf_0_87 (hv26) ?_
              refine pr_iload_n dX0_longest_168 rfl ?_
              obtain ⟨v27, hv27, hF⟩ := po_b hF
              refine pr_iald dX0_longest_169 (hv27) ?_
              obtain ⟨q28, hq28, hF⟩ := po_b hF
              refine pr_S dX0_longest_170 cs_0_207 (as := [.int v27]) (rest := []) rfl rfl rfl (lb rfl) (lb rfl) (lb rfl) (ok_F_X0_lowest hq28) ?_
              refine pr_aload_n dX0_longest_173 rfl ?_
              obtain ⟨v29, hv29, hF⟩ := po_b hF
              refine pr_getR dX0_longest_174 tf_0_87 (hv29) ?_
              refine pr_iload_n dX0_longest_177 rfl ?_
              obtain ⟨v30, hv30, hF⟩ := po_b hF
              refine pr_iald dX0_longest_178 (hv30) ?_
              obtain ⟨q31, hq31, hF⟩ := po_b hF
              refine pr_S dX0_longest_179 cs_0_207 (as := [.int v30]) (rest := [.int q28]) rfl rfl rfl (lb rfl) (lb rfl) (lb rfl) (ok_F_X0_lowest hq31) ?_
              refine po_i hF (fun hc hF => ?_) (fun hc hF => ?_)
              · refine pr_icF (tgt := 187) dX0_longest_182 (by decide) (pc_geF hc) ?_
                refine pr_iload_n dX0_longest_185 rfl ?_
                refine pr_istore_n (L' := [.ref x0, w1, .int x3, .int x3, .int q25]) dX0_longest_186 (pm_st_w (i := 1) rfl rfl hw1 rfl) ?_
                refine pr_iinc (v := 1) (L' := [.ref x0, w1, .int x3, .int (x3 + 1), .int q25]) dX0_longest_187 rfl (kc_1) rfl ?_
                refine pr_goto (tgt := 14) dX0_longest_190 (by decide) ?_
                exact ih hF hw1 rfl hk
              · refine pr_icT (tgt := 187) dX0_longest_182 (by decide) (pc_geT hc) ?_
                refine pr_iinc (v := 1) (L' := [.ref x0, w1, .int x2, .int (x3 + 1), .int q25]) dX0_longest_187 rfl (kc_1) rfl ?_
                refine pr_goto (tgt := 14) dX0_longest_190 (by decide) ?_
                exact ih hF hw1 rfl hk
            · refine pr_ifT (tgt := 187) dX0_longest_161 (by decide) (pc_neT hc) ?_
              refine pr_iinc (v := 1) (L' := [.ref x0, w1, .int x2, .int (x3 + 1), .int q25]) dX0_longest_187 rfl (kc_1) rfl ?_
              refine pr_goto (tgt := 14) dX0_longest_190 (by decide) ?_
              exact ih hF hw1 rfl hk
        clear hF
        have hF := hq25
        refine po_i hF (fun hc hF => ?_) (fun hc hF => ?_)
        · refine pr_ifF (tgt := 143) dX0_longest_136 (by decide) (pc_neF hc) ?_
          refine pr_iconst (v := (-1)) dX0_longest_139 (kc_m1) ?_
          refine pr_goto (tgt := 152) dX0_longest_140 (by decide) ?_
          cases hF
          exact J152
        · refine pr_ifT (tgt := 143) dX0_longest_136 (by decide) (pc_neT hc) ?_
          refine pr_iload_n dX0_longest_143 rfl ?_
          obtain ⟨q23, hq23, hF⟩ := po_b hF
          refine pr_S dX0_longest_144 cs_0_214 (as := [.int x3]) (rest := []) rfl rfl rfl (lb rfl) (lb rfl) (lb rfl) (ok_F_J6_bitCount hq23) ?_
          refine pr_iload_n dX0_longest_147 rfl ?_
          obtain ⟨q24, hq24, hF⟩ := po_b hF
          refine pr_S dX0_longest_148 cs_0_214 (as := [.int x2]) (rest := [.int q23]) rfl rfl rfl (lb rfl) (lb rfl) (lb rfl) (ok_F_J6_bitCount hq24) ?_
          refine pr_isub dX0_longest_151 ?_
          cases hF
          exact J152
      clear hF
      have hF := hq8
      refine po_i hF (fun hc hF => ?_) (fun hc hF => ?_)
      · refine pr_icF (tgt := 56) dX0_longest_35 (by decide) (pc_neF hc) ?_
        refine pr_iload_n dX0_longest_38 rfl ?_
        refine pr_aload_n dX0_longest_39 rfl ?_
        obtain ⟨v6, hv6, hF⟩ := po_b hF
        refine pr_getR dX0_longest_40 tf_0_16 (hv6) ?_
        obtain ⟨v7, hv7, hF⟩ := po_b hF
        refine pr_getI dX0_longest_43 tf_0_22 (hv7) ?_
        refine pr_iconst (v := (-1)) dX0_longest_46 (kc_m1) ?_
        refine pr_ixor dX0_longest_47 ?_
        refine pr_iand dX0_longest_48 ?_
        refine po_i hF (fun hc hF => ?_) (fun hc hF => ?_)
        · refine pr_ifF (tgt := 56) dX0_longest_49 (by decide) (pc_neF hc) ?_
          refine pr_iload_n dX0_longest_52 rfl ?_
          refine pr_goto (tgt := 57) dX0_longest_53 (by decide) ?_
          cases hF
          exact J57
        · refine pr_ifT (tgt := 56) dX0_longest_49 (by decide) (pc_neT hc) ?_
          refine pr_iconst (v := 0) dX0_longest_56 (kc_0) ?_
          cases hF
          exact J57
      · refine pr_icT (tgt := 56) dX0_longest_35 (by decide) (pc_neT hc) ?_
        refine pr_iconst (v := 0) dX0_longest_56 (kc_0) ?_
        cases hF
        exact J57
def F_X0_longest (n : Nat) (h : pm_H) (a0 : Nat) (x1 : Int32) : Option (Int32 × pm_H) :=
  (F_X0_in x1 2).bind fun q1 =>
  if q1 = 0 then
    some ((-1), h)
  else
    (L_X0_longest_14 n a0 0 1 h).bind fun q32 =>
    if x1 = 0 then
      (F_J6_bitCount q32.1).bind fun q36 =>
      some (q36, q32.2)
    else
    if q32.1 = 0 then
      some ((-2), q32.2)
    else
      (pm_fR [(0, 12)] q32.2 a0).bind fun v33 =>
      (pm_ai 0 q32.2 v33 q32.1).bind fun v34 =>
      (F_X0_lowest v34).bind fun q35 =>
      some (q35, q32.2)
theorem ok_F_X0_longest {d n : Nat} {h : pm_H} {a0 : Nat} {x1 : Int32} {q : Int32 × pm_H} (hF : F_X0_longest n h a0 x1 = some q) : pm_E (d + 2) 0 cX0_longest (some .int) 0 [.ref a0, .int x1, pm_D, pm_D, pm_D] [] h (some (.int q.1), q.2) := by
  unfold F_X0_longest at hF
  refine pr_iload_n dX0_longest_0 rfl ?_
  refine pr_iconst (v := 2) dX0_longest_1 (kc_2) ?_
  obtain ⟨q1, hq1, hF⟩ := po_b hF
  refine pr_S dX0_longest_2 cs_0_144 (as := [.int x1, .int 2]) (rest := []) rfl rfl rfl (lb rfl) (lb rfl) (lb rfl) (ok_F_X0_in hq1) ?_
  refine po_i hF (fun hc hF => ?_) (fun hc hF => ?_)
  · refine pr_ifF (tgt := 10) dX0_longest_5 (by decide) (pc_neF hc) ?_
    refine pr_iconst (v := (-1)) dX0_longest_8 (kc_m1) ?_
    cases hF
    exact pr_iret dX0_longest_9 rfl rfl rfl
  · refine pr_ifT (tgt := 10) dX0_longest_5 (by decide) (pc_neT hc) ?_
    refine pr_iconst (v := 0) dX0_longest_10 (kc_0) ?_
    refine pr_istore_n (L' := [.ref a0, .int x1, .int 0, pm_D, pm_D]) dX0_longest_11 rfl ?_
    refine pr_iconst (v := 1) dX0_longest_12 (kc_1) ?_
    refine pr_istore_n (L' := [.ref a0, .int x1, .int 0, .int 1, pm_D]) dX0_longest_13 rfl ?_
    obtain ⟨q32, hq32, hF⟩ := po_b hF
    refine ok_L_X0_longest_14 n hq32 rfl rfl (fun z3 hz3 z4 hz4 => ?_)
    refine pr_iload_n dX0_longest_193 rfl ?_
    refine po_i hF (fun hc hF => ?_) (fun hc hF => ?_)
    · refine pr_ifF (tgt := 204) dX0_longest_194 (by decide) (pc_neF hc) ?_
      refine pr_iload_n dX0_longest_197 rfl ?_
      obtain ⟨q36, hq36, hF⟩ := po_b hF
      refine pr_S dX0_longest_198 cs_0_214 (as := [.int q32.1]) (rest := []) rfl rfl rfl (lb rfl) (lb rfl) (lb rfl) (ok_F_J6_bitCount hq36) ?_
      refine pr_goto (tgt := 222) dX0_longest_201 (by decide) ?_
      cases hF
      exact pr_iret dX0_longest_222 rfl rfl rfl
    · refine pr_ifT (tgt := 204) dX0_longest_194 (by decide) (pc_neT hc) ?_
      refine pr_iload_n dX0_longest_204 rfl ?_
      refine po_i hF (fun hc hF => ?_) (fun hc hF => ?_)
      · refine pr_ifF (tgt := 213) dX0_longest_205 (by decide) (pc_neF hc) ?_
        refine pr_bipush (v := (-2)) dX0_longest_208 (kb_m2) ?_
        refine pr_goto (tgt := 222) dX0_longest_210 (by decide) ?_
        cases hF
        exact pr_iret dX0_longest_222 rfl rfl rfl
      · refine pr_ifT (tgt := 213) dX0_longest_205 (by decide) (pc_neT hc) ?_
        refine pr_aload_n dX0_longest_213 rfl ?_
        obtain ⟨v33, hv33, hF⟩ := po_b hF
        refine pr_getR dX0_longest_214 tf_0_87 (hv33) ?_
        refine pr_iload_n dX0_longest_217 rfl ?_
        obtain ⟨v34, hv34, hF⟩ := po_b hF
        refine pr_iald dX0_longest_218 (hv34) ?_
        obtain ⟨q35, hq35, hF⟩ := po_b hF
        refine pr_S dX0_longest_219 cs_0_207 (as := [.int v34]) (rest := []) rfl rfl rfl (lb rfl) (lb rfl) (lb rfl) (ok_F_X0_lowest hq35) ?_
        cases hF
        exact pr_iret dX0_longest_222 rfl rfl rfl

def L_X0_luckless_31 : Nat → Nat → Int32 → Int32 → Int32 → pm_H → Option (Int32)
  | 0, _, _, _, _, _ => none
  | n + 1, x0, x2, x3, x5, h =>
    if x5 < 16 then
      (pm_fR [(0, 0)] h x0).bind fun v2 =>
      (pm_fI [(1, 2)] h v2).bind fun v3 =>
      (F_X0_has (v3 &&& (x2 ^^^ (-1))) x5).bind fun q4 =>
      if q4 = 0 then
        L_X0_luckless_31 n x0 x2 x3 (x5 + 1) h
      else
      if x3 = (-4) then
        L_X0_luckless_31 n x0 x2 x5 (x5 + 1) h
      else
        (pm_fR [(0, 3)] h x0).bind fun v5 =>
        (pm_fR [(3, 1)] h v5).bind fun v6 =>
        (pm_ai 0 h v6 x5).bind fun v7 =>
        (pm_fR [(0, 3)] h x0).bind fun v8 =>
        (pm_fR [(3, 1)] h v8).bind fun v9 =>
        (pm_ai 0 h v9 x3).bind fun v10 =>
        if v10 < v7 then
          L_X0_luckless_31 n x0 x2 x5 (x5 + 1) h
        else
          L_X0_luckless_31 n x0 x2 x3 (x5 + 1) h
    else
      some x3
theorem ok_L_X0_luckless_31 {d : Nat} : ∀ (n : Nat) {x0 : Nat} {x2 : Int32} {x3 : Int32} {x5 : Int32} {w1 w4 : Value} {h : pm_H} {q : Int32} {res : Option Value × pm_H}, L_X0_luckless_31 n x0 x2 x3 x5 h = some q → pm_nolong w1 = true → pm_nolong w4 = true → (∀ z5 : Value, pm_nolong z5 = true → pm_E (d + 1) 0 cX0_luckless (some .int) 94 [.ref x0, w1, .int x2, .int q, w4, z5] [] h res) → pm_E (d + 1) 0 cX0_luckless (some .int) 31 [.ref x0, w1, .int x2, .int x3, w4, .int x5] [] h res := by
  intro n
  induction n with
  | zero =>
    intro x0 x2 x3 x5 w1 w4 h q res hF hw1 hw4 hk
    rw [L_X0_luckless_31] at hF
    cases hF
  | succ n ih =>
    intro x0 x2 x3 x5 w1 w4 h q res hF hw1 hw4 hk
    rw [L_X0_luckless_31] at hF
    refine pr_iload dX0_luckless_31 rfl ?_
    refine pr_bipush (v := 16) dX0_luckless_33 (kb_16) ?_
    refine po_i hF (fun hc hF => ?_) (fun hc hF => ?_)
    · refine pr_icF (tgt := 94) dX0_luckless_35 (by decide) (pc_geF hc) ?_
      refine pr_aload_n dX0_luckless_38 rfl ?_
      obtain ⟨v2, hv2, hF⟩ := po_b hF
      refine pr_getR dX0_luckless_39 tf_0_16 (hv2) ?_
      obtain ⟨v3, hv3, hF⟩ := po_b hF
      refine pr_getI dX0_luckless_42 tf_0_22 (hv3) ?_
      refine pr_iload_n dX0_luckless_45 rfl ?_
      refine pr_iconst (v := (-1)) dX0_luckless_46 (kc_m1) ?_
      refine pr_ixor dX0_luckless_47 ?_
      refine pr_iand dX0_luckless_48 ?_
      refine pr_iload dX0_luckless_49 rfl ?_
      obtain ⟨q4, hq4, hF⟩ := po_b hF
      refine pr_S dX0_luckless_51 cs_0_191 (as := [.int (v3 &&& (x2 ^^^ (-1))), .int x5]) (rest := []) rfl rfl rfl (lb rfl) (lb rfl) (lb rfl) (ok_F_X0_has hq4) ?_
      refine po_i hF (fun hc hF => ?_) (fun hc hF => ?_)
      · refine pr_ifT (tgt := 88) dX0_luckless_54 (by decide) (pc_eqT hc) ?_
        refine pr_iinc (v := 1) (L' := [.ref x0, w1, .int x2, .int x3, w4, .int (x5 + 1)]) dX0_luckless_88 rfl (kc_1) (pm_st_w (i := 4) rfl rfl hw4 rfl) ?_
        refine pr_goto (tgt := 31) dX0_luckless_91 (by decide) ?_
        exact ih hF hw1 hw4 hk
      · refine pr_ifF (tgt := 88) dX0_luckless_54 (by decide) (pc_eqF hc) ?_
        refine pr_iload_n dX0_luckless_57 rfl ?_
        refine pr_bipush (v := (-4)) dX0_luckless_58 (kb_m4) ?_
        refine po_i hF (fun hc hF => ?_) (fun hc hF => ?_)
        · refine pr_icT (tgt := 85) dX0_luckless_60 (by decide) (pc_eqT hc) ?_
          refine pr_iload dX0_luckless_85 rfl ?_
          refine pr_istore_n (L' := [.ref x0, w1, .int x2, .int x5, w4, .int x5]) dX0_luckless_87 rfl ?_
          refine pr_iinc (v := 1) (L' := [.ref x0, w1, .int x2, .int x5, w4, .int (x5 + 1)]) dX0_luckless_88 rfl (kc_1) (pm_st_w (i := 4) rfl rfl hw4 rfl) ?_
          refine pr_goto (tgt := 31) dX0_luckless_91 (by decide) ?_
          exact ih hF hw1 hw4 hk
        · refine pr_icF (tgt := 85) dX0_luckless_60 (by decide) (pc_eqF hc) ?_
          refine pr_aload_n dX0_luckless_63 rfl ?_
          obtain ⟨v5, hv5, hF⟩ := po_b hF
          refine pr_getR dX0_luckless_64 tf_0_63 (hv5) ?_
          obtain ⟨v6, hv6, hF⟩ := po_b hF
          refine pr_getR dX0_luckless_67 tf_0_181 (hv6) ?_
          refine pr_iload dX0_luckless_70 rfl ?_
          obtain ⟨v7, hv7, hF⟩ := po_b hF
          refine pr_iald dX0_luckless_72 (hv7) ?_
          refine pr_aload_n dX0_luckless_73 rfl ?_
          obtain ⟨v8, hv8, hF⟩ := po_b hF
          refine pr_getR dX0_luckless_74 tf_0_63 (hv8) ?_
          obtain ⟨v9, hv9, hF⟩ := po_b hF
          refine pr_getR dX0_luckless_77 tf_0_181 (hv9) ?_
          refine pr_iload_n dX0_luckless_80 rfl ?_
          obtain ⟨v10, hv10, hF⟩ := po_b hF
          refine pr_iald dX0_luckless_81 (hv10) ?_
          refine po_i hF (fun hc hF => ?_) (fun hc hF => ?_)
          · refine pr_icF (tgt := 88) dX0_luckless_82 (by decide) (pc_leF hc) ?_
            refine pr_iload dX0_luckless_85 rfl ?_
            refine pr_istore_n (L' := [.ref x0, w1, .int x2, .int x5, w4, .int x5]) dX0_luckless_87 rfl ?_
            refine pr_iinc (v := 1) (L' := [.ref x0, w1, .int x2, .int x5, w4, .int (x5 + 1)]) dX0_luckless_88 rfl (kc_1) (pm_st_w (i := 4) rfl rfl hw4 rfl) ?_
            refine pr_goto (tgt := 31) dX0_luckless_91 (by decide) ?_
            exact ih hF hw1 hw4 hk
          · refine pr_icT (tgt := 88) dX0_luckless_82 (by decide) (pc_leT hc) ?_
            refine pr_iinc (v := 1) (L' := [.ref x0, w1, .int x2, .int x3, w4, .int (x5 + 1)]) dX0_luckless_88 rfl (kc_1) (pm_st_w (i := 4) rfl rfl hw4 rfl) ?_
            refine pr_goto (tgt := 31) dX0_luckless_91 (by decide) ?_
            exact ih hF hw1 hw4 hk
    · refine pr_icT (tgt := 94) dX0_luckless_35 (by decide) (pc_geT hc) ?_
      cases hF
      exact hk _ rfl
def L_X0_luckless_19 : Nat → Nat → Int32 → Int32 → Int32 → Int32 → pm_H → Option (Int32)
  | 0, _, _, _, _, _, _ => none
  | n + 1, x0, x1, x2, x3, x4, h =>
    if x1 < x4 then
      some x3
    else
      (L_X0_luckless_31 n x0 x2 (-4) 0 h).bind fun q11 =>
      if q11 = (-4) then
        L_X0_luckless_19 n x0 x1 (x2 ||| 0) q11 (x4 + 1) h
      else
        L_X0_luckless_19 n x0 x1 (x2 ||| (pm_shl 1 q11)) q11 (x4 + 1) h
theorem ok_L_X0_luckless_19 {d : Nat} : ∀ (n : Nat) {x0 : Nat} {x1 : Int32} {x2 : Int32} {x3 : Int32} {x4 : Int32} {w5 : Value} {h : pm_H} {q : Int32} {res : Option Value × pm_H}, L_X0_luckless_19 n x0 x1 x2 x3 x4 h = some q → pm_nolong w5 = true → (∀ z2 : Value, pm_nolong z2 = true → ∀ z4 : Value, pm_nolong z4 = true → ∀ z5 : Value, pm_nolong z5 = true → pm_E (d + 1) 0 cX0_luckless (some .int) 116 [.ref x0, .int x1, z2, .int q, z4, z5] [] h res) → pm_E (d + 1) 0 cX0_luckless (some .int) 19 [.ref x0, .int x1, .int x2, .int x3, .int x4, w5] [] h res := by
  intro n
  induction n with
  | zero =>
    intro x0 x1 x2 x3 x4 w5 h q res hF hw5 hk
    rw [L_X0_luckless_19] at hF
    cases hF
  | succ n ih =>
    intro x0 x1 x2 x3 x4 w5 h q res hF hw5 hk
    rw [L_X0_luckless_19] at hF
    refine pr_iload dX0_luckless_19 rfl ?_
    refine pr_iload_n dX0_luckless_21 rfl ?_
    refine po_i hF (fun hc hF => ?_) (fun hc hF => ?_)
    · refine pr_icT (tgt := 116) dX0_luckless_22 (by decide) (pc_gtT hc) ?_
      cases hF
      exact hk _ rfl _ rfl _ hw5
    · refine pr_icF (tgt := 116) dX0_luckless_22 (by decide) (pc_gtF hc) ?_
      refine pr_bipush (v := (-4)) dX0_luckless_25 (kb_m4) ?_
      refine pr_istore_n (L' := [.ref x0, .int x1, .int x2, .int (-4), .int x4, w5]) dX0_luckless_27 rfl ?_
      refine pr_iconst (v := 0) dX0_luckless_28 (kc_0) ?_
      refine pr_istore (L' := [.ref x0, .int x1, .int x2, .int (-4), .int x4, .int 0]) dX0_luckless_29 rfl ?_
      obtain ⟨q11, hq11, hF⟩ := po_b hF
      refine ok_L_X0_luckless_31 n hq11 rfl rfl (fun z5 hz5 => ?_)
      refine pr_iload_n dX0_luckless_94 rfl ?_
      refine pr_iload_n dX0_luckless_95 rfl ?_
      refine pr_bipush (v := (-4)) dX0_luckless_96 (kb_m4) ?_
      refine po_i hF (fun hc hF => ?_) (fun hc hF => ?_)
      · refine pr_icF (tgt := 105) dX0_luckless_98 (by decide) (pc_neF hc) ?_
        refine pr_iconst (v := 0) dX0_luckless_101 (kc_0) ?_
        refine pr_goto (tgt := 108) dX0_luckless_102 (by decide) ?_
        refine pr_ior dX0_luckless_108 ?_
        refine pr_istore_n (L' := [.ref x0, .int x1, .int (x2 ||| 0), .int q11, .int x4, z5]) dX0_luckless_109 rfl ?_
        refine pr_iinc (v := 1) (L' := [.ref x0, .int x1, .int (x2 ||| 0), .int q11, .int (x4 + 1), z5]) dX0_luckless_110 rfl (kc_1) rfl ?_
        refine pr_goto (tgt := 19) dX0_luckless_113 (by decide) ?_
        exact ih hF hz5 hk
      · refine pr_icT (tgt := 105) dX0_luckless_98 (by decide) (pc_neT hc) ?_
        refine pr_iconst (v := 1) dX0_luckless_105 (kc_1) ?_
        refine pr_iload_n dX0_luckless_106 rfl ?_
        refine pr_ishl dX0_luckless_107 ?_
        refine pr_ior dX0_luckless_108 ?_
        refine pr_istore_n (L' := [.ref x0, .int x1, .int (x2 ||| (pm_shl 1 q11)), .int q11, .int x4, z5]) dX0_luckless_109 rfl ?_
        refine pr_iinc (v := 1) (L' := [.ref x0, .int x1, .int (x2 ||| (pm_shl 1 q11)), .int q11, .int (x4 + 1), z5]) dX0_luckless_110 rfl (kc_1) rfl ?_
        refine pr_goto (tgt := 19) dX0_luckless_113 (by decide) ?_
        exact ih hF hz5 hk
def F_X0_luckless (n : Nat) (h : pm_H) (a0 : Nat) (x1 : Int32) : Option (Int32) :=
  (F_X0_in x1 16).bind fun q1 =>
  if q1 = 0 then
    some (-1)
  else
    (L_X0_luckless_19 n a0 x1 0 (-4) 0 h).bind fun q12 =>
    some q12
theorem ok_F_X0_luckless {d n : Nat} {h : pm_H} {a0 : Nat} {x1 : Int32} {q : Int32} (hF : F_X0_luckless n h a0 x1 = some q) : pm_E (d + 1) 0 cX0_luckless (some .int) 0 [.ref a0, .int x1, pm_D, pm_D, pm_D, pm_D] [] h (some (.int q), h) := by
  unfold F_X0_luckless at hF
  refine pr_iload_n dX0_luckless_0 rfl ?_
  refine pr_bipush (v := 16) dX0_luckless_1 (kb_16) ?_
  obtain ⟨q1, hq1, hF⟩ := po_b hF
  refine pr_S dX0_luckless_3 cs_0_144 (as := [.int x1, .int 16]) (rest := []) rfl rfl rfl (lb rfl) (lb rfl) (lb rfl) (ok_F_X0_in hq1) ?_
  refine po_i hF (fun hc hF => ?_) (fun hc hF => ?_)
  · refine pr_ifF (tgt := 11) dX0_luckless_6 (by decide) (pc_neF hc) ?_
    refine pr_iconst (v := (-1)) dX0_luckless_9 (kc_m1) ?_
    cases hF
    exact pr_iret dX0_luckless_10 rfl rfl rfl
  · refine pr_ifT (tgt := 11) dX0_luckless_6 (by decide) (pc_neT hc) ?_
    refine pr_iconst (v := 0) dX0_luckless_11 (kc_0) ?_
    refine pr_istore_n (L' := [.ref a0, .int x1, .int 0, pm_D, pm_D, pm_D]) dX0_luckless_12 rfl ?_
    refine pr_bipush (v := (-4)) dX0_luckless_13 (kb_m4) ?_
    refine pr_istore_n (L' := [.ref a0, .int x1, .int 0, .int (-4), pm_D, pm_D]) dX0_luckless_15 rfl ?_
    refine pr_iconst (v := 0) dX0_luckless_16 (kc_0) ?_
    refine pr_istore (L' := [.ref a0, .int x1, .int 0, .int (-4), .int 0, pm_D]) dX0_luckless_17 rfl ?_
    obtain ⟨q12, hq12, hF⟩ := po_b hF
    refine ok_L_X0_luckless_19 n hq12 rfl (fun z2 hz2 z4 hz4 z5 hz5 => ?_)
    refine pr_iload_n dX0_luckless_116 rfl ?_
    cases hF
    exact pr_iret dX0_luckless_117 rfl rfl rfl

def L_X0_stepsTo_4 : Nat → Nat → Int32 → Int32 → Int32 → pm_H → Option (Int32)
  | 0, _, _, _, _, _ => none
  | n + 1, x0, x1, x2, x3, h =>
    if x3 < 16 then
      (pm_fR [(0, 0)] h x0).bind fun v1 =>
      (if pm_cl_ h v1 = some 1 then F_X1_isTold h v1 x3 else none).bind fun q2 =>
      if q2 = 0 then
        L_X0_stepsTo_4 n x0 x1 (x2 + 0) (x3 + 1) h
      else
        (pm_fR [(0, 0)] h x0).bind fun v3 =>
        (pm_fR [(1, 0)] h v3).bind fun v4 =>
        (pm_ai 0 h v4 x3).bind fun v5 =>
        (F_J2_abs (v5 - x1)).bind fun q6 =>
        L_X0_stepsTo_4 n x0 x1 (x2 + q6) (x3 + 1) h
    else
      some x2
theorem ok_L_X0_stepsTo_4 {d : Nat} : ∀ (n : Nat) {x0 : Nat} {x1 : Int32} {x2 : Int32} {x3 : Int32} {h : pm_H} {q : Int32} {res : Option Value × pm_H}, L_X0_stepsTo_4 n x0 x1 x2 x3 h = some q → (∀ z3 : Value, pm_nolong z3 = true → pm_E (d + 1) 0 cX0_stepsTo (some .int) 48 [.ref x0, .int x1, .int q, z3] [] h res) → pm_E (d + 1) 0 cX0_stepsTo (some .int) 4 [.ref x0, .int x1, .int x2, .int x3] [] h res := by
  intro n
  induction n with
  | zero =>
    intro x0 x1 x2 x3 h q res hF hk
    rw [L_X0_stepsTo_4] at hF
    cases hF
  | succ n ih =>
    intro x0 x1 x2 x3 h q res hF hk
    rw [L_X0_stepsTo_4] at hF
    refine pr_iload_n dX0_stepsTo_4 rfl ?_
    refine pr_bipush (v := 16) dX0_stepsTo_5 (kb_16) ?_
    refine po_i hF (fun hc hF => ?_) (fun hc hF => ?_)
    · refine pr_icF (tgt := 48) dX0_stepsTo_7 (by decide) (pc_geF hc) ?_
      refine pr_iload_n dX0_stepsTo_10 rfl ?_
      refine pr_aload_n dX0_stepsTo_11 rfl ?_
      obtain ⟨v1, hv1, hF⟩ := po_b hF
      refine pr_getR dX0_stepsTo_12 tf_0_16 (hv1) ?_
      refine pr_iload_n dX0_stepsTo_15 rfl ?_
      obtain ⟨q2, hq2, hF⟩ := po_b hF
      refine po_i hq2 (fun hcl hq => ?_) (fun _ hq => nomatch hq)
      refine pr_V (as := [.int x3]) (rest := [.int x2]) dX0_stepsTo_16 cv_0_168 hcl rfl rfl rfl rfl (lb rfl) (lb rfl) (lb rfl) (ok_F_X1_isTold hq) ?_
      refine po_i hF (fun hc hF => ?_) (fun hc hF => ?_)
      · refine pr_ifT (tgt := 39) dX0_stepsTo_19 (by decide) (pc_eqT hc) ?_
        refine pr_iconst (v := 0) dX0_stepsTo_39 (kc_0) ?_
        refine pr_iadd dX0_stepsTo_40 ?_
        refine pr_istore_n (L' := [.ref x0, .int x1, .int (x2 + 0), .int x3]) dX0_stepsTo_41 rfl ?_
        refine pr_iinc (v := 1) (L' := [.ref x0, .int x1, .int (x2 + 0), .int (x3 + 1)]) dX0_stepsTo_42 rfl (kc_1) rfl ?_
        refine pr_goto (tgt := 4) dX0_stepsTo_45 (by decide) ?_
        exact ih hF hk
      · refine pr_ifF (tgt := 39) dX0_stepsTo_19 (by decide) (pc_eqF hc) ?_
        refine pr_aload_n dX0_stepsTo_22 rfl ?_
        obtain ⟨v3, hv3, hF⟩ := po_b hF
        refine pr_getR dX0_stepsTo_23 tf_0_16 (hv3) ?_
        obtain ⟨v4, hv4, hF⟩ := po_b hF
        refine pr_getR dX0_stepsTo_26 tf_0_188 (hv4) ?_
        refine pr_iload_n dX0_stepsTo_29 rfl ?_
        obtain ⟨v5, hv5, hF⟩ := po_b hF
        refine pr_iald dX0_stepsTo_30 (hv5) ?_
        refine pr_iload_n dX0_stepsTo_31 rfl ?_
        refine pr_isub dX0_stepsTo_32 ?_
        obtain ⟨q6, hq6, hF⟩ := po_b hF
        refine pr_S dX0_stepsTo_33 cs_0_238 (as := [.int (v5 - x1)]) (rest := [.int x2]) rfl rfl rfl (lb rfl) (lb rfl) (lb rfl) (ok_F_J2_abs hq6) ?_
        refine pr_goto (tgt := 40) dX0_stepsTo_36 (by decide) ?_
        refine pr_iadd dX0_stepsTo_40 ?_
        refine pr_istore_n (L' := [.ref x0, .int x1, .int (x2 + q6), .int x3]) dX0_stepsTo_41 rfl ?_
        refine pr_iinc (v := 1) (L' := [.ref x0, .int x1, .int (x2 + q6), .int (x3 + 1)]) dX0_stepsTo_42 rfl (kc_1) rfl ?_
        refine pr_goto (tgt := 4) dX0_stepsTo_45 (by decide) ?_
        exact ih hF hk
    · refine pr_icT (tgt := 48) dX0_stepsTo_7 (by decide) (pc_geT hc) ?_
      cases hF
      exact hk _ rfl
def F_X0_stepsTo (n : Nat) (h : pm_H) (a0 : Nat) (x1 : Int32) : Option (Int32) :=
  (L_X0_stepsTo_4 n a0 x1 0 0 h).bind fun q7 =>
  some q7
theorem ok_F_X0_stepsTo {d n : Nat} {h : pm_H} {a0 : Nat} {x1 : Int32} {q : Int32} (hF : F_X0_stepsTo n h a0 x1 = some q) : pm_E (d + 1) 0 cX0_stepsTo (some .int) 0 [.ref a0, .int x1, pm_D, pm_D] [] h (some (.int q), h) := by
  unfold F_X0_stepsTo at hF
  refine pr_iconst (v := 0) dX0_stepsTo_0 (kc_0) ?_
  refine pr_istore_n (L' := [.ref a0, .int x1, .int 0, pm_D]) dX0_stepsTo_1 rfl ?_
  refine pr_iconst (v := 0) dX0_stepsTo_2 (kc_0) ?_
  refine pr_istore_n (L' := [.ref a0, .int x1, .int 0, .int 0]) dX0_stepsTo_3 rfl ?_
  obtain ⟨q7, hq7, hF⟩ := po_b hF
  refine ok_L_X0_stepsTo_4 n hq7 (fun z3 hz3 => ?_)
  refine pr_iload_n dX0_stepsTo_48 rfl ?_
  cases hF
  exact pr_iret dX0_stepsTo_49 rfl rfl rfl

def L_X0_meeting_14 : Nat → Nat → Int32 → Int32 → pm_H → Option (Int32)
  | 0, _, _, _, _ => none
  | n + 1, x0, x2, x3, h =>
    if x3 < 100 then
      (if pm_cl_ h x0 = some 0 then F_X0_stepsTo n h x0 x3 else none).bind fun q2 =>
      (if pm_cl_ h x0 = some 0 then F_X0_stepsTo n h x0 x2 else none).bind fun q3 =>
      if q2 < q3 then
        L_X0_meeting_14 n x0 x3 (x3 + 1) h
      else
        L_X0_meeting_14 n x0 x2 (x3 + 1) h
    else
      some x2
theorem ok_L_X0_meeting_14 {d : Nat} : ∀ (n : Nat) {x0 : Nat} {x2 : Int32} {x3 : Int32} {w1 : Value} {h : pm_H} {q : Int32} {res : Option Value × pm_H}, L_X0_meeting_14 n x0 x2 x3 h = some q → pm_nolong w1 = true → (∀ z3 : Value, pm_nolong z3 = true → pm_E (d + 2) 0 cX0_meeting (some .int) 41 [.ref x0, w1, .int q, z3] [] h res) → pm_E (d + 2) 0 cX0_meeting (some .int) 14 [.ref x0, w1, .int x2, .int x3] [] h res := by
  intro n
  induction n with
  | zero =>
    intro x0 x2 x3 w1 h q res hF hw1 hk
    rw [L_X0_meeting_14] at hF
    cases hF
  | succ n ih =>
    intro x0 x2 x3 w1 h q res hF hw1 hk
    rw [L_X0_meeting_14] at hF
    refine pr_iload_n dX0_meeting_14 rfl ?_
    refine pr_bipush (v := 100) dX0_meeting_15 (kb_100) ?_
    refine po_i hF (fun hc hF => ?_) (fun hc hF => ?_)
    · refine pr_icF (tgt := 41) dX0_meeting_17 (by decide) (pc_geF hc) ?_
      refine pr_aload_n dX0_meeting_20 rfl ?_
      refine pr_iload_n dX0_meeting_21 rfl ?_
      obtain ⟨q2, hq2, hF⟩ := po_b hF
      refine po_i hq2 (fun hcl hq => ?_) (fun _ hq => nomatch hq)
      refine pr_V (as := [.int x3]) (rest := []) dX0_meeting_22 cv_0_241 hcl rfl rfl rfl rfl (lb rfl) (lb rfl) (lb rfl) (ok_F_X0_stepsTo hq) ?_
      refine pr_aload_n dX0_meeting_25 rfl ?_
      refine pr_iload_n dX0_meeting_26 rfl ?_
      obtain ⟨q3, hq3, hF⟩ := po_b hF
      refine po_i hq3 (fun hcl hq => ?_) (fun _ hq => nomatch hq)
      refine pr_V (as := [.int x2]) (rest := [.int q2]) dX0_meeting_27 cv_0_241 hcl rfl rfl rfl rfl (lb rfl) (lb rfl) (lb rfl) (ok_F_X0_stepsTo hq) ?_
      refine po_i hF (fun hc hF => ?_) (fun hc hF => ?_)
      · refine pr_icF (tgt := 35) dX0_meeting_30 (by decide) (pc_geF hc) ?_
        refine pr_iload_n dX0_meeting_33 rfl ?_
        refine pr_istore_n (L' := [.ref x0, w1, .int x3, .int x3]) dX0_meeting_34 (pm_st_w (i := 1) rfl rfl hw1 rfl) ?_
        refine pr_iinc (v := 1) (L' := [.ref x0, w1, .int x3, .int (x3 + 1)]) dX0_meeting_35 rfl (kc_1) rfl ?_
        refine pr_goto (tgt := 14) dX0_meeting_38 (by decide) ?_
        exact ih hF hw1 hk
      · refine pr_icT (tgt := 35) dX0_meeting_30 (by decide) (pc_geT hc) ?_
        refine pr_iinc (v := 1) (L' := [.ref x0, w1, .int x2, .int (x3 + 1)]) dX0_meeting_35 rfl (kc_1) rfl ?_
        refine pr_goto (tgt := 14) dX0_meeting_38 (by decide) ?_
        exact ih hF hw1 hk
    · refine pr_icT (tgt := 41) dX0_meeting_17 (by decide) (pc_geT hc) ?_
      cases hF
      exact hk _ rfl
def F_X0_meeting (n : Nat) (h : pm_H) (a0 : Nat) (x1 : Int32) : Option (Int32) :=
  (F_X0_in x1 2).bind fun q1 =>
  if q1 = 0 then
    some (-1)
  else
    (L_X0_meeting_14 n a0 0 1 h).bind fun q4 =>
    if x1 = 0 then
      some q4
    else
      (if pm_cl_ h a0 = some 0 then F_X0_stepsTo n h a0 q4 else none).bind fun q5 =>
      some q5
theorem ok_F_X0_meeting {d n : Nat} {h : pm_H} {a0 : Nat} {x1 : Int32} {q : Int32} (hF : F_X0_meeting n h a0 x1 = some q) : pm_E (d + 2) 0 cX0_meeting (some .int) 0 [.ref a0, .int x1, pm_D, pm_D] [] h (some (.int q), h) := by
  unfold F_X0_meeting at hF
  refine pr_iload_n dX0_meeting_0 rfl ?_
  refine pr_iconst (v := 2) dX0_meeting_1 (kc_2) ?_
  obtain ⟨q1, hq1, hF⟩ := po_b hF
  refine pr_S dX0_meeting_2 cs_0_144 (as := [.int x1, .int 2]) (rest := []) rfl rfl rfl (lb rfl) (lb rfl) (lb rfl) (ok_F_X0_in hq1) ?_
  refine po_i hF (fun hc hF => ?_) (fun hc hF => ?_)
  · refine pr_ifF (tgt := 10) dX0_meeting_5 (by decide) (pc_neF hc) ?_
    refine pr_iconst (v := (-1)) dX0_meeting_8 (kc_m1) ?_
    cases hF
    exact pr_iret dX0_meeting_9 rfl rfl rfl
  · refine pr_ifT (tgt := 10) dX0_meeting_5 (by decide) (pc_neT hc) ?_
    refine pr_iconst (v := 0) dX0_meeting_10 (kc_0) ?_
    refine pr_istore_n (L' := [.ref a0, .int x1, .int 0, pm_D]) dX0_meeting_11 rfl ?_
    refine pr_iconst (v := 1) dX0_meeting_12 (kc_1) ?_
    refine pr_istore_n (L' := [.ref a0, .int x1, .int 0, .int 1]) dX0_meeting_13 rfl ?_
    obtain ⟨q4, hq4, hF⟩ := po_b hF
    refine ok_L_X0_meeting_14 n hq4 rfl (fun z3 hz3 => ?_)
    refine pr_iload_n dX0_meeting_41 rfl ?_
    refine po_i hF (fun hc hF => ?_) (fun hc hF => ?_)
    · refine pr_ifF (tgt := 49) dX0_meeting_42 (by decide) (pc_neF hc) ?_
      refine pr_iload_n dX0_meeting_45 rfl ?_
      refine pr_goto (tgt := 54) dX0_meeting_46 (by decide) ?_
      cases hF
      exact pr_iret dX0_meeting_54 rfl rfl rfl
    · refine pr_ifT (tgt := 49) dX0_meeting_42 (by decide) (pc_neT hc) ?_
      refine pr_aload_n dX0_meeting_49 rfl ?_
      refine pr_iload_n dX0_meeting_50 rfl ?_
      obtain ⟨q5, hq5, hF⟩ := po_b hF
      refine po_i hq5 (fun hcl hq => ?_) (fun _ hq => nomatch hq)
      refine pr_V (as := [.int q4]) (rest := []) dX0_meeting_51 cv_0_241 hcl rfl rfl rfl rfl (lb rfl) (lb rfl) (lb rfl) (ok_F_X0_stepsTo hq) ?_
      cases hF
      exact pr_iret dX0_meeting_54 rfl rfl rfl

def L_X0_between_25 : Nat → Nat → Int32 → Int32 → Int32 → Int32 → pm_H → Option (Int32)
  | 0, _, _, _, _, _, _ => none
  | n + 1, x0, x1, x2, x3, x4, h =>
    if x4 < 16 then
      (pm_fR [(0, 0)] h x0).bind fun v3 =>
      (if pm_cl_ h v3 = some 1 then F_X1_isTold h v3 x4 else none).bind fun q4 =>
      if q4 = 0 then
        L_X0_between_25 n x0 x1 x2 (x3 ||| 0) (x4 + 1) h
      else
        (pm_fR [(0, 0)] h x0).bind fun v5 =>
        (pm_fR [(1, 0)] h v5).bind fun v6 =>
        (pm_ai 0 h v6 x4).bind fun v7 =>
        (F_J2_min x1 x2).bind fun q8 =>
        (F_J2_max x1 x2).bind fun q9 =>
        (F_X0_within v7 q8 q9).bind fun q10 =>
        if q10 = 0 then
          L_X0_between_25 n x0 x1 x2 (x3 ||| 0) (x4 + 1) h
        else
          L_X0_between_25 n x0 x1 x2 (x3 ||| (pm_shl 1 x4)) (x4 + 1) h
    else
      some x3
theorem ok_L_X0_between_25 {d : Nat} : ∀ (n : Nat) {x0 : Nat} {x1 : Int32} {x2 : Int32} {x3 : Int32} {x4 : Int32} {h : pm_H} {q : Int32} {res : Option Value × pm_H}, L_X0_between_25 n x0 x1 x2 x3 x4 h = some q → (∀ z4 : Value, pm_nolong z4 = true → pm_E (d + 1) 0 cX0_between (some .int) 87 [.ref x0, .int x1, .int x2, .int q, z4] [] h res) → pm_E (d + 1) 0 cX0_between (some .int) 25 [.ref x0, .int x1, .int x2, .int x3, .int x4] [] h res := by
  intro n
  induction n with
  | zero =>
    intro x0 x1 x2 x3 x4 h q res hF hk
    rw [L_X0_between_25] at hF
    cases hF
  | succ n ih =>
    intro x0 x1 x2 x3 x4 h q res hF hk
    rw [L_X0_between_25] at hF
    refine pr_iload dX0_between_25 rfl ?_
    refine pr_bipush (v := 16) dX0_between_27 (kb_16) ?_
    refine po_i hF (fun hc hF => ?_) (fun hc hF => ?_)
    · refine pr_icF (tgt := 87) dX0_between_29 (by decide) (pc_geF hc) ?_
      refine pr_iload_n dX0_between_32 rfl ?_
      refine pr_aload_n dX0_between_33 rfl ?_
      obtain ⟨v3, hv3, hF⟩ := po_b hF
      refine pr_getR dX0_between_34 tf_0_16 (hv3) ?_
      refine pr_iload dX0_between_37 rfl ?_
      obtain ⟨q4, hq4, hF⟩ := po_b hF
      refine po_i hq4 (fun hcl hq => ?_) (fun _ hq => nomatch hq)
      refine pr_V (as := [.int x4]) (rest := [.int x3]) dX0_between_39 cv_0_168 hcl rfl rfl rfl rfl (lb rfl) (lb rfl) (lb rfl) (ok_F_X1_isTold hq) ?_
      refine po_i hF (fun hc hF => ?_) (fun hc hF => ?_)
      · refine pr_ifT (tgt := 78) dX0_between_42 (by decide) (pc_eqT hc) ?_
        refine pr_iconst (v := 0) dX0_between_78 (kc_0) ?_
        refine pr_ior dX0_between_79 ?_
        refine pr_istore_n (L' := [.ref x0, .int x1, .int x2, .int (x3 ||| 0), .int x4]) dX0_between_80 rfl ?_
        refine pr_iinc (v := 1) (L' := [.ref x0, .int x1, .int x2, .int (x3 ||| 0), .int (x4 + 1)]) dX0_between_81 rfl (kc_1) rfl ?_
        refine pr_goto (tgt := 25) dX0_between_84 (by decide) ?_
        exact ih hF hk
      · refine pr_ifF (tgt := 78) dX0_between_42 (by decide) (pc_eqF hc) ?_
        refine pr_aload_n dX0_between_45 rfl ?_
        obtain ⟨v5, hv5, hF⟩ := po_b hF
        refine pr_getR dX0_between_46 tf_0_16 (hv5) ?_
        obtain ⟨v6, hv6, hF⟩ := po_b hF
        refine pr_getR dX0_between_49 tf_0_188 (hv6) ?_
        refine pr_iload dX0_between_52 rfl ?_
        obtain ⟨v7, hv7, hF⟩ := po_b hF
        refine pr_iald dX0_between_54 (hv7) ?_
        refine pr_iload_n dX0_between_55 rfl ?_
        refine pr_iload_n dX0_between_56 rfl ?_
        obtain ⟨q8, hq8, hF⟩ := po_b hF
        refine pr_S dX0_between_57 cs_0_1 (as := [.int x1, .int x2]) (rest := [.int v7, .int x3]) rfl rfl rfl (lb rfl) (lb rfl) (lb rfl) (ok_F_J2_min hq8) ?_
        refine pr_iload_n dX0_between_60 rfl ?_
        refine pr_iload_n dX0_between_61 rfl ?_
        obtain ⟨q9, hq9, hF⟩ := po_b hF
        refine pr_S dX0_between_62 cs_0_7 (as := [.int x1, .int x2]) (rest := [.int q8, .int v7, .int x3]) rfl rfl rfl (lb rfl) (lb rfl) (lb rfl) (ok_F_J2_max hq9) ?_
        obtain ⟨q10, hq10, hF⟩ := po_b hF
        refine pr_S dX0_between_65 cs_0_120 (as := [.int v7, .int q8, .int q9]) (rest := [.int x3]) rfl rfl rfl (lb rfl) (lb rfl) (lb rfl) (ok_F_X0_within hq10) ?_
        refine po_i hF (fun hc hF => ?_) (fun hc hF => ?_)
        · refine pr_ifT (tgt := 78) dX0_between_68 (by decide) (pc_eqT hc) ?_
          refine pr_iconst (v := 0) dX0_between_78 (kc_0) ?_
          refine pr_ior dX0_between_79 ?_
          refine pr_istore_n (L' := [.ref x0, .int x1, .int x2, .int (x3 ||| 0), .int x4]) dX0_between_80 rfl ?_
          refine pr_iinc (v := 1) (L' := [.ref x0, .int x1, .int x2, .int (x3 ||| 0), .int (x4 + 1)]) dX0_between_81 rfl (kc_1) rfl ?_
          refine pr_goto (tgt := 25) dX0_between_84 (by decide) ?_
          exact ih hF hk
        · refine pr_ifF (tgt := 78) dX0_between_68 (by decide) (pc_eqF hc) ?_
          refine pr_iconst (v := 1) dX0_between_71 (kc_1) ?_
          refine pr_iload dX0_between_72 rfl ?_
          refine pr_ishl dX0_between_74 ?_
          refine pr_goto (tgt := 79) dX0_between_75 (by decide) ?_
          refine pr_ior dX0_between_79 ?_
          refine pr_istore_n (L' := [.ref x0, .int x1, .int x2, .int (x3 ||| (pm_shl 1 x4)), .int x4]) dX0_between_80 rfl ?_
          refine pr_iinc (v := 1) (L' := [.ref x0, .int x1, .int x2, .int (x3 ||| (pm_shl 1 x4)), .int (x4 + 1)]) dX0_between_81 rfl (kc_1) rfl ?_
          refine pr_goto (tgt := 25) dX0_between_84 (by decide) ?_
          exact ih hF hk
    · refine pr_icT (tgt := 87) dX0_between_29 (by decide) (pc_geT hc) ?_
      cases hF
      exact hk _ rfl
def F_X0_between (n : Nat) (h : pm_H) (a0 : Nat) (x1 : Int32) (x2 : Int32) : Option (Int32) :=
  (F_X0_in x1 100).bind fun q1 =>
  if q1 = 0 then
    some (-1)
  else
    (F_X0_in x2 100).bind fun q2 =>
    if q2 = 0 then
      some (-1)
    else
      (L_X0_between_25 n a0 x1 x2 0 0 h).bind fun q11 =>
      some q11
theorem ok_F_X0_between {d n : Nat} {h : pm_H} {a0 : Nat} {x1 : Int32} {x2 : Int32} {q : Int32} (hF : F_X0_between n h a0 x1 x2 = some q) : pm_E (d + 1) 0 cX0_between (some .int) 0 [.ref a0, .int x1, .int x2, pm_D, pm_D] [] h (some (.int q), h) := by
  unfold F_X0_between at hF
  refine pr_iload_n dX0_between_0 rfl ?_
  refine pr_bipush (v := 100) dX0_between_1 (kb_100) ?_
  obtain ⟨q1, hq1, hF⟩ := po_b hF
  refine pr_S dX0_between_3 cs_0_144 (as := [.int x1, .int 100]) (rest := []) rfl rfl rfl (lb rfl) (lb rfl) (lb rfl) (ok_F_X0_in hq1) ?_
  refine po_i hF (fun hc hF => ?_) (fun hc hF => ?_)
  · refine pr_ifT (tgt := 18) dX0_between_6 (by decide) (pc_eqT hc) ?_
    refine pr_iconst (v := (-1)) dX0_between_18 (kc_m1) ?_
    cases hF
    exact pr_iret dX0_between_19 rfl rfl rfl
  · refine pr_ifF (tgt := 18) dX0_between_6 (by decide) (pc_eqF hc) ?_
    refine pr_iload_n dX0_between_9 rfl ?_
    refine pr_bipush (v := 100) dX0_between_10 (kb_100) ?_
    obtain ⟨q2, hq2, hF⟩ := po_b hF
    refine pr_S dX0_between_12 cs_0_144 (as := [.int x2, .int 100]) (rest := []) rfl rfl rfl (lb rfl) (lb rfl) (lb rfl) (ok_F_X0_in hq2) ?_
    refine po_i hF (fun hc hF => ?_) (fun hc hF => ?_)
    · refine pr_ifF (tgt := 20) dX0_between_15 (by decide) (pc_neF hc) ?_
      refine pr_iconst (v := (-1)) dX0_between_18 (kc_m1) ?_
      cases hF
      exact pr_iret dX0_between_19 rfl rfl rfl
    · refine pr_ifT (tgt := 20) dX0_between_15 (by decide) (pc_neT hc) ?_
      refine pr_iconst (v := 0) dX0_between_20 (kc_0) ?_
      refine pr_istore_n (L' := [.ref a0, .int x1, .int x2, .int 0, pm_D]) dX0_between_21 rfl ?_
      refine pr_iconst (v := 0) dX0_between_22 (kc_0) ?_
      refine pr_istore (L' := [.ref a0, .int x1, .int x2, .int 0, .int 0]) dX0_between_23 rfl ?_
      obtain ⟨q11, hq11, hF⟩ := po_b hF
      refine ok_L_X0_between_25 n hq11 (fun z4 hz4 => ?_)
      refine pr_iload_n dX0_between_87 rfl ?_
      cases hF
      exact pr_iret dX0_between_88 rfl rfl rfl

def L_X0_stretch_21 : Nat → Nat → Int32 → Int32 → Int32 → Int32 → pm_H → Option (Int32 × Int32)
  | 0, _, _, _, _, _, _ => none
  | n + 1, x0, x2, x3, x4, x5, h =>
    if x5 < 100 then
      (if pm_cl_ h x0 = some 0 then F_X0_between n h x0 x5 x5 else none).bind fun q2 =>
      if q2 = 0 then
        L_X0_stretch_21 n x0 x2 x3 x4 (x5 + 1) h
      else
      if x4 = (-1) then
        L_X0_stretch_21 n x0 x2 x3 x5 (x5 + 1) h
      else
      if x2 < (x5 - x4) then
        L_X0_stretch_21 n x0 (x5 - x4) x4 x5 (x5 + 1) h
      else
        L_X0_stretch_21 n x0 x2 x3 x5 (x5 + 1) h
    else
      some (x2, x3)
theorem ok_L_X0_stretch_21 {d : Nat} : ∀ (n : Nat) {x0 : Nat} {x2 : Int32} {x3 : Int32} {x4 : Int32} {x5 : Int32} {w1 : Value} {h : pm_H} {q : Int32 × Int32} {res : Option Value × pm_H}, L_X0_stretch_21 n x0 x2 x3 x4 x5 h = some q → pm_nolong w1 = true → (∀ z4 : Value, pm_nolong z4 = true → ∀ z5 : Value, pm_nolong z5 = true → pm_E (d + 2) 0 cX0_stretch (some .int) 76 [.ref x0, w1, .int q.1, .int q.2, z4, z5] [] h res) → pm_E (d + 2) 0 cX0_stretch (some .int) 21 [.ref x0, w1, .int x2, .int x3, .int x4, .int x5] [] h res := by
  intro n
  induction n with
  | zero =>
    intro x0 x2 x3 x4 x5 w1 h q res hF hw1 hk
    rw [L_X0_stretch_21] at hF
    cases hF
  | succ n ih =>
    intro x0 x2 x3 x4 x5 w1 h q res hF hw1 hk
    rw [L_X0_stretch_21] at hF
    refine pr_iload dX0_stretch_21 rfl ?_
    refine pr_bipush (v := 100) dX0_stretch_23 (kb_100) ?_
    refine po_i hF (fun hc hF => ?_) (fun hc hF => ?_)
    · refine pr_icF (tgt := 76) dX0_stretch_25 (by decide) (pc_geF hc) ?_
      refine pr_aload_n dX0_stretch_28 rfl ?_
      refine pr_iload dX0_stretch_29 rfl ?_
      refine pr_iload dX0_stretch_31 rfl ?_
      obtain ⟨q2, hq2, hF⟩ := po_b hF
      refine po_i hq2 (fun hcl hq => ?_) (fun _ hq => nomatch hq)
      refine pr_V (as := [.int x5, .int x5]) (rest := []) dX0_stretch_33 cv_0_244 hcl rfl rfl rfl rfl (lb rfl) (lb rfl) (lb rfl) (ok_F_X0_between hq) ?_
      refine po_i hF (fun hc hF => ?_) (fun hc hF => ?_)
      · refine pr_ifF (tgt := 42) dX0_stretch_36 (by decide) (pc_neF hc) ?_
        refine pr_goto (tgt := 70) dX0_stretch_39 (by decide) ?_
        refine pr_iinc (v := 1) (L' := [.ref x0, w1, .int x2, .int x3, .int x4, .int (x5 + 1)]) dX0_stretch_70 rfl (kc_1) rfl ?_
        refine pr_goto (tgt := 21) dX0_stretch_73 (by decide) ?_
        exact ih hF hw1 hk
      · refine pr_ifT (tgt := 42) dX0_stretch_36 (by decide) (pc_neT hc) ?_
        refine pr_iload dX0_stretch_42 rfl ?_
        refine pr_iconst (v := (-1)) dX0_stretch_44 (kc_m1) ?_
        refine po_i hF (fun hc hF => ?_) (fun hc hF => ?_)
        · refine pr_icT (tgt := 66) dX0_stretch_45 (by decide) (pc_eqT hc) ?_
          refine pr_iload dX0_stretch_66 rfl ?_
          refine pr_istore (L' := [.ref x0, w1, .int x2, .int x3, .int x5, .int x5]) dX0_stretch_68 rfl ?_
          refine pr_iinc (v := 1) (L' := [.ref x0, w1, .int x2, .int x3, .int x5, .int (x5 + 1)]) dX0_stretch_70 rfl (kc_1) rfl ?_
          refine pr_goto (tgt := 21) dX0_stretch_73 (by decide) ?_
          exact ih hF hw1 hk
        · refine pr_icF (tgt := 66) dX0_stretch_45 (by decide) (pc_eqF hc) ?_
          refine pr_iload dX0_stretch_48 rfl ?_
          refine pr_iload dX0_stretch_50 rfl ?_
          refine pr_isub dX0_stretch_52 ?_
          refine pr_iload_n dX0_stretch_53 rfl ?_
          refine po_i hF (fun hc hF => ?_) (fun hc hF => ?_)
          · refine pr_icF (tgt := 66) dX0_stretch_54 (by decide) (pc_leF hc) ?_
            refine pr_iload dX0_stretch_57 rfl ?_
            refine pr_iload dX0_stretch_59 rfl ?_
            refine pr_isub dX0_stretch_61 ?_
            refine pr_istore_n (L' := [.ref x0, w1, .int (x5 - x4), .int x3, .int x4, .int x5]) dX0_stretch_62 (pm_st_w (i := 1) rfl rfl hw1 rfl) ?_
            refine pr_iload dX0_stretch_63 rfl ?_
            refine pr_istore_n (L' := [.ref x0, w1, .int (x5 - x4), .int x4, .int x4, .int x5]) dX0_stretch_65 rfl ?_
            refine pr_iload dX0_stretch_66 rfl ?_
            refine pr_istore (L' := [.ref x0, w1, .int (x5 - x4), .int x4, .int x5, .int x5]) dX0_stretch_68 rfl ?_
            refine pr_iinc (v := 1) (L' := [.ref x0, w1, .int (x5 - x4), .int x4, .int x5, .int (x5 + 1)]) dX0_stretch_70 rfl (kc_1) rfl ?_
            refine pr_goto (tgt := 21) dX0_stretch_73 (by decide) ?_
            exact ih hF hw1 hk
          · refine pr_icT (tgt := 66) dX0_stretch_54 (by decide) (pc_leT hc) ?_
            refine pr_iload dX0_stretch_66 rfl ?_
            refine pr_istore (L' := [.ref x0, w1, .int x2, .int x3, .int x5, .int x5]) dX0_stretch_68 rfl ?_
            refine pr_iinc (v := 1) (L' := [.ref x0, w1, .int x2, .int x3, .int x5, .int (x5 + 1)]) dX0_stretch_70 rfl (kc_1) rfl ?_
            refine pr_goto (tgt := 21) dX0_stretch_73 (by decide) ?_
            exact ih hF hw1 hk
    · refine pr_icT (tgt := 76) dX0_stretch_25 (by decide) (pc_geT hc) ?_
      cases hF
      exact hk _ rfl _ rfl
def F_X0_stretch (n : Nat) (h : pm_H) (a0 : Nat) (x1 : Int32) : Option (Int32) :=
  (F_X0_in x1 2).bind fun q1 =>
  if q1 = 0 then
    some (-1)
  else
    (L_X0_stretch_21 n a0 0 (-2) (-1) 0 h).bind fun q3 =>
    if x1 = 0 then
      some q3.1
    else
      some q3.2
theorem ok_F_X0_stretch {d n : Nat} {h : pm_H} {a0 : Nat} {x1 : Int32} {q : Int32} (hF : F_X0_stretch n h a0 x1 = some q) : pm_E (d + 2) 0 cX0_stretch (some .int) 0 [.ref a0, .int x1, pm_D, pm_D, pm_D, pm_D] [] h (some (.int q), h) := by
  unfold F_X0_stretch at hF
  refine pr_iload_n dX0_stretch_0 rfl ?_
  refine pr_iconst (v := 2) dX0_stretch_1 (kc_2) ?_
  obtain ⟨q1, hq1, hF⟩ := po_b hF
  refine pr_S dX0_stretch_2 cs_0_144 (as := [.int x1, .int 2]) (rest := []) rfl rfl rfl (lb rfl) (lb rfl) (lb rfl) (ok_F_X0_in hq1) ?_
  refine po_i hF (fun hc hF => ?_) (fun hc hF => ?_)
  · refine pr_ifF (tgt := 10) dX0_stretch_5 (by decide) (pc_neF hc) ?_
    refine pr_iconst (v := (-1)) dX0_stretch_8 (kc_m1) ?_
    cases hF
    exact pr_iret dX0_stretch_9 rfl rfl rfl
  · refine pr_ifT (tgt := 10) dX0_stretch_5 (by decide) (pc_neT hc) ?_
    refine pr_iconst (v := 0) dX0_stretch_10 (kc_0) ?_
    refine pr_istore_n (L' := [.ref a0, .int x1, .int 0, pm_D, pm_D, pm_D]) dX0_stretch_11 rfl ?_
    refine pr_bipush (v := (-2)) dX0_stretch_12 (kb_m2) ?_
    refine pr_istore_n (L' := [.ref a0, .int x1, .int 0, .int (-2), pm_D, pm_D]) dX0_stretch_14 rfl ?_
    refine pr_iconst (v := (-1)) dX0_stretch_15 (kc_m1) ?_
    refine pr_istore (L' := [.ref a0, .int x1, .int 0, .int (-2), .int (-1), pm_D]) dX0_stretch_16 rfl ?_
    refine pr_iconst (v := 0) dX0_stretch_18 (kc_0) ?_
    refine pr_istore (L' := [.ref a0, .int x1, .int 0, .int (-2), .int (-1), .int 0]) dX0_stretch_19 rfl ?_
    obtain ⟨q3, hq3, hF⟩ := po_b hF
    refine ok_L_X0_stretch_21 n hq3 rfl (fun z4 hz4 z5 hz5 => ?_)
    refine pr_iload_n dX0_stretch_76 rfl ?_
    refine po_i hF (fun hc hF => ?_) (fun hc hF => ?_)
    · refine pr_ifF (tgt := 84) dX0_stretch_77 (by decide) (pc_neF hc) ?_
      refine pr_iload_n dX0_stretch_80 rfl ?_
      refine pr_goto (tgt := 85) dX0_stretch_81 (by decide) ?_
      cases hF
      exact pr_iret dX0_stretch_85 rfl rfl rfl
    · refine pr_ifT (tgt := 84) dX0_stretch_77 (by decide) (pc_neT hc) ?_
      refine pr_iload_n dX0_stretch_84 rfl ?_
      cases hF
      exact pr_iret dX0_stretch_85 rfl rfl rfl

def L_X0_inDebt_17 : Nat → Nat → Int32 → Int32 → Int32 → pm_H → Option (Int32)
  | 0, _, _, _, _, _ => none
  | n + 1, x0, x1, x2, x3, h =>
    if x3 < 16 then
      (pm_fR [(0, 0)] h x0).bind fun v3 =>
      (if pm_cl_ h v3 = some 1 then F_X1_isTold h v3 x3 else none).bind fun q4 =>
      if q4 = 0 then
        L_X0_inDebt_17 n x0 x1 (x2 ||| 0) (x3 + 1) h
      else
        (pm_fR [(0, 3)] h x0).bind fun v5 =>
        (pm_fR [(3, 0)] h v5).bind fun v6 =>
        (pm_aR h v6 x1).bind fun v7 =>
        (pm_ai 0 h v7 x3).bind fun v8 =>
        (pm_fR [(0, 3)] h x0).bind fun v9 =>
        (pm_fR [(3, 0)] h v9).bind fun v10 =>
        (pm_aR h v10 x3).bind fun v11 =>
        (pm_ai 0 h v11 x1).bind fun v12 =>
        if v12 < v8 then
          L_X0_inDebt_17 n x0 x1 (x2 ||| (pm_shl 1 x3)) (x3 + 1) h
        else
          L_X0_inDebt_17 n x0 x1 (x2 ||| 0) (x3 + 1) h
    else
      some x2
theorem ok_L_X0_inDebt_17 {d : Nat} : ∀ (n : Nat) {x0 : Nat} {x1 : Int32} {x2 : Int32} {x3 : Int32} {h : pm_H} {q : Int32} {res : Option Value × pm_H}, L_X0_inDebt_17 n x0 x1 x2 x3 h = some q → (∀ z3 : Value, pm_nolong z3 = true → pm_E (d + 1) 0 cX0_inDebt (some .int) 75 [.ref x0, .int x1, .int q, z3] [] h res) → pm_E (d + 1) 0 cX0_inDebt (some .int) 17 [.ref x0, .int x1, .int x2, .int x3] [] h res := by
  intro n
  induction n with
  | zero =>
    intro x0 x1 x2 x3 h q res hF hk
    rw [L_X0_inDebt_17] at hF
    cases hF
  | succ n ih =>
    intro x0 x1 x2 x3 h q res hF hk
    rw [L_X0_inDebt_17] at hF
    refine pr_iload_n dX0_inDebt_17 rfl ?_
    refine pr_bipush (v := 16) dX0_inDebt_18 (kb_16) ?_
    refine po_i hF (fun hc hF => ?_) (fun hc hF => ?_)
    · refine pr_icF (tgt := 75) dX0_inDebt_20 (by decide) (pc_geF hc) ?_
      refine pr_iload_n dX0_inDebt_23 rfl ?_
      refine pr_aload_n dX0_inDebt_24 rfl ?_
      obtain ⟨v3, hv3, hF⟩ := po_b hF
      refine pr_getR dX0_inDebt_25 tf_0_16 (hv3) ?_
      refine pr_iload_n dX0_inDebt_28 rfl ?_
      obtain ⟨q4, hq4, hF⟩ := po_b hF
      refine po_i hq4 (fun hcl hq => ?_) (fun _ hq => nomatch hq)
      refine pr_V (as := [.int x3]) (rest := [.int x2]) dX0_inDebt_29 cv_0_168 hcl rfl rfl rfl rfl (lb rfl) (lb rfl) (lb rfl) (ok_F_X1_isTold hq) ?_
      refine po_i hF (fun hc hF => ?_) (fun hc hF => ?_)
      · refine pr_ifT (tgt := 66) dX0_inDebt_32 (by decide) (pc_eqT hc) ?_
        refine pr_iconst (v := 0) dX0_inDebt_66 (kc_0) ?_
        refine pr_ior dX0_inDebt_67 ?_
        refine pr_istore_n (L' := [.ref x0, .int x1, .int (x2 ||| 0), .int x3]) dX0_inDebt_68 rfl ?_
        refine pr_iinc (v := 1) (L' := [.ref x0, .int x1, .int (x2 ||| 0), .int (x3 + 1)]) dX0_inDebt_69 rfl (kc_1) rfl ?_
        refine pr_goto (tgt := 17) dX0_inDebt_72 (by decide) ?_
        exact ih hF hk
      · refine pr_ifF (tgt := 66) dX0_inDebt_32 (by decide) (pc_eqF hc) ?_
        refine pr_aload_n dX0_inDebt_35 rfl ?_
        obtain ⟨v5, hv5, hF⟩ := po_b hF
        refine pr_getR dX0_inDebt_36 tf_0_63 (hv5) ?_
        obtain ⟨v6, hv6, hF⟩ := po_b hF
        refine pr_getR dX0_inDebt_39 tf_0_197 (hv6) ?_
        refine pr_iload_n dX0_inDebt_42 rfl ?_
        obtain ⟨v7, hv7, hF⟩ := po_b hF
        refine pr_aald dX0_inDebt_43 (hv7) ?_
        refine pr_iload_n dX0_inDebt_44 rfl ?_
        obtain ⟨v8, hv8, hF⟩ := po_b hF
        refine pr_iald dX0_inDebt_45 (hv8) ?_
        refine pr_aload_n dX0_inDebt_46 rfl ?_
        obtain ⟨v9, hv9, hF⟩ := po_b hF
        refine pr_getR dX0_inDebt_47 tf_0_63 (hv9) ?_
        obtain ⟨v10, hv10, hF⟩ := po_b hF
        refine pr_getR dX0_inDebt_50 tf_0_197 (hv10) ?_
        refine pr_iload_n dX0_inDebt_53 rfl ?_
        obtain ⟨v11, hv11, hF⟩ := po_b hF
        refine pr_aald dX0_inDebt_54 (hv11) ?_
        refine pr_iload_n dX0_inDebt_55 rfl ?_
        obtain ⟨v12, hv12, hF⟩ := po_b hF
        refine pr_iald dX0_inDebt_56 (hv12) ?_
        refine po_i hF (fun hc hF => ?_) (fun hc hF => ?_)
        · refine pr_icF (tgt := 66) dX0_inDebt_57 (by decide) (pc_leF hc) ?_
          refine pr_iconst (v := 1) dX0_inDebt_60 (kc_1) ?_
          refine pr_iload_n dX0_inDebt_61 rfl ?_
          refine pr_ishl dX0_inDebt_62 ?_
          refine pr_goto (tgt := 67) dX0_inDebt_63 (by decide) ?_
          refine pr_ior dX0_inDebt_67 ?_
          refine pr_istore_n (L' := [.ref x0, .int x1, .int (x2 ||| (pm_shl 1 x3)), .int x3]) dX0_inDebt_68 rfl ?_
          refine pr_iinc (v := 1) (L' := [.ref x0, .int x1, .int (x2 ||| (pm_shl 1 x3)), .int (x3 + 1)]) dX0_inDebt_69 rfl (kc_1) rfl ?_
          refine pr_goto (tgt := 17) dX0_inDebt_72 (by decide) ?_
          exact ih hF hk
        · refine pr_icT (tgt := 66) dX0_inDebt_57 (by decide) (pc_leT hc) ?_
          refine pr_iconst (v := 0) dX0_inDebt_66 (kc_0) ?_
          refine pr_ior dX0_inDebt_67 ?_
          refine pr_istore_n (L' := [.ref x0, .int x1, .int (x2 ||| 0), .int x3]) dX0_inDebt_68 rfl ?_
          refine pr_iinc (v := 1) (L' := [.ref x0, .int x1, .int (x2 ||| 0), .int (x3 + 1)]) dX0_inDebt_69 rfl (kc_1) rfl ?_
          refine pr_goto (tgt := 17) dX0_inDebt_72 (by decide) ?_
          exact ih hF hk
    · refine pr_icT (tgt := 75) dX0_inDebt_20 (by decide) (pc_geT hc) ?_
      cases hF
      exact hk _ rfl
def F_X0_inDebt (n : Nat) (h : pm_H) (a0 : Nat) (x1 : Int32) : Option (Int32) :=
  (pm_fR [(0, 0)] h a0).bind fun v1 =>
  (if pm_cl_ h v1 = some 1 then F_X1_isTold h v1 x1 else none).bind fun q2 =>
  if q2 = 0 then
    some (-1)
  else
    (L_X0_inDebt_17 n a0 x1 0 0 h).bind fun q13 =>
    some q13
theorem ok_F_X0_inDebt {d n : Nat} {h : pm_H} {a0 : Nat} {x1 : Int32} {q : Int32} (hF : F_X0_inDebt n h a0 x1 = some q) : pm_E (d + 1) 0 cX0_inDebt (some .int) 0 [.ref a0, .int x1, pm_D, pm_D] [] h (some (.int q), h) := by
  unfold F_X0_inDebt at hF
  refine pr_aload_n dX0_inDebt_0 rfl ?_
  obtain ⟨v1, hv1, hF⟩ := po_b hF
  refine pr_getR dX0_inDebt_1 tf_0_16 (hv1) ?_
  refine pr_iload_n dX0_inDebt_4 rfl ?_
  obtain ⟨q2, hq2, hF⟩ := po_b hF
  refine po_i hq2 (fun hcl hq => ?_) (fun _ hq => nomatch hq)
  refine pr_V (as := [.int x1]) (rest := []) dX0_inDebt_5 cv_0_168 hcl rfl rfl rfl rfl (lb rfl) (lb rfl) (lb rfl) (ok_F_X1_isTold hq) ?_
  refine po_i hF (fun hc hF => ?_) (fun hc hF => ?_)
  · refine pr_ifF (tgt := 13) dX0_inDebt_8 (by decide) (pc_neF hc) ?_
    refine pr_iconst (v := (-1)) dX0_inDebt_11 (kc_m1) ?_
    cases hF
    exact pr_iret dX0_inDebt_12 rfl rfl rfl
  · refine pr_ifT (tgt := 13) dX0_inDebt_8 (by decide) (pc_neT hc) ?_
    refine pr_iconst (v := 0) dX0_inDebt_13 (kc_0) ?_
    refine pr_istore_n (L' := [.ref a0, .int x1, .int 0, pm_D]) dX0_inDebt_14 rfl ?_
    refine pr_iconst (v := 0) dX0_inDebt_15 (kc_0) ?_
    refine pr_istore_n (L' := [.ref a0, .int x1, .int 0, .int 0]) dX0_inDebt_16 rfl ?_
    obtain ⟨q13, hq13, hF⟩ := po_b hF
    refine ok_L_X0_inDebt_17 n hq13 (fun z3 hz3 => ?_)
    refine pr_iload_n dX0_inDebt_75 rfl ?_
    cases hF
    exact pr_iret dX0_inDebt_76 rfl rfl rfl
