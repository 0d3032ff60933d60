set_option maxRecDepth 100000
def L_X6_luckless_50 : Nat → Nat → Int32 → Int32 → Int32 → pm_H → Option (Int32)
  | 0, _, _, _, _, _ => none
  | n + 1, x0, x2, x3, x5, h =>
    if x5 < 16 then
      (F_X6_has x2 x5).bind fun q6 =>
      if q6 = 0 then
        L_X6_luckless_50 n x0 x2 x3 (x5 + 1) h
      else
        (pm_fR [(5, 0)] h x0).bind fun v7 =>
        (pm_ai 0 h v7 (0 + x5)).bind fun v8 =>
        (pm_fR [(5, 0)] h x0).bind fun v9 =>
        (pm_ai 0 h v9 (0 + x3)).bind fun v10 =>
        if v10 < v8 then
          L_X6_luckless_50 n x0 x2 x5 (x5 + 1) h
        else
          L_X6_luckless_50 n x0 x2 x3 (x5 + 1) h
    else
      some x3
theorem ok_L_X6_luckless_50 {d : Nat} : ∀ (n : Nat) {x0 : Nat} {x2 : Int32} {x3 : Int32} {x5 : Int32} {w1 w4 : Value} {h : pm_H} {q : Int32} {res : Option Value × pm_H}, L_X6_luckless_50 n x0 x2 x3 x5 h = some q → pm_nolong w1 = true → pm_nolong w4 = true → (∀ z5 : Value, pm_nolong z5 = true → pm_E (d + 2) 6 cX6_luckless (some .int) 95 [.ref x0, w1, .int x2, .int q, w4, z5] [] h res) → pm_E (d + 2) 6 cX6_luckless (some .int) 50 [.ref x0, w1, .int x2, .int x3, w4, .int x5] [] h res := by
  intro n
  induction n with
  | zero =>
    intro x0 x2 x3 x5 w1 w4 h q res hF hw1 hw4 hk
    rw [L_X6_luckless_50] at hF
    cases hF
  | succ n ih =>
    intro x0 x2 x3 x5 w1 w4 h q res hF hw1 hw4 hk
    rw [L_X6_luckless_50] at hF
    refine pr_iload dX6_luckless_50 rfl ?_
    refine pr_bipush (v := 16) dX6_luckless_52 (kb_16) ?_
    refine po_i hF (fun hc hF => ?_) (fun hc hF => ?_)
    · refine pr_icF (tgt := 95) dX6_luckless_54 (by decide) (pc_geF hc) ?_
      refine pr_iload_n dX6_luckless_57 rfl ?_
      refine pr_iload dX6_luckless_58 rfl ?_
      obtain ⟨q6, hq6, hF⟩ := po_b hF
      refine pr_S dX6_luckless_60 cs_6_100 (as := [.int x2, .int x5]) (rest := []) rfl rfl rfl (lb rfl) (lb rfl) (lb rfl) (ok_F_X6_has hq6) ?_
      refine po_i hF (fun hc hF => ?_) (fun hc hF => ?_)
      · refine pr_ifT (tgt := 89) dX6_luckless_63 (by decide) (pc_eqT hc) ?_
        refine pr_iinc (v := 1) (L' := [.ref x0, w1, .int x2, .int x3, w4, .int (x5 + 1)]) dX6_luckless_89 rfl (kc_1) (pm_st_w (i := 4) rfl rfl hw4 rfl) ?_
        refine pr_goto (tgt := 50) dX6_luckless_92 (by decide) ?_
        exact ih hF hw1 hw4 hk
      · refine pr_ifF (tgt := 89) dX6_luckless_63 (by decide) (pc_eqF hc) ?_
        refine pr_aload_n dX6_luckless_66 rfl ?_
        obtain ⟨v7, hv7, hF⟩ := po_b hF
        refine pr_getR dX6_luckless_67 tf_6_7 (hv7) ?_
        refine pr_iconst (v := 0) dX6_luckless_70 (kc_0) ?_
        refine pr_iload dX6_luckless_71 rfl ?_
        refine pr_iadd dX6_luckless_73 ?_
        obtain ⟨v8, hv8, hF⟩ := po_b hF
        refine pr_iald dX6_luckless_74 (hv8) ?_
        refine pr_aload_n dX6_luckless_75 rfl ?_
        obtain ⟨v9, hv9, hF⟩ := po_b hF
        refine pr_getR dX6_luckless_76 tf_6_7 (hv9) ?_
        refine pr_iconst (v := 0) dX6_luckless_79 (kc_0) ?_
        refine pr_iload_n dX6_luckless_80 rfl ?_
        refine pr_iadd dX6_luckless_81 ?_
        obtain ⟨v10, hv10, hF⟩ := po_b hF
        refine pr_iald dX6_luckless_82 (hv10) ?_
        refine po_i hF (fun hc hF => ?_) (fun hc hF => ?_)
        · refine pr_icF (tgt := 89) dX6_luckless_83 (by decide) (pc_leF hc) ?_
          refine pr_iload dX6_luckless_86 rfl ?_
          refine pr_istore_n (L' := [.ref x0, w1, .int x2, .int x5, w4, .int x5]) dX6_luckless_88 rfl ?_
          refine pr_iinc (v := 1) (L' := [.ref x0, w1, .int x2, .int x5, w4, .int (x5 + 1)]) dX6_luckless_89 rfl (kc_1) (pm_st_w (i := 4) rfl rfl hw4 rfl) ?_
          refine pr_goto (tgt := 50) dX6_luckless_92 (by decide) ?_
          exact ih hF hw1 hw4 hk
        · refine pr_icT (tgt := 89) dX6_luckless_83 (by decide) (pc_leT hc) ?_
          refine pr_iinc (v := 1) (L' := [.ref x0, w1, .int x2, .int x3, w4, .int (x5 + 1)]) dX6_luckless_89 rfl (kc_1) (pm_st_w (i := 4) rfl rfl hw4 rfl) ?_
          refine pr_goto (tgt := 50) dX6_luckless_92 (by decide) ?_
          exact ih hF hw1 hw4 hk
    · refine pr_icT (tgt := 95) dX6_luckless_54 (by decide) (pc_geT hc) ?_
      cases hF
      exact hk _ rfl
def L_X6_luckless_36 : Nat → Nat → Int32 → Int32 → Int32 → Int32 → pm_H → Option (Int32)
  | 0, _, _, _, _, _, _ => none
  | n + 1, x0, x1, x2, x3, x4, h =>
    if x1 < x4 then
      some x3
    else
      (F_X6_lowest n x2).bind fun q5 =>
      (L_X6_luckless_50 n x0 x2 q5 q5 h).bind fun q11 =>
      L_X6_luckless_36 n x0 x1 (x2 &&& ((pm_shl 1 q11) ^^^ (-1))) q11 (x4 + 1) h
theorem ok_L_X6_luckless_36 {d : Nat} : ∀ (n : Nat) {x0 : Nat} {x1 : Int32} {x2 : Int32} {x3 : Int32} {x4 : Int32} {w5 : Value} {h : pm_H} {q : Int32} {res : Option Value × pm_H}, L_X6_luckless_36 n x0 x1 x2 x3 x4 h = some q → pm_nolong w5 = true → (∀ z2 : Value, pm_nolong z2 = true → ∀ z4 : Value, pm_nolong z4 = true → ∀ z5 : Value, pm_nolong z5 = true → pm_E (d + 2) 6 cX6_luckless (some .int) 109 [.ref x0, .int x1, z2, .int q, z4, z5] [] h res) → pm_E (d + 2) 6 cX6_luckless (some .int) 36 [.ref x0, .int x1, .int x2, .int x3, .int x4, w5] [] h res := by
  intro n
  induction n with
  | zero =>
    intro x0 x1 x2 x3 x4 w5 h q res hF hw5 hk
    rw [L_X6_luckless_36] at hF
    cases hF
  | succ n ih =>
    intro x0 x1 x2 x3 x4 w5 h q res hF hw5 hk
    rw [L_X6_luckless_36] at hF
    refine pr_iload dX6_luckless_36 rfl ?_
    refine pr_iload_n dX6_luckless_38 rfl ?_
    refine po_i hF (fun hc hF => ?_) (fun hc hF => ?_)
    · refine pr_icT (tgt := 109) dX6_luckless_39 (by decide) (pc_gtT hc) ?_
      cases hF
      exact hk _ rfl _ rfl _ hw5
    · refine pr_icF (tgt := 109) dX6_luckless_39 (by decide) (pc_gtF hc) ?_
      refine pr_iload_n dX6_luckless_42 rfl ?_
      obtain ⟨q5, hq5, hF⟩ := po_b hF
      refine pr_S dX6_luckless_43 cs_6_343 (as := [.int x2]) (rest := []) rfl rfl rfl (lb rfl) (lb rfl) (lb rfl) (ok_F_X6_lowest hq5) ?_
      refine pr_istore_n (L' := [.ref x0, .int x1, .int x2, .int q5, .int x4, w5]) dX6_luckless_46 rfl ?_
      refine pr_iload_n dX6_luckless_47 rfl ?_
      refine pr_istore (L' := [.ref x0, .int x1, .int x2, .int q5, .int x4, .int q5]) dX6_luckless_48 rfl ?_
      obtain ⟨q11, hq11, hF⟩ := po_b hF
      refine ok_L_X6_luckless_50 n hq11 rfl rfl (fun z5 hz5 => ?_)
      refine pr_iload_n dX6_luckless_95 rfl ?_
      refine pr_iconst (v := 1) dX6_luckless_96 (kc_1) ?_
      refine pr_iload_n dX6_luckless_97 rfl ?_
      refine pr_ishl dX6_luckless_98 ?_
      refine pr_iconst (v := (-1)) dX6_luckless_99 (kc_m1) ?_
      refine pr_ixor dX6_luckless_100 ?_
      refine pr_iand dX6_luckless_101 ?_
      refine pr_istore_n (L' := [.ref x0, .int x1, .int (x2 &&& ((pm_shl 1 q11) ^^^ (-1))), .int q11, .int x4, z5]) dX6_luckless_102 rfl ?_
      refine pr_iinc (v := 1) (L' := [.ref x0, .int x1, .int (x2 &&& ((pm_shl 1 q11) ^^^ (-1))), .int q11, .int (x4 + 1), z5]) dX6_luckless_103 rfl (kc_1) rfl ?_
      refine pr_goto (tgt := 36) dX6_luckless_106 (by decide) ?_
      exact ih hF hz5 hk
def F_X6_luckless (n : Nat) (h : pm_H) (a0 : Nat) (x1 : Int32) : Option (Int32) :=
  (F_X6_in x1 0 15).bind fun q1 =>
  if q1 = 0 then
    some (-1)
  else
    (pm_fI [(5, 7)] h a0).bind fun v2 =>
    (F_X6_bits n v2).bind fun q3 =>
    if x1 < q3 then
      (pm_fI [(5, 7)] h a0).bind fun v4 =>
      (L_X6_luckless_36 n a0 x1 v4 (-1) 0 h).bind fun q12 =>
      some q12
    else
      some (-4)
theorem ok_F_X6_luckless {d n : Nat} {h : pm_H} {a0 : Nat} {x1 : Int32} {q : Int32} (hF : F_X6_luckless n h a0 x1 = some q) : pm_E (d + 2) 6 cX6_luckless (some .int) 0 [.ref a0, .int x1, pm_D, pm_D, pm_D, pm_D] [] h (some (.int q), h) := by
  unfold F_X6_luckless at hF
  refine pr_iload_n dX6_luckless_0 rfl ?_
  refine pr_iconst (v := 0) dX6_luckless_1 (kc_0) ?_
  refine pr_bipush (v := 15) dX6_luckless_2 (kb_15) ?_
  obtain ⟨q1, hq1, hF⟩ := po_b hF
  refine pr_S dX6_luckless_4 cs_6_104 (as := [.int x1, .int 0, .int 15]) (rest := []) rfl rfl rfl (lb rfl) (lb rfl) (lb rfl) (ok_F_X6_in hq1) ?_
  refine po_i hF (fun hc hF => ?_) (fun hc hF => ?_)
  · refine pr_ifF (tgt := 12) dX6_luckless_7 (by decide) (pc_neF hc) ?_
    refine pr_iconst (v := (-1)) dX6_luckless_10 (kc_m1) ?_
    cases hF
    exact pr_iret dX6_luckless_11 rfl rfl rfl
  · refine pr_ifT (tgt := 12) dX6_luckless_7 (by decide) (pc_neT hc) ?_
    refine pr_iload_n dX6_luckless_12 rfl ?_
    refine pr_aload_n dX6_luckless_13 rfl ?_
    obtain ⟨v2, hv2, hF⟩ := po_b hF
    refine pr_getI dX6_luckless_14 tf_6_108 (hv2) ?_
    obtain ⟨q3, hq3, hF⟩ := po_b hF
    refine pr_S dX6_luckless_17 cs_6_276 (as := [.int v2]) (rest := [.int x1]) rfl rfl rfl (lb rfl) (lb rfl) (lb rfl) (ok_F_X6_bits hq3) ?_
    refine po_i hF (fun hc hF => ?_) (fun hc hF => ?_)
    · refine pr_icT (tgt := 26) dX6_luckless_20 (by decide) (pc_ltT hc) ?_
      refine pr_aload_n dX6_luckless_26 rfl ?_
      obtain ⟨v4, hv4, hF⟩ := po_b hF
      refine pr_getI dX6_luckless_27 tf_6_108 (hv4) ?_
      refine pr_istore_n (L' := [.ref a0, .int x1, .int v4, pm_D, pm_D, pm_D]) dX6_luckless_30 rfl ?_
      refine pr_iconst (v := (-1)) dX6_luckless_31 (kc_m1) ?_
      refine pr_istore_n (L' := [.ref a0, .int x1, .int v4, .int (-1), pm_D, pm_D]) dX6_luckless_32 rfl ?_
      refine pr_iconst (v := 0) dX6_luckless_33 (kc_0) ?_
      refine pr_istore (L' := [.ref a0, .int x1, .int v4, .int (-1), .int 0, pm_D]) dX6_luckless_34 rfl ?_
      obtain ⟨q12, hq12, hF⟩ := po_b hF
      refine ok_L_X6_luckless_36 n hq12 rfl (fun z2 hz2 z4 hz4 z5 hz5 => ?_)
      refine pr_iload_n dX6_luckless_109 rfl ?_
      cases hF
      exact pr_iret dX6_luckless_110 rfl rfl rfl
    · refine pr_icF (tgt := 26) dX6_luckless_20 (by decide) (pc_ltF hc) ?_
      refine pr_bipush (v := (-4)) dX6_luckless_23 (kb_m4) ?_
      cases hF
      exact pr_iret dX6_luckless_25 rfl rfl rfl

def L_X6_isHouse_2 : Nat → Nat → Int32 → Int32 → pm_H → Option ((Int32) ⊕ (Unit))
  | 0, _, _, _, _ => none
  | n + 1, x0, x1, x2, h =>
    if x2 < 16 then
      (if pm_cl_ h x0 = some 5 then F_X6_isTold h x0 x2 else none).bind fun q1 =>
      if q1 = 0 then
        L_X6_isHouse_2 n x0 x1 (x2 + 1) h
      else
        (pm_fR [(5, 3)] h x0).bind fun v2 =>
        (pm_ai 0 h v2 x2).bind fun v3 =>
        if v3 = x1 then
          some (.inl 1)
        else
          L_X6_isHouse_2 n x0 x1 (x2 + 1) h
    else
      some (.inr ())
theorem ok_L_X6_isHouse_2 {d : Nat} : ∀ (n : Nat) {x0 : Nat} {x1 : Int32} {x2 : Int32} {h : pm_H} {q : (Int32) ⊕ (Unit)} {res : Option Value × pm_H}, L_X6_isHouse_2 n x0 x1 x2 h = some q → (∀ r, q = .inl r → res = (some (.int r), h)) → (∀ e, q = .inr e → ∀ z2 : Value, pm_nolong z2 = true → pm_E (d + 2) 6 cX6_isHouse (some .boolean) 34 [.ref x0, .int x1, z2] [] h res) → pm_E (d + 2) 6 cX6_isHouse (some .boolean) 2 [.ref x0, .int x1, .int x2] [] h res := by
  intro n
  induction n with
  | zero =>
    intro x0 x1 x2 h q res hF hr hk
    rw [L_X6_isHouse_2] at hF
    cases hF
  | succ n ih =>
    intro x0 x1 x2 h q res hF hr hk
    rw [L_X6_isHouse_2] at hF
    refine pr_iload_n dX6_isHouse_2 rfl ?_
    refine pr_bipush (v := 16) dX6_isHouse_3 (kb_16) ?_
    refine po_i hF (fun hc hF => ?_) (fun hc hF => ?_)
    · refine pr_icF (tgt := 34) dX6_isHouse_5 (by decide) (pc_geF hc) ?_
      refine pr_aload_n dX6_isHouse_8 rfl ?_
      refine pr_iload_n dX6_isHouse_9 rfl ?_
      obtain ⟨q1, hq1, hF⟩ := po_b hF
      refine po_i hq1 (fun hcl hq => ?_) (fun _ hq => nomatch hq)
      refine pr_V (as := [.int x2]) (rest := []) dX6_isHouse_10 cv_6_233 hcl rfl rfl rfl rfl (lb rfl) (lb rfl) (lb rfl) (ok_F_X6_isTold hq) ?_
      refine po_i hF (fun hc hF => ?_) (fun hc hF => ?_)
      · refine pr_ifT (tgt := 28) dX6_isHouse_13 (by decide) (pc_eqT hc) ?_
        refine pr_iinc (v := 1) (L' := [.ref x0, .int x1, .int (x2 + 1)]) dX6_isHouse_28 rfl (kc_1) rfl ?_
        refine pr_goto (tgt := 2) dX6_isHouse_31 (by decide) ?_
        exact ih hF hr hk
      · refine pr_ifF (tgt := 28) dX6_isHouse_13 (by decide) (pc_eqF hc) ?_
        refine pr_aload_n dX6_isHouse_16 rfl ?_
        obtain ⟨v2, hv2, hF⟩ := po_b hF
        refine pr_getR dX6_isHouse_17 tf_6_19 (hv2) ?_
        refine pr_iload_n dX6_isHouse_20 rfl ?_
        obtain ⟨v3, hv3, hF⟩ := po_b hF
        refine pr_iald dX6_isHouse_21 (hv3) ?_
        refine pr_iload_n dX6_isHouse_22 rfl ?_
        refine po_i hF (fun hc hF => ?_) (fun hc hF => ?_)
        · refine pr_icF (tgt := 28) dX6_isHouse_23 (by decide) (pc_neF hc) ?_
          refine pr_iconst (v := 1) dX6_isHouse_26 (kc_1) ?_
          cases hF
          exact pr_iret dX6_isHouse_27 rfl nb_1 (hr _ rfl)
        · refine pr_icT (tgt := 28) dX6_isHouse_23 (by decide) (pc_neT hc) ?_
          refine pr_iinc (v := 1) (L' := [.ref x0, .int x1, .int (x2 + 1)]) dX6_isHouse_28 rfl (kc_1) rfl ?_
          refine pr_goto (tgt := 2) dX6_isHouse_31 (by decide) ?_
          exact ih hF hr hk
    · refine pr_icT (tgt := 34) dX6_isHouse_5 (by decide) (pc_geT hc) ?_
      cases hF
      exact hk _ rfl _ rfl
def F_X6_isHouse (n : Nat) (h : pm_H) (a0 : Nat) (x1 : Int32) : Option (Int32) :=
  (L_X6_isHouse_2 n a0 x1 0 h).bind fun q4 => po_s q4 (fun r => some r) fun e5 =>
  some 0
theorem ok_F_X6_isHouse {d n : Nat} {h : pm_H} {a0 : Nat} {x1 : Int32} {q : Int32} (hF : F_X6_isHouse n h a0 x1 = some q) : pm_E (d + 2) 6 cX6_isHouse (some .boolean) 0 [.ref a0, .int x1, pm_D] [] h (some (.int q), h) := by
  unfold F_X6_isHouse at hF
  refine pr_iconst (v := 0) dX6_isHouse_0 (kc_0) ?_
  refine pr_istore_n (L' := [.ref a0, .int x1, .int 0]) dX6_isHouse_1 rfl ?_
  obtain ⟨q4, hq4, hF⟩ := po_b hF
  refine ok_L_X6_isHouse_2 n hq4 (fun r hq => ?_) (fun e5 hq z2 hz2 => ?_)
  · subst hq
    replace hF := po_sl hF
    cases hF
    exact rfl
  subst hq
  replace hF := po_sr hF
  refine pr_iconst (v := 0) dX6_isHouse_34 (kc_0) ?_
  cases hF
  exact pr_iret dX6_isHouse_35 rfl nb_0 rfl

def L_X6_stretch_22 : Nat → Nat → Int32 → Int32 → Int32 → Int32 → pm_H → Option (Int32 × Int32)
  | 0, _, _, _, _, _, _ => none
  | n + 1, x0, x2, x3, x4, x5, h =>
    if 99 < x5 then
      some (x2, x3)
    else
      (if pm_cl_ h x0 = some 5 then F_X6_isHouse n h x0 x5 else none).bind fun q2 =>
      if q2 = 0 then
        L_X6_stretch_22 n x0 x2 x3 x4 (x5 + 1) h
      else
      if x4 = (-1) then
        L_X6_stretch_22 n x0 x2 x3 x5 (x5 + 1) h
      else
      if x2 < (x5 - x4) then
        L_X6_stretch_22 n x0 (x5 - x4) x4 x5 (x5 + 1) h
      else
        L_X6_stretch_22 n x0 x2 x3 x5 (x5 + 1) h
theorem ok_L_X6_stretch_22 {d : Nat} : ∀ (n : Nat) {x0 : Nat} {x2 : Int32} {x3 : Int32} {x4 : Int32} {x5 : Int32} {w1 : Value} {h : pm_H} {q : Int32 × Int32} {res : Option Value × pm_H}, L_X6_stretch_22 n x0 x2 x3 x4 x5 h = some q → pm_nolong w1 = true → (∀ z4 : Value, pm_nolong z4 = true → ∀ z5 : Value, pm_nolong z5 = true → pm_E (d + 3) 6 cX6_stretch (some .int) 75 [.ref x0, w1, .int q.1, .int q.2, z4, z5] [] h res) → pm_E (d + 3) 6 cX6_stretch (some .int) 22 [.ref x0, w1, .int x2, .int x3, .int x4, .int x5] [] h res := by
  intro n
  induction n with
  | zero =>
    intro x0 x2 x3 x4 x5 w1 h q res hF hw1 hk
    rw [L_X6_stretch_22] at hF
    cases hF
  | succ n ih =>
    intro x0 x2 x3 x4 x5 w1 h q res hF hw1 hk
    rw [L_X6_stretch_22] at hF
    refine pr_iload dX6_stretch_22 rfl ?_
    refine pr_bipush (v := 99) dX6_stretch_24 (kb_99) ?_
    refine po_i hF (fun hc hF => ?_) (fun hc hF => ?_)
    · refine pr_icT (tgt := 75) dX6_stretch_26 (by decide) (pc_gtT hc) ?_
      cases hF
      exact hk _ rfl _ rfl
    · refine pr_icF (tgt := 75) dX6_stretch_26 (by decide) (pc_gtF hc) ?_
      refine pr_aload_n dX6_stretch_29 rfl ?_
      refine pr_iload dX6_stretch_30 rfl ?_
      obtain ⟨q2, hq2, hF⟩ := po_b hF
      refine po_i hq2 (fun hcl hq => ?_) (fun _ hq => nomatch hq)
      refine pr_V (as := [.int x5]) (rest := []) dX6_stretch_32 cv_6_371 hcl rfl rfl rfl rfl (lb rfl) (lb rfl) (lb rfl) (ok_F_X6_isHouse hq) ?_
      refine po_i hF (fun hc hF => ?_) (fun hc hF => ?_)
      · refine pr_ifF (tgt := 41) dX6_stretch_35 (by decide) (pc_neF hc) ?_
        refine pr_goto (tgt := 69) dX6_stretch_38 (by decide) ?_
        refine pr_iinc (v := 1) (L' := [.ref x0, w1, .int x2, .int x3, .int x4, .int (x5 + 1)]) dX6_stretch_69 rfl (kc_1) rfl ?_
        refine pr_goto (tgt := 22) dX6_stretch_72 (by decide) ?_
        exact ih hF hw1 hk
      · refine pr_ifT (tgt := 41) dX6_stretch_35 (by decide) (pc_neT hc) ?_
        refine pr_iload dX6_stretch_41 rfl ?_
        refine pr_iconst (v := (-1)) dX6_stretch_43 (kc_m1) ?_
        refine po_i hF (fun hc hF => ?_) (fun hc hF => ?_)
        · refine pr_icT (tgt := 65) dX6_stretch_44 (by decide) (pc_eqT hc) ?_
          refine pr_iload dX6_stretch_65 rfl ?_
          refine pr_istore (L' := [.ref x0, w1, .int x2, .int x3, .int x5, .int x5]) dX6_stretch_67 rfl ?_
          refine pr_iinc (v := 1) (L' := [.ref x0, w1, .int x2, .int x3, .int x5, .int (x5 + 1)]) dX6_stretch_69 rfl (kc_1) rfl ?_
          refine pr_goto (tgt := 22) dX6_stretch_72 (by decide) ?_
          exact ih hF hw1 hk
        · refine pr_icF (tgt := 65) dX6_stretch_44 (by decide) (pc_eqF hc) ?_
          refine pr_iload dX6_stretch_47 rfl ?_
          refine pr_iload dX6_stretch_49 rfl ?_
          refine pr_isub dX6_stretch_51 ?_
          refine pr_iload_n dX6_stretch_52 rfl ?_
          refine po_i hF (fun hc hF => ?_) (fun hc hF => ?_)
          · refine pr_icF (tgt := 65) dX6_stretch_53 (by decide) (pc_leF hc) ?_
            refine pr_iload dX6_stretch_56 rfl ?_
            refine pr_iload dX6_stretch_58 rfl ?_
            refine pr_isub dX6_stretch_60 ?_
            refine pr_istore_n (L' := [.ref x0, w1, .int (x5 - x4), .int x3, .int x4, .int x5]) dX6_stretch_61 (pm_st_w (i := 1) rfl rfl hw1 rfl) ?_
            refine pr_iload dX6_stretch_62 rfl ?_
            refine pr_istore_n (L' := [.ref x0, w1, .int (x5 - x4), .int x4, .int x4, .int x5]) dX6_stretch_64 rfl ?_
            refine pr_iload dX6_stretch_65 rfl ?_
            refine pr_istore (L' := [.ref x0, w1, .int (x5 - x4), .int x4, .int x5, .int x5]) dX6_stretch_67 rfl ?_
            refine pr_iinc (v := 1) (L' := [.ref x0, w1, .int (x5 - x4), .int x4, .int x5, .int (x5 + 1)]) dX6_stretch_69 rfl (kc_1) rfl ?_
            refine pr_goto (tgt := 22) dX6_stretch_72 (by decide) ?_
            exact ih hF hw1 hk
          · refine pr_icT (tgt := 65) dX6_stretch_53 (by decide) (pc_leT hc) ?_
            refine pr_iload dX6_stretch_65 rfl ?_
            refine pr_istore (L' := [.ref x0, w1, .int x2, .int x3, .int x5, .int x5]) dX6_stretch_67 rfl ?_
            refine pr_iinc (v := 1) (L' := [.ref x0, w1, .int x2, .int x3, .int x5, .int (x5 + 1)]) dX6_stretch_69 rfl (kc_1) rfl ?_
            refine pr_goto (tgt := 22) dX6_stretch_72 (by decide) ?_
            exact ih hF hw1 hk
def F_X6_stretch (n : Nat) (h : pm_H) (a0 : Nat) (x1 : Int32) : Option (Int32) :=
  (F_X6_in x1 0 1).bind fun q1 =>
  if q1 = 0 then
    some (-1)
  else
    (L_X6_stretch_22 n a0 0 (-2) (-1) 0 h).bind fun q3 =>
    if x1 = 0 then
      some q3.1
    else
      some q3.2
theorem ok_F_X6_stretch {d n : Nat} {h : pm_H} {a0 : Nat} {x1 : Int32} {q : Int32} (hF : F_X6_stretch n h a0 x1 = some q) : pm_E (d + 3) 6 cX6_stretch (some .int) 0 [.ref a0, .int x1, pm_D, pm_D, pm_D, pm_D] [] h (some (.int q), h) := by
  unfold F_X6_stretch at hF
  refine pr_iload_n dX6_stretch_0 rfl ?_
  refine pr_iconst (v := 0) dX6_stretch_1 (kc_0) ?_
  refine pr_iconst (v := 1) dX6_stretch_2 (kc_1) ?_
  obtain ⟨q1, hq1, hF⟩ := po_b hF
  refine pr_S dX6_stretch_3 cs_6_104 (as := [.int x1, .int 0, .int 1]) (rest := []) rfl rfl rfl (lb rfl) (lb rfl) (lb rfl) (ok_F_X6_in hq1) ?_
  refine po_i hF (fun hc hF => ?_) (fun hc hF => ?_)
  · refine pr_ifF (tgt := 11) dX6_stretch_6 (by decide) (pc_neF hc) ?_
    refine pr_iconst (v := (-1)) dX6_stretch_9 (kc_m1) ?_
    cases hF
    exact pr_iret dX6_stretch_10 rfl rfl rfl
  · refine pr_ifT (tgt := 11) dX6_stretch_6 (by decide) (pc_neT hc) ?_
    refine pr_iconst (v := 0) dX6_stretch_11 (kc_0) ?_
    refine pr_istore_n (L' := [.ref a0, .int x1, .int 0, pm_D, pm_D, pm_D]) dX6_stretch_12 rfl ?_
    refine pr_bipush (v := (-2)) dX6_stretch_13 (kb_m2) ?_
    refine pr_istore_n (L' := [.ref a0, .int x1, .int 0, .int (-2), pm_D, pm_D]) dX6_stretch_15 rfl ?_
    refine pr_iconst (v := (-1)) dX6_stretch_16 (kc_m1) ?_
    refine pr_istore (L' := [.ref a0, .int x1, .int 0, .int (-2), .int (-1), pm_D]) dX6_stretch_17 rfl ?_
    refine pr_iconst (v := 0) dX6_stretch_19 (kc_0) ?_
    refine pr_istore (L' := [.ref a0, .int x1, .int 0, .int (-2), .int (-1), .int 0]) dX6_stretch_20 rfl ?_
    obtain ⟨q3, hq3, hF⟩ := po_b hF
    refine ok_L_X6_stretch_22 n hq3 rfl (fun z4 hz4 z5 hz5 => ?_)
    refine pr_iload_n dX6_stretch_75 rfl ?_
    refine po_i hF (fun hc hF => ?_) (fun hc hF => ?_)
    · refine pr_ifF (tgt := 83) dX6_stretch_76 (by decide) (pc_neF hc) ?_
      refine pr_iload_n dX6_stretch_79 rfl ?_
      refine pr_goto (tgt := 84) dX6_stretch_80 (by decide) ?_
      cases hF
      exact pr_iret dX6_stretch_84 rfl rfl rfl
    · refine pr_ifT (tgt := 83) dX6_stretch_76 (by decide) (pc_neT hc) ?_
      refine pr_iload_n dX6_stretch_83 rfl ?_
      cases hF
      exact pr_iret dX6_stretch_84 rfl rfl rfl

def L_X6_inDebt_14 : Nat → Nat → Int32 → Int32 → Int32 → pm_H → Option (Int32)
  | 0, _, _, _, _, _ => none
  | n + 1, x0, x1, x2, x3, h =>
    if x3 < 16 then
      (if pm_cl_ h x0 = some 5 then F_X6_isTold h x0 x3 else none).bind fun q2 =>
      if q2 = 0 then
        L_X6_inDebt_14 n x0 x1 x2 (x3 + 1) h
      else
        (if pm_cl_ h x0 = some 5 then F_X6_favoursOf h x0 x1 x3 else none).bind fun q3 =>
        (if pm_cl_ h x0 = some 5 then F_X6_favoursOf h x0 x3 x1 else none).bind fun q4 =>
        if q4 < q3 then
          L_X6_inDebt_14 n x0 x1 (x2 ||| (pm_shl 1 x3)) (x3 + 1) h
        else
          L_X6_inDebt_14 n x0 x1 x2 (x3 + 1) h
    else
      some x2
theorem ok_L_X6_inDebt_14 {d : Nat} : ∀ (n : Nat) {x0 : Nat} {x1 : Int32} {x2 : Int32} {x3 : Int32} {h : pm_H} {q : Int32} {res : Option Value × pm_H}, L_X6_inDebt_14 n x0 x1 x2 x3 h = some q → (∀ z3 : Value, pm_nolong z3 = true → pm_E (d + 2) 6 cX6_inDebt (some .int) 55 [.ref x0, .int x1, .int q, z3] [] h res) → pm_E (d + 2) 6 cX6_inDebt (some .int) 14 [.ref x0, .int x1, .int x2, .int x3] [] h res := by
  intro n
  induction n with
  | zero =>
    intro x0 x1 x2 x3 h q res hF hk
    rw [L_X6_inDebt_14] at hF
    cases hF
  | succ n ih =>
    intro x0 x1 x2 x3 h q res hF hk
    rw [L_X6_inDebt_14] at hF
    refine pr_iload_n dX6_inDebt_14 rfl ?_
    refine pr_bipush (v := 16) dX6_inDebt_15 (kb_16) ?_
    refine po_i hF (fun hc hF => ?_) (fun hc hF => ?_)
    · refine pr_icF (tgt := 55) dX6_inDebt_17 (by decide) (pc_geF hc) ?_
      refine pr_aload_n dX6_inDebt_20 rfl ?_
      refine pr_iload_n dX6_inDebt_21 rfl ?_
      obtain ⟨q2, hq2, hF⟩ := po_b hF
      refine po_i hq2 (fun hcl hq => ?_) (fun _ hq => nomatch hq)
      refine pr_V (as := [.int x3]) (rest := []) dX6_inDebt_22 cv_6_233 hcl rfl rfl rfl rfl (lb rfl) (lb rfl) (lb rfl) (ok_F_X6_isTold hq) ?_
      refine po_i hF (fun hc hF => ?_) (fun hc hF => ?_)
      · refine pr_ifT (tgt := 49) dX6_inDebt_25 (by decide) (pc_eqT hc) ?_
        refine pr_iinc (v := 1) (L' := [.ref x0, .int x1, .int x2, .int (x3 + 1)]) dX6_inDebt_49 rfl (kc_1) rfl ?_
        refine pr_goto (tgt := 14) dX6_inDebt_52 (by decide) ?_
        exact ih hF hk
      · refine pr_ifF (tgt := 49) dX6_inDebt_25 (by decide) (pc_eqF hc) ?_
        refine pr_aload_n dX6_inDebt_28 rfl ?_
        refine pr_iload_n dX6_inDebt_29 rfl ?_
        refine pr_iload_n dX6_inDebt_30 rfl ?_
        obtain ⟨q3, hq3, hF⟩ := po_b hF
        refine po_i hq3 (fun hcl hq => ?_) (fun _ hq => nomatch hq)
        refine pr_V (as := [.int x1, .int x3]) (rest := []) dX6_inDebt_31 cv_6_285 hcl rfl rfl rfl rfl (lb rfl) (lb rfl) (lb rfl) (ok_F_X6_favoursOf hq) ?_
        refine pr_aload_n dX6_inDebt_34 rfl ?_
        refine pr_iload_n dX6_inDebt_35 rfl ?_
        refine pr_iload_n dX6_inDebt_36 rfl ?_
        obtain ⟨q4, hq4, hF⟩ := po_b hF
        refine po_i hq4 (fun hcl hq => ?_) (fun _ hq => nomatch hq)
        refine pr_V (as := [.int x3, .int x1]) (rest := [.int q3]) dX6_inDebt_37 cv_6_285 hcl rfl rfl rfl rfl (lb rfl) (lb rfl) (lb rfl) (ok_F_X6_favoursOf hq) ?_
        refine po_i hF (fun hc hF => ?_) (fun hc hF => ?_)
        · refine pr_icF (tgt := 49) dX6_inDebt_40 (by decide) (pc_leF hc) ?_
          refine pr_iload_n dX6_inDebt_43 rfl ?_
          refine pr_iconst (v := 1) dX6_inDebt_44 (kc_1) ?_
          refine pr_iload_n dX6_inDebt_45 rfl ?_
          refine pr_ishl dX6_inDebt_46 ?_
          refine pr_ior dX6_inDebt_47 ?_
          refine pr_istore_n (L' := [.ref x0, .int x1, .int (x2 ||| (pm_shl 1 x3)), .int x3]) dX6_inDebt_48 rfl ?_
          refine pr_iinc (v := 1) (L' := [.ref x0, .int x1, .int (x2 ||| (pm_shl 1 x3)), .int (x3 + 1)]) dX6_inDebt_49 rfl (kc_1) rfl ?_
          refine pr_goto (tgt := 14) dX6_inDebt_52 (by decide) ?_
          exact ih hF hk
        · refine pr_icT (tgt := 49) dX6_inDebt_40 (by decide) (pc_leT hc) ?_
          refine pr_iinc (v := 1) (L' := [.ref x0, .int x1, .int x2, .int (x3 + 1)]) dX6_inDebt_49 rfl (kc_1) rfl ?_
          refine pr_goto (tgt := 14) dX6_inDebt_52 (by decide) ?_
          exact ih hF hk
    · refine pr_icT (tgt := 55) dX6_inDebt_17 (by decide) (pc_geT hc) ?_
      cases hF
      exact hk _ rfl
def F_X6_inDebt (n : Nat) (h : pm_H) (a0 : Nat) (x1 : Int32) : Option (Int32) :=
  (if pm_cl_ h a0 = some 5 then F_X6_isTold h a0 x1 else none).bind fun q1 =>
  if q1 = 0 then
    some (-1)
  else
    (L_X6_inDebt_14 n a0 x1 0 0 h).bind fun q5 =>
    some q5
theorem ok_F_X6_inDebt {d n : Nat} {h : pm_H} {a0 : Nat} {x1 : Int32} {q : Int32} (hF : F_X6_inDebt n h a0 x1 = some q) : pm_E (d + 2) 6 cX6_inDebt (some .int) 0 [.ref a0, .int x1, pm_D, pm_D] [] h (some (.int q), h) := by
  unfold F_X6_inDebt at hF
  refine pr_aload_n dX6_inDebt_0 rfl ?_
  refine pr_iload_n dX6_inDebt_1 rfl ?_
  obtain ⟨q1, hq1, hF⟩ := po_b hF
  refine po_i hq1 (fun hcl hq => ?_) (fun _ hq => nomatch hq)
  refine pr_V (as := [.int x1]) (rest := []) dX6_inDebt_2 cv_6_233 hcl rfl rfl rfl rfl (lb rfl) (lb rfl) (lb rfl) (ok_F_X6_isTold hq) ?_
  refine po_i hF (fun hc hF => ?_) (fun hc hF => ?_)
  · refine pr_ifF (tgt := 10) dX6_inDebt_5 (by decide) (pc_neF hc) ?_
    refine pr_iconst (v := (-1)) dX6_inDebt_8 (kc_m1) ?_
    cases hF
    exact pr_iret dX6_inDebt_9 rfl rfl rfl
  · refine pr_ifT (tgt := 10) dX6_inDebt_5 (by decide) (pc_neT hc) ?_
    refine pr_iconst (v := 0) dX6_inDebt_10 (kc_0) ?_
    refine pr_istore_n (L' := [.ref a0, .int x1, .int 0, pm_D]) dX6_inDebt_11 rfl ?_
    refine pr_iconst (v := 0) dX6_inDebt_12 (kc_0) ?_
    refine pr_istore_n (L' := [.ref a0, .int x1, .int 0, .int 0]) dX6_inDebt_13 rfl ?_
    obtain ⟨q5, hq5, hF⟩ := po_b hF
    refine ok_L_X6_inDebt_14 n hq5 (fun z3 hz3 => ?_)
    refine pr_iload_n dX6_inDebt_55 rfl ?_
    cases hF
    exact pr_iret dX6_inDebt_56 rfl rfl rfl

def L_X6_stepsTo_4 : Nat → Nat → Int32 → Int32 → Int32 → pm_H → Option (Int32)
  | 0, _, _, _, _, _ => none
  | n + 1, x0, x1, x2, x3, h =>
    if x3 < 16 then
      (if pm_cl_ h x0 = some 5 then F_X6_isTold h x0 x3 else none).bind fun q1 =>
      if q1 = 0 then
        L_X6_stepsTo_4 n x0 x1 x2 (x3 + 1) h
      else
        (pm_fR [(5, 3)] h x0).bind fun v2 =>
        (pm_ai 0 h v2 x3).bind fun v3 =>
        (F_X6_size (v3 - x1)).bind fun q4 =>
        L_X6_stepsTo_4 n x0 x1 (x2 + q4) (x3 + 1) h
    else
      some x2
theorem ok_L_X6_stepsTo_4 {d : Nat} : ∀ (n : Nat) {x0 : Nat} {x1 : Int32} {x2 : Int32} {x3 : Int32} {h : pm_H} {q : Int32} {res : Option Value × pm_H}, L_X6_stepsTo_4 n x0 x1 x2 x3 h = some q → (∀ z3 : Value, pm_nolong z3 = true → pm_E (d + 2) 6 cX6_stepsTo (some .int) 38 [.ref x0, .int x1, .int q, z3] [] h res) → pm_E (d + 2) 6 cX6_stepsTo (some .int) 4 [.ref x0, .int x1, .int x2, .int x3] [] h res := by
  intro n
  induction n with
  | zero =>
    intro x0 x1 x2 x3 h q res hF hk
    rw [L_X6_stepsTo_4] at hF
    cases hF
  | succ n ih =>
    intro x0 x1 x2 x3 h q res hF hk
    rw [L_X6_stepsTo_4] at hF
    refine pr_iload_n dX6_stepsTo_4 rfl ?_
    refine pr_bipush (v := 16) dX6_stepsTo_5 (kb_16) ?_
    refine po_i hF (fun hc hF => ?_) (fun hc hF => ?_)
    · refine pr_icF (tgt := 38) dX6_stepsTo_7 (by decide) (pc_geF hc) ?_
      refine pr_aload_n dX6_stepsTo_10 rfl ?_
      refine pr_iload_n dX6_stepsTo_11 rfl ?_
      obtain ⟨q1, hq1, hF⟩ := po_b hF
      refine po_i hq1 (fun hcl hq => ?_) (fun _ hq => nomatch hq)
      refine pr_V (as := [.int x3]) (rest := []) dX6_stepsTo_12 cv_6_233 hcl rfl rfl rfl rfl (lb rfl) (lb rfl) (lb rfl) (ok_F_X6_isTold hq) ?_
      refine po_i hF (fun hc hF => ?_) (fun hc hF => ?_)
      · refine pr_ifT (tgt := 32) dX6_stepsTo_15 (by decide) (pc_eqT hc) ?_
        refine pr_iinc (v := 1) (L' := [.ref x0, .int x1, .int x2, .int (x3 + 1)]) dX6_stepsTo_32 rfl (kc_1) rfl ?_
        refine pr_goto (tgt := 4) dX6_stepsTo_35 (by decide) ?_
        exact ih hF hk
      · refine pr_ifF (tgt := 32) dX6_stepsTo_15 (by decide) (pc_eqF hc) ?_
        refine pr_iload_n dX6_stepsTo_18 rfl ?_
        refine pr_aload_n dX6_stepsTo_19 rfl ?_
        obtain ⟨v2, hv2, hF⟩ := po_b hF
        refine pr_getR dX6_stepsTo_20 tf_6_19 (hv2) ?_
        refine pr_iload_n dX6_stepsTo_23 rfl ?_
        obtain ⟨v3, hv3, hF⟩ := po_b hF
        refine pr_iald dX6_stepsTo_24 (hv3) ?_
        refine pr_iload_n dX6_stepsTo_25 rfl ?_
        refine pr_isub dX6_stepsTo_26 ?_
        obtain ⟨q4, hq4, hF⟩ := po_b hF
        refine pr_S dX6_stepsTo_27 cs_6_112 (as := [.int (v3 - x1)]) (rest := [.int x2]) rfl rfl rfl (lb rfl) (lb rfl) (lb rfl) (ok_F_X6_size hq4) ?_
        refine pr_iadd dX6_stepsTo_30 ?_
        refine pr_istore_n (L' := [.ref x0, .int x1, .int (x2 + q4), .int x3]) dX6_stepsTo_31 rfl ?_
        refine pr_iinc (v := 1) (L' := [.ref x0, .int x1, .int (x2 + q4), .int (x3 + 1)]) dX6_stepsTo_32 rfl (kc_1) rfl ?_
        refine pr_goto (tgt := 4) dX6_stepsTo_35 (by decide) ?_
        exact ih hF hk
    · refine pr_icT (tgt := 38) dX6_stepsTo_7 (by decide) (pc_geT hc) ?_
      cases hF
      exact hk _ rfl
def F_X6_stepsTo (n : Nat) (h : pm_H) (a0 : Nat) (x1 : Int32) : Option (Int32) :=
  (L_X6_stepsTo_4 n a0 x1 0 0 h).bind fun q5 =>
  some q5
theorem ok_F_X6_stepsTo {d n : Nat} {h : pm_H} {a0 : Nat} {x1 : Int32} {q : Int32} (hF : F_X6_stepsTo n h a0 x1 = some q) : pm_E (d + 2) 6 cX6_stepsTo (some .int) 0 [.ref a0, .int x1, pm_D, pm_D] [] h (some (.int q), h) := by
  unfold F_X6_stepsTo at hF
  refine pr_iconst (v := 0) dX6_stepsTo_0 (kc_0) ?_
  refine pr_istore_n (L' := [.ref a0, .int x1, .int 0, pm_D]) dX6_stepsTo_1 rfl ?_
  refine pr_iconst (v := 0) dX6_stepsTo_2 (kc_0) ?_
  refine pr_istore_n (L' := [.ref a0, .int x1, .int 0, .int 0]) dX6_stepsTo_3 rfl ?_
  obtain ⟨q5, hq5, hF⟩ := po_b hF
  refine ok_L_X6_stepsTo_4 n hq5 (fun z3 hz3 => ?_)
  refine pr_iload_n dX6_stepsTo_38 rfl ?_
  cases hF
  exact pr_iret dX6_stepsTo_39 rfl rfl rfl

def L_X6_meeting_15 : Nat → Nat → Int32 → Int32 → pm_H → Option (Int32)
  | 0, _, _, _, _ => none
  | n + 1, x0, x2, x3, h =>
    if 99 < x3 then
      some x2
    else
      (if pm_cl_ h x0 = some 5 then F_X6_stepsTo n h x0 x3 else none).bind fun q2 =>
      (if pm_cl_ h x0 = some 5 then F_X6_stepsTo n h x0 x2 else none).bind fun q3 =>
      if q2 < q3 then
        L_X6_meeting_15 n x0 x3 (x3 + 1) h
      else
        L_X6_meeting_15 n x0 x2 (x3 + 1) h
theorem ok_L_X6_meeting_15 {d : Nat} : ∀ (n : Nat) {x0 : Nat} {x2 : Int32} {x3 : Int32} {w1 : Value} {h : pm_H} {q : Int32} {res : Option Value × pm_H}, L_X6_meeting_15 n x0 x2 x3 h = some q → pm_nolong w1 = true → (∀ z3 : Value, pm_nolong z3 = true → pm_E (d + 3) 6 cX6_meeting (some .int) 42 [.ref x0, w1, .int q, z3] [] h res) → pm_E (d + 3) 6 cX6_meeting (some .int) 15 [.ref x0, w1, .int x2, .int x3] [] h res := by
  intro n
  induction n with
  | zero =>
    intro x0 x2 x3 w1 h q res hF hw1 hk
    rw [L_X6_meeting_15] at hF
    cases hF
  | succ n ih =>
    intro x0 x2 x3 w1 h q res hF hw1 hk
    rw [L_X6_meeting_15] at hF
    refine pr_iload_n dX6_meeting_15 rfl ?_
    refine pr_bipush (v := 99) dX6_meeting_16 (kb_99) ?_
    refine po_i hF (fun hc hF => ?_) (fun hc hF => ?_)
    · refine pr_icT (tgt := 42) dX6_meeting_18 (by decide) (pc_gtT hc) ?_
      cases hF
      exact hk _ rfl
    · refine pr_icF (tgt := 42) dX6_meeting_18 (by decide) (pc_gtF hc) ?_
      refine pr_aload_n dX6_meeting_21 rfl ?_
      refine pr_iload_n dX6_meeting_22 rfl ?_
      obtain ⟨q2, hq2, hF⟩ := po_b hF
      refine po_i hq2 (fun hcl hq => ?_) (fun _ hq => nomatch hq)
      refine pr_V (as := [.int x3]) (rest := []) dX6_meeting_23 cv_6_374 hcl rfl rfl rfl rfl (lb rfl) (lb rfl) (lb rfl) (ok_F_X6_stepsTo hq) ?_
      refine pr_aload_n dX6_meeting_26 rfl ?_
      refine pr_iload_n dX6_meeting_27 rfl ?_
      obtain ⟨q3, hq3, hF⟩ := po_b hF
      refine po_i hq3 (fun hcl hq => ?_) (fun _ hq => nomatch hq)
      refine pr_V (as := [.int x2]) (rest := [.int q2]) dX6_meeting_28 cv_6_374 hcl rfl rfl rfl rfl (lb rfl) (lb rfl) (lb rfl) (ok_F_X6_stepsTo hq) ?_
      refine po_i hF (fun hc hF => ?_) (fun hc hF => ?_)
      · refine pr_icF (tgt := 36) dX6_meeting_31 (by decide) (pc_geF hc) ?_
        refine pr_iload_n dX6_meeting_34 rfl ?_
        refine pr_istore_n (L' := [.ref x0, w1, .int x3, .int x3]) dX6_meeting_35 (pm_st_w (i := 1) rfl rfl hw1 rfl) ?_
        refine pr_iinc (v := 1) (L' := [.ref x0, w1, .int x3, .int (x3 + 1)]) dX6_meeting_36 rfl (kc_1) rfl ?_
        refine pr_goto (tgt := 15) dX6_meeting_39 (by decide) ?_
        exact ih hF hw1 hk
      · refine pr_icT (tgt := 36) dX6_meeting_31 (by decide) (pc_geT hc) ?_
        refine pr_iinc (v := 1) (L' := [.ref x0, w1, .int x2, .int (x3 + 1)]) dX6_meeting_36 rfl (kc_1) rfl ?_
        refine pr_goto (tgt := 15) dX6_meeting_39 (by decide) ?_
        exact ih hF hw1 hk
def F_X6_meeting (n : Nat) (h : pm_H) (a0 : Nat) (x1 : Int32) : Option (Int32) :=
  (F_X6_in x1 0 1).bind fun q1 =>
  if q1 = 0 then
    some (-1)
  else
    (L_X6_meeting_15 n a0 0 1 h).bind fun q4 =>
    if x1 = 0 then
      some q4
    else
      (if pm_cl_ h a0 = some 5 then F_X6_stepsTo n h a0 q4 else none).bind fun q5 =>
      some q5
theorem ok_F_X6_meeting {d n : Nat} {h : pm_H} {a0 : Nat} {x1 : Int32} {q : Int32} (hF : F_X6_meeting n h a0 x1 = some q) : pm_E (d + 3) 6 cX6_meeting (some .int) 0 [.ref a0, .int x1, pm_D, pm_D] [] h (some (.int q), h) := by
  unfold F_X6_meeting at hF
  refine pr_iload_n dX6_meeting_0 rfl ?_
  refine pr_iconst (v := 0) dX6_meeting_1 (kc_0) ?_
  refine pr_iconst (v := 1) dX6_meeting_2 (kc_1) ?_
  obtain ⟨q1, hq1, hF⟩ := po_b hF
  refine pr_S dX6_meeting_3 cs_6_104 (as := [.int x1, .int 0, .int 1]) (rest := []) rfl rfl rfl (lb rfl) (lb rfl) (lb rfl) (ok_F_X6_in hq1) ?_
  refine po_i hF (fun hc hF => ?_) (fun hc hF => ?_)
  · refine pr_ifF (tgt := 11) dX6_meeting_6 (by decide) (pc_neF hc) ?_
    refine pr_iconst (v := (-1)) dX6_meeting_9 (kc_m1) ?_
    cases hF
    exact pr_iret dX6_meeting_10 rfl rfl rfl
  · refine pr_ifT (tgt := 11) dX6_meeting_6 (by decide) (pc_neT hc) ?_
    refine pr_iconst (v := 0) dX6_meeting_11 (kc_0) ?_
    refine pr_istore_n (L' := [.ref a0, .int x1, .int 0, pm_D]) dX6_meeting_12 rfl ?_
    refine pr_iconst (v := 1) dX6_meeting_13 (kc_1) ?_
    refine pr_istore_n (L' := [.ref a0, .int x1, .int 0, .int 1]) dX6_meeting_14 rfl ?_
    obtain ⟨q4, hq4, hF⟩ := po_b hF
    refine ok_L_X6_meeting_15 n hq4 rfl (fun z3 hz3 => ?_)
    refine pr_iload_n dX6_meeting_42 rfl ?_
    refine po_i hF (fun hc hF => ?_) (fun hc hF => ?_)
    · refine pr_ifF (tgt := 50) dX6_meeting_43 (by decide) (pc_neF hc) ?_
      refine pr_iload_n dX6_meeting_46 rfl ?_
      refine pr_goto (tgt := 55) dX6_meeting_47 (by decide) ?_
      cases hF
      exact pr_iret dX6_meeting_55 rfl rfl rfl
    · refine pr_ifT (tgt := 50) dX6_meeting_43 (by decide) (pc_neT hc) ?_
      refine pr_aload_n dX6_meeting_50 rfl ?_
      refine pr_iload_n dX6_meeting_51 rfl ?_
      obtain ⟨q5, hq5, hF⟩ := po_b hF
      refine po_i hq5 (fun hcl hq => ?_) (fun _ hq => nomatch hq)
      refine pr_V (as := [.int q4]) (rest := []) dX6_meeting_52 cv_6_374 hcl rfl rfl rfl rfl (lb rfl) (lb rfl) (lb rfl) (ok_F_X6_stepsTo hq) ?_
      cases hF
      exact pr_iret dX6_meeting_55 rfl rfl rfl

def L_X6_pairs_27 : Nat → Nat → Int32 → Int32 → Int32 → Int32 → pm_H → Option (pm_H)
  | 0, _, _, _, _, _, _ => none
  | n + 1, x0, x1, x2, x4, x5, h =>
    if x5 < x2 then
      (F_X6_has x4 x5).bind fun q2 =>
      if q2 = 0 then
        (if pm_cl_ h x0 = some 5 then F_X6_friendsOf h x0 x1 else none).bind fun q3 =>
        (pm_fR [(5, 49)] h x0).bind fun v4 =>
        (pm_ai 0 h v4 x5).bind fun v5 =>
        (F_X6_has q3 v5).bind fun q6 =>
        if q6 = 0 then
          L_X6_pairs_27 n x0 x1 x2 x4 (x5 + 1) h
        else
          (pm_fR [(5, 48)] h x0).bind fun v7 =>
          (pm_fR [(5, 48)] h x0).bind fun v8 =>
          (pm_ai 0 h v8 (x4 ||| (pm_shl 1 x5))).bind fun v9 =>
          (pm_fR [(5, 48)] h x0).bind fun v10 =>
          (pm_ai 0 h v10 x4).bind fun v11 =>
          (pm_si 0 h v7 (x4 ||| (pm_shl 1 x5)) (v9 + v11)).bind fun h12 =>
          L_X6_pairs_27 n x0 x1 x2 x4 (x5 + 1) h12
      else
        L_X6_pairs_27 n x0 x1 x2 x4 (x5 + 1) h
    else
      some h
theorem ok_L_X6_pairs_27 {d : Nat} : ∀ (n : Nat) {x0 : Nat} {x1 : Int32} {x2 : Int32} {x4 : Int32} {x5 : Int32} {w3 : Value} {h : pm_H} {q : pm_H} {res : Option Value × pm_H}, L_X6_pairs_27 n x0 x1 x2 x4 x5 h = some q → pm_nolong w3 = true → (∀ z5 : Value, pm_nolong z5 = true → pm_E (d + 1) 6 cX6_pairs (none) 99 [.ref x0, .int x1, .int x2, w3, .int x4, z5] [] q res) → pm_E (d + 1) 6 cX6_pairs (none) 27 [.ref x0, .int x1, .int x2, w3, .int x4, .int x5] [] h res := by
  intro n
  induction n with
  | zero =>
    intro x0 x1 x2 x4 x5 w3 h q res hF hw3 hk
    rw [L_X6_pairs_27] at hF
    cases hF
  | succ n ih =>
    intro x0 x1 x2 x4 x5 w3 h q res hF hw3 hk
    rw [L_X6_pairs_27] at hF
    refine pr_iload dX6_pairs_27 rfl ?_
    refine pr_iload_n dX6_pairs_29 rfl ?_
    refine po_i hF (fun hc hF => ?_) (fun hc hF => ?_)
    · refine pr_icF (tgt := 99) dX6_pairs_30 (by decide) (pc_geF hc) ?_
      refine pr_iload dX6_pairs_33 rfl ?_
      refine pr_iload dX6_pairs_35 rfl ?_
      obtain ⟨q2, hq2, hF⟩ := po_b hF
      refine pr_S dX6_pairs_37 cs_6_100 (as := [.int x4, .int x5]) (rest := []) rfl rfl rfl (lb rfl) (lb rfl) (lb rfl) (ok_F_X6_has hq2) ?_
      refine po_i hF (fun hc hF => ?_) (fun hc hF => ?_)
      · refine pr_ifF (tgt := 93) dX6_pairs_40 (by decide) (pc_neF hc) ?_
        refine pr_aload_n dX6_pairs_43 rfl ?_
        refine pr_iload_n dX6_pairs_44 rfl ?_
        obtain ⟨q3, hq3, hF⟩ := po_b hF
        refine po_i hq3 (fun hcl hq => ?_) (fun _ hq => nomatch hq)
        refine pr_V (as := [.int x1]) (rest := []) dX6_pairs_45 cv_6_291 hcl rfl rfl rfl rfl (lb rfl) (lb rfl) (lb rfl) (ok_F_X6_friendsOf hq) ?_
        refine pr_aload_n dX6_pairs_48 rfl ?_
        obtain ⟨v4, hv4, hF⟩ := po_b hF
        refine pr_getR dX6_pairs_49 tf_6_94 (hv4) ?_
        refine pr_iload dX6_pairs_52 rfl ?_
        obtain ⟨v5, hv5, hF⟩ := po_b hF
        refine pr_iald dX6_pairs_54 (hv5) ?_
        obtain ⟨q6, hq6, hF⟩ := po_b hF
        refine pr_S dX6_pairs_55 cs_6_100 (as := [.int q3, .int v5]) (rest := []) rfl rfl rfl (lb rfl) (lb rfl) (lb rfl) (ok_F_X6_has hq6) ?_
        refine po_i hF (fun hc hF => ?_) (fun hc hF => ?_)
        · refine pr_ifT (tgt := 93) dX6_pairs_58 (by decide) (pc_eqT hc) ?_
          refine pr_iinc (v := 1) (L' := [.ref x0, .int x1, .int x2, w3, .int x4, .int (x5 + 1)]) dX6_pairs_93 rfl (kc_1) rfl ?_
          refine pr_goto (tgt := 27) dX6_pairs_96 (by decide) ?_
          exact ih hF hw3 hk
        · refine pr_ifF (tgt := 93) dX6_pairs_58 (by decide) (pc_eqF hc) ?_
          refine pr_aload_n dX6_pairs_61 rfl ?_
          obtain ⟨v7, hv7, hF⟩ := po_b hF
          refine pr_getR dX6_pairs_62 tf_6_91 (hv7) ?_
          refine pr_iload dX6_pairs_65 rfl ?_
          refine pr_iconst (v := 1) dX6_pairs_67 (kc_1) ?_
          refine pr_iload dX6_pairs_68 rfl ?_
          refine pr_ishl dX6_pairs_70 ?_
          refine pr_ior dX6_pairs_71 ?_
          refine pr_aload_n dX6_pairs_72 rfl ?_
          obtain ⟨v8, hv8, hF⟩ := po_b hF
          refine pr_getR dX6_pairs_73 tf_6_91 (hv8) ?_
          refine pr_iload dX6_pairs_76 rfl ?_
          refine pr_iconst (v := 1) dX6_pairs_78 (kc_1) ?_
          refine pr_iload dX6_pairs_79 rfl ?_
          refine pr_ishl dX6_pairs_81 ?_
          refine pr_ior dX6_pairs_82 ?_
          obtain ⟨v9, hv9, hF⟩ := po_b hF
          refine pr_iald dX6_pairs_83 (hv9) ?_
          refine pr_aload_n dX6_pairs_84 rfl ?_
          obtain ⟨v10, hv10, hF⟩ := po_b hF
          refine pr_getR dX6_pairs_85 tf_6_91 (hv10) ?_
          refine pr_iload dX6_pairs_88 rfl ?_
          obtain ⟨v11, hv11, hF⟩ := po_b hF
          refine pr_iald dX6_pairs_90 (hv11) ?_
          refine pr_iadd dX6_pairs_91 ?_
          obtain ⟨h12, hh12, hF⟩ := po_b hF
          refine pr_iast dX6_pairs_92 (hh12) ?_
          refine pr_iinc (v := 1) (L' := [.ref x0, .int x1, .int x2, w3, .int x4, .int (x5 + 1)]) dX6_pairs_93 rfl (kc_1) rfl ?_
          refine pr_goto (tgt := 27) dX6_pairs_96 (by decide) ?_
          exact ih hF hw3 hk
      · refine pr_ifT (tgt := 93) dX6_pairs_40 (by decide) (pc_neT hc) ?_
        refine pr_iinc (v := 1) (L' := [.ref x0, .int x1, .int x2, w3, .int x4, .int (x5 + 1)]) dX6_pairs_93 rfl (kc_1) rfl ?_
        refine pr_goto (tgt := 27) dX6_pairs_96 (by decide) ?_
        exact ih hF hw3 hk
    · refine pr_icT (tgt := 99) dX6_pairs_30 (by decide) (pc_geT hc) ?_
      cases hF
      exact hk _ rfl
def L_X6_pairs_7 : Nat → Nat → Int32 → Int32 → Int32 → Int32 → pm_H → Option (pm_H)
  | 0, _, _, _, _, _, _ => none
  | n + 1, x0, x1, x2, x3, x4, h =>
    if x4 < 0 then
      some h
    else
      (F_X6_bits n x4).bind fun q1 =>
      if q1 = x3 then
        (L_X6_pairs_27 n x0 x1 x2 x4 0 h).bind fun q13 =>
        L_X6_pairs_7 n x0 x1 x2 x3 (x4 + (-1)) q13
      else
        L_X6_pairs_7 n x0 x1 x2 x3 (x4 + (-1)) h
theorem ok_L_X6_pairs_7 {d : Nat} : ∀ (n : Nat) {x0 : Nat} {x1 : Int32} {x2 : Int32} {x3 : Int32} {x4 : Int32} {w5 : Value} {h : pm_H} {q : pm_H} {res : Option Value × pm_H}, L_X6_pairs_7 n x0 x1 x2 x3 x4 h = some q → pm_nolong w5 = true → (∀ z4 : Value, pm_nolong z4 = true → ∀ z5 : Value, pm_nolong z5 = true → pm_E (d + 1) 6 cX6_pairs (none) 105 [.ref x0, .int x1, .int x2, .int x3, z4, z5] [] q res) → pm_E (d + 1) 6 cX6_pairs (none) 7 [.ref x0, .int x1, .int x2, .int x3, .int x4, w5] [] h res := by
  intro n
  induction n with
  | zero =>
    intro x0 x1 x2 x3 x4 w5 h q res hF hw5 hk
    rw [L_X6_pairs_7] at hF
    cases hF
  | succ n ih =>
    intro x0 x1 x2 x3 x4 w5 h q res hF hw5 hk
    rw [L_X6_pairs_7] at hF
    refine pr_iload dX6_pairs_7 rfl ?_
    refine po_i hF (fun hc hF => ?_) (fun hc hF => ?_)
    · refine pr_ifT (tgt := 105) dX6_pairs_9 (by decide) (pc_ltT hc) ?_
      cases hF
      exact hk _ rfl _ hw5
    · refine pr_ifF (tgt := 105) dX6_pairs_9 (by decide) (pc_ltF hc) ?_
      refine pr_iload dX6_pairs_12 rfl ?_
      obtain ⟨q1, hq1, hF⟩ := po_b hF
      refine pr_S dX6_pairs_14 cs_6_276 (as := [.int x4]) (rest := []) rfl rfl rfl (lb rfl) (lb rfl) (lb rfl) (ok_F_X6_bits hq1) ?_
      refine pr_iload_n dX6_pairs_17 rfl ?_
      refine po_i hF (fun hc hF => ?_) (fun hc hF => ?_)
      · refine pr_icT (tgt := 24) dX6_pairs_18 (by decide) (pc_eqT hc) ?_
        refine pr_iconst (v := 0) dX6_pairs_24 (kc_0) ?_
        refine pr_istore (L' := [.ref x0, .int x1, .int x2, .int x3, .int x4, .int 0]) dX6_pairs_25 rfl ?_
        obtain ⟨q13, hq13, hF⟩ := po_b hF
        refine ok_L_X6_pairs_27 n hq13 rfl (fun z5 hz5 => ?_)
        refine pr_iinc (v := (-1)) (L' := [.ref x0, .int x1, .int x2, .int x3, .int (x4 + (-1)), z5]) dX6_pairs_99 rfl (kc_m1) rfl ?_
        refine pr_goto (tgt := 7) dX6_pairs_102 (by decide) ?_
        exact ih hF hz5 hk
      · refine pr_icF (tgt := 24) dX6_pairs_18 (by decide) (pc_eqF hc) ?_
        refine pr_goto (tgt := 99) dX6_pairs_21 (by decide) ?_
        refine pr_iinc (v := (-1)) (L' := [.ref x0, .int x1, .int x2, .int x3, .int (x4 + (-1)), w5]) dX6_pairs_99 rfl (kc_m1) rfl ?_
        refine pr_goto (tgt := 7) dX6_pairs_102 (by decide) ?_
        exact ih hF hw5 hk
def F_X6_pairs (n : Nat) (h : pm_H) (a0 : Nat) (x1 : Int32) (x2 : Int32) (x3 : Int32) : Option (pm_H) :=
  (L_X6_pairs_7 n a0 x1 x2 x3 ((pm_shl 1 x2) - 1) h).bind fun q14 =>
  some q14
theorem ok_F_X6_pairs {d n : Nat} {h : pm_H} {a0 : Nat} {x1 : Int32} {x2 : Int32} {x3 : Int32} {q : pm_H} (hF : F_X6_pairs n h a0 x1 x2 x3 = some q) : pm_E (d + 1) 6 cX6_pairs (none) 0 [.ref a0, .int x1, .int x2, .int x3, pm_D, pm_D] [] h (none, q) := by
  unfold F_X6_pairs at hF
  refine pr_iconst (v := 1) dX6_pairs_0 (kc_1) ?_
  refine pr_iload_n dX6_pairs_1 rfl ?_
  refine pr_ishl dX6_pairs_2 ?_
  refine pr_iconst (v := 1) dX6_pairs_3 (kc_1) ?_
  refine pr_isub dX6_pairs_4 ?_
  refine pr_istore (L' := [.ref a0, .int x1, .int x2, .int x3, .int ((pm_shl 1 x2) - 1), pm_D]) dX6_pairs_5 rfl ?_
  obtain ⟨q14, hq14, hF⟩ := po_b hF
  refine ok_L_X6_pairs_7 n hq14 rfl (fun z4 hz4 z5 hz5 => ?_)
  cases hF
  exact pr_vret dX6_pairs_105 rfl rfl

def L_X6_across_70 : Nat → Nat → Int32 → Int32 → Int32 → pm_H → Option (Int32 × pm_H)
  | 0, _, _, _, _, _ => none
  | n + 1, x0, x2, x3, x4, h =>
    if x4 < 16 then
      (F_X6_has x2 x4).bind fun q7 =>
      if q7 = 0 then
        L_X6_across_70 n x0 x2 x3 (x4 + 1) h
      else
        (pm_fR [(5, 49)] h x0).bind fun v8 =>
        (pm_si 0 h v8 x3 x4).bind fun h9 =>
        L_X6_across_70 n x0 x2 (x3 + 1) (x4 + 1) h9
    else
      some (x3, h)
theorem ok_L_X6_across_70 {d : Nat} : ∀ (n : Nat) {x0 : Nat} {x2 : Int32} {x3 : Int32} {x4 : Int32} {w1 : Value} {h : pm_H} {q : Int32 × pm_H} {res : Option Value × pm_H}, L_X6_across_70 n x0 x2 x3 x4 h = some q → pm_nolong w1 = true → (∀ z4 : Value, pm_nolong z4 = true → pm_E (d + 2) 6 cX6_across (some .int) 107 [.ref x0, w1, .int x2, .int q.1, z4] [] q.2 res) → pm_E (d + 2) 6 cX6_across (some .int) 70 [.ref x0, w1, .int x2, .int x3, .int x4] [] h res := by
  intro n
  induction n with
  | zero =>
    intro x0 x2 x3 x4 w1 h q res hF hw1 hk
    rw [L_X6_across_70] at hF
    cases hF
  | succ n ih =>
    intro x0 x2 x3 x4 w1 h q res hF hw1 hk
    rw [L_X6_across_70] at hF
    refine pr_iload dX6_across_70 rfl ?_
    refine pr_bipush (v := 16) dX6_across_72 (kb_16) ?_
    refine po_i hF (fun hc hF => ?_) (fun hc hF => ?_)
    · refine pr_icF (tgt := 107) dX6_across_74 (by decide) (pc_geF hc) ?_
      refine pr_iload_n dX6_across_77 rfl ?_
      refine pr_iload dX6_across_78 rfl ?_
      obtain ⟨q7, hq7, hF⟩ := po_b hF
      refine pr_S dX6_across_80 cs_6_100 (as := [.int x2, .int x4]) (rest := []) rfl rfl rfl (lb rfl) (lb rfl) (lb rfl) (ok_F_X6_has hq7) ?_
      refine po_i hF (fun hc hF => ?_) (fun hc hF => ?_)
      · refine pr_ifF (tgt := 89) dX6_across_83 (by decide) (pc_neF hc) ?_
        refine pr_goto (tgt := 101) dX6_across_86 (by decide) ?_
        refine pr_iinc (v := 1) (L' := [.ref x0, w1, .int x2, .int x3, .int (x4 + 1)]) dX6_across_101 rfl (kc_1) rfl ?_
        refine pr_goto (tgt := 70) dX6_across_104 (by decide) ?_
        exact ih hF hw1 hk
      · refine pr_ifT (tgt := 89) dX6_across_83 (by decide) (pc_neT hc) ?_
        refine pr_aload_n dX6_across_89 rfl ?_
        obtain ⟨v8, hv8, hF⟩ := po_b hF
        refine pr_getR dX6_across_90 tf_6_94 (hv8) ?_
        refine pr_iload_n dX6_across_93 rfl ?_
        refine pr_iload dX6_across_94 rfl ?_
        obtain ⟨h9, hh9, hF⟩ := po_b hF
        refine pr_iast dX6_across_96 (hh9) ?_
        refine pr_iload_n dX6_across_97 rfl ?_
        refine pr_iconst (v := 1) dX6_across_98 (kc_1) ?_
        refine pr_iadd dX6_across_99 ?_
        refine pr_istore_n (L' := [.ref x0, w1, .int x2, .int (x3 + 1), .int x4]) dX6_across_100 rfl ?_
        refine pr_iinc (v := 1) (L' := [.ref x0, w1, .int x2, .int (x3 + 1), .int (x4 + 1)]) dX6_across_101 rfl (kc_1) rfl ?_
        refine pr_goto (tgt := 70) dX6_across_104 (by decide) ?_
        exact ih hF hw1 hk
    · refine pr_icT (tgt := 107) dX6_across_74 (by decide) (pc_geT hc) ?_
      cases hF
      exact hk _ rfl
def L_X6_across_110 : Nat → Nat → Int32 → Int32 → pm_H → Option (pm_H)
  | 0, _, _, _, _ => none
  | n + 1, x0, x3, x4, h =>
    if x4 < (pm_shl 1 x3) then
      (pm_fR [(5, 48)] h x0).bind fun v11 =>
      if x4 = 0 then
        (pm_si 0 h v11 x4 1).bind fun h13 =>
        L_X6_across_110 n x0 x3 (x4 + 1) h13
      else
        (pm_si 0 h v11 x4 0).bind fun h12 =>
        L_X6_across_110 n x0 x3 (x4 + 1) h12
    else
      some h
theorem ok_L_X6_across_110 {d : Nat} : ∀ (n : Nat) {x0 : Nat} {x3 : Int32} {x4 : Int32} {w1 w2 : Value} {h : pm_H} {q : pm_H} {res : Option Value × pm_H}, L_X6_across_110 n x0 x3 x4 h = some q → pm_nolong w1 = true → pm_nolong w2 = true → (∀ z4 : Value, pm_nolong z4 = true → pm_E (d + 2) 6 cX6_across (some .int) 141 [.ref x0, w1, w2, .int x3, z4] [] q res) → pm_E (d + 2) 6 cX6_across (some .int) 110 [.ref x0, w1, w2, .int x3, .int x4] [] h res := by
  intro n
  induction n with
  | zero =>
    intro x0 x3 x4 w1 w2 h q res hF hw1 hw2 hk
    rw [L_X6_across_110] at hF
    cases hF
  | succ n ih =>
    intro x0 x3 x4 w1 w2 h q res hF hw1 hw2 hk
    rw [L_X6_across_110] at hF
    refine pr_iload dX6_across_110 rfl ?_
    refine pr_iconst (v := 1) dX6_across_112 (kc_1) ?_
    refine pr_iload_n dX6_across_113 rfl ?_
    refine pr_ishl dX6_across_114 ?_
    refine po_i hF (fun hc hF => ?_) (fun hc hF => ?_)
    · refine pr_icF (tgt := 141) dX6_across_115 (by decide) (pc_geF hc) ?_
      refine pr_aload_n dX6_across_118 rfl ?_
      obtain ⟨v11, hv11, hF⟩ := po_b hF
      refine pr_getR dX6_across_119 tf_6_91 (hv11) ?_
      refine pr_iload dX6_across_122 rfl ?_
      refine pr_iload dX6_across_124 rfl ?_
      refine po_i hF (fun hc hF => ?_) (fun hc hF => ?_)
      · refine pr_ifF (tgt := 133) dX6_across_126 (by decide) (pc_neF hc) ?_
        refine pr_iconst (v := 1) dX6_across_129 (kc_1) ?_
        refine pr_goto (tgt := 134) dX6_across_130 (by decide) ?_
        obtain ⟨h13, hh13, hF⟩ := po_b hF
        refine pr_iast dX6_across_134 (hh13) ?_
        refine pr_iinc (v := 1) (L' := [.ref x0, w1, w2, .int x3, .int (x4 + 1)]) dX6_across_135 rfl (kc_1) rfl ?_
        refine pr_goto (tgt := 110) dX6_across_138 (by decide) ?_
        exact ih hF hw1 hw2 hk
      · refine pr_ifT (tgt := 133) dX6_across_126 (by decide) (pc_neT hc) ?_
        refine pr_iconst (v := 0) dX6_across_133 (kc_0) ?_
        obtain ⟨h12, hh12, hF⟩ := po_b hF
        refine pr_iast dX6_across_134 (hh12) ?_
        refine pr_iinc (v := 1) (L' := [.ref x0, w1, w2, .int x3, .int (x4 + 1)]) dX6_across_135 rfl (kc_1) rfl ?_
        refine pr_goto (tgt := 110) dX6_across_138 (by decide) ?_
        exact ih hF hw1 hw2 hk
    · refine pr_icT (tgt := 141) dX6_across_115 (by decide) (pc_geT hc) ?_
      cases hF
      exact hk _ rfl
def L_X6_across_144 : Nat → Nat → Int32 → Int32 → Int32 → pm_H → Option (pm_H)
  | 0, _, _, _, _, _ => none
  | n + 1, x0, x1, x3, x4, h =>
    if x4 < 16 then
      (F_X6_has x1 x4).bind fun q15 =>
      if q15 = 0 then
        L_X6_across_144 n x0 x1 x3 (x4 + 1) h
      else
        (F_X6_bits n (x1 &&& ((pm_shl 1 x4) - 1))).bind fun q16 =>
        (if pm_cl_ h x0 = some 5 then F_X6_pairs n h x0 x4 x3 q16 else none).bind fun q17 =>
        L_X6_across_144 n x0 x1 x3 (x4 + 1) q17
    else
      some h
theorem ok_L_X6_across_144 {d : Nat} : ∀ (n : Nat) {x0 : Nat} {x1 : Int32} {x3 : Int32} {x4 : Int32} {w2 : Value} {h : pm_H} {q : pm_H} {res : Option Value × pm_H}, L_X6_across_144 n x0 x1 x3 x4 h = some q → pm_nolong w2 = true → (∀ z4 : Value, pm_nolong z4 = true → pm_E (d + 2) 6 cX6_across (some .int) 184 [.ref x0, .int x1, w2, .int x3, z4] [] q res) → pm_E (d + 2) 6 cX6_across (some .int) 144 [.ref x0, .int x1, w2, .int x3, .int x4] [] h res := by
  intro n
  induction n with
  | zero =>
    intro x0 x1 x3 x4 w2 h q res hF hw2 hk
    rw [L_X6_across_144] at hF
    cases hF
  | succ n ih =>
    intro x0 x1 x3 x4 w2 h q res hF hw2 hk
    rw [L_X6_across_144] at hF
    refine pr_iload dX6_across_144 rfl ?_
    refine pr_bipush (v := 16) dX6_across_146 (kb_16) ?_
    refine po_i hF (fun hc hF => ?_) (fun hc hF => ?_)
    · refine pr_icF (tgt := 184) dX6_across_148 (by decide) (pc_geF hc) ?_
      refine pr_iload_n dX6_across_151 rfl ?_
      refine pr_iload dX6_across_152 rfl ?_
      obtain ⟨q15, hq15, hF⟩ := po_b hF
      refine pr_S dX6_across_154 cs_6_100 (as := [.int x1, .int x4]) (rest := []) rfl rfl rfl (lb rfl) (lb rfl) (lb rfl) (ok_F_X6_has hq15) ?_
      refine po_i hF (fun hc hF => ?_) (fun hc hF => ?_)
      · refine pr_ifT (tgt := 178) dX6_across_157 (by decide) (pc_eqT hc) ?_
        refine pr_iinc (v := 1) (L' := [.ref x0, .int x1, w2, .int x3, .int (x4 + 1)]) dX6_across_178 rfl (kc_1) rfl ?_
        refine pr_goto (tgt := 144) dX6_across_181 (by decide) ?_
        exact ih hF hw2 hk
      · refine pr_ifF (tgt := 178) dX6_across_157 (by decide) (pc_eqF hc) ?_
        refine pr_aload_n dX6_across_160 rfl ?_
        refine pr_iload dX6_across_161 rfl ?_
        refine pr_iload_n dX6_across_163 rfl ?_
        refine pr_iload_n dX6_across_164 rfl ?_
        refine pr_iconst (v := 1) dX6_across_165 (kc_1) ?_
        refine pr_iload dX6_across_166 rfl ?_
        refine pr_ishl dX6_across_168 ?_
        refine pr_iconst (v := 1) dX6_across_169 (kc_1) ?_
        refine pr_isub dX6_across_170 ?_
        refine pr_iand dX6_across_171 ?_
        obtain ⟨q16, hq16, hF⟩ := po_b hF
        refine pr_S dX6_across_172 cs_6_276 (as := [.int (x1 &&& ((pm_shl 1 x4) - 1))]) (rest := [.int x3, .int x4, .ref x0]) rfl rfl rfl (lb rfl) (lb rfl) (lb rfl) (ok_F_X6_bits hq16) ?_
        obtain ⟨q17, hq17, hF⟩ := po_b hF
        refine po_i hq17 (fun hcl hq => ?_) (fun _ hq => nomatch hq)
        refine pr_V (as := [.int x4, .int x3, .int q16]) (rest := []) dX6_across_175 cv_6_377 hcl rfl rfl rfl rfl (lb rfl) (lb rfl) (lb rfl) (ok_F_X6_pairs hq) ?_
        refine pr_iinc (v := 1) (L' := [.ref x0, .int x1, w2, .int x3, .int (x4 + 1)]) dX6_across_178 rfl (kc_1) rfl ?_
        refine pr_goto (tgt := 144) dX6_across_181 (by decide) ?_
        exact ih hF hw2 hk
    · refine pr_icT (tgt := 184) dX6_across_148 (by decide) (pc_geT hc) ?_
      cases hF
      exact hk _ rfl
def F_X6_across (n : Nat) (h : pm_H) (a0 : Nat) (x1 : Int32) (x2 : Int32) : Option (Int32 × pm_H) :=
  (F_X6_in x1 1 65535).bind fun q1 =>
  if q1 = 0 then
    some ((-1), h)
  else
    (F_X6_in x2 1 65535).bind fun q2 =>
    if q2 = 0 then
      some ((-1), h)
    else
      (pm_fI [(5, 7)] h a0).bind fun v3 =>
      if ((x1 ||| x2) &&& (v3 ^^^ (-1))) = 0 then
        if (x1 &&& x2) = 0 then
          (F_X6_bits n x1).bind fun q4 =>
          (F_X6_bits n x2).bind fun q5 =>
          if q4 = q5 then
            (F_X6_bits n x1).bind fun q6 =>
            if 8 < q6 then
              some ((-1), h)
            else
              (L_X6_across_70 n a0 x2 0 0 h).bind fun q10 =>
              (L_X6_across_110 n a0 q10.1 0 q10.2).bind fun q14 =>
              (L_X6_across_144 n a0 x1 q10.1 0 q14).bind fun q18 =>
              (pm_fR [(5, 48)] q18 a0).bind fun v19 =>
              (pm_ai 0 q18 v19 ((pm_shl 1 q10.1) - 1)).bind fun v20 =>
              some (v20, q18)
          else
            some ((-1), h)
        else
          some ((-1), h)
      else
        some ((-1), h)
theorem ok_F_X6_across {d n : Nat} {h : pm_H} {a0 : Nat} {x1 : Int32} {x2 : Int32} {q : Int32 × pm_H} (hF : F_X6_across n h a0 x1 x2 = some q) : pm_E (d + 2) 6 cX6_across (some .int) 0 [.ref a0, .int x1, .int x2, pm_D, pm_D] [] h (some (.int q.1), q.2) := by
  unfold F_X6_across at hF
  refine pr_iload_n dX6_across_0 rfl ?_
  refine pr_iconst (v := 1) dX6_across_1 (kc_1) ?_
  refine pr_ldc_w (v := 65535) dX6_across_2 rfl ?_
  obtain ⟨q1, hq1, hF⟩ := po_b hF
  refine pr_S dX6_across_5 cs_6_104 (as := [.int x1, .int 1, .int 65535]) (rest := []) rfl rfl rfl (lb rfl) (lb rfl) (lb rfl) (ok_F_X6_in hq1) ?_
  refine po_i hF (fun hc hF => ?_) (fun hc hF => ?_)
  · refine pr_ifT (tgt := 35) dX6_across_8 (by decide) (pc_eqT hc) ?_
    refine pr_iconst (v := (-1)) dX6_across_35 (kc_m1) ?_
    cases hF
    exact pr_iret dX6_across_36 rfl rfl rfl
  · refine pr_ifF (tgt := 35) dX6_across_8 (by decide) (pc_eqF hc) ?_
    refine pr_iload_n dX6_across_11 rfl ?_
    refine pr_iconst (v := 1) dX6_across_12 (kc_1) ?_
    refine pr_ldc_w (v := 65535) dX6_across_13 rfl ?_
    obtain ⟨q2, hq2, hF⟩ := po_b hF
    refine pr_S dX6_across_16 cs_6_104 (as := [.int x2, .int 1, .int 65535]) (rest := []) rfl rfl rfl (lb rfl) (lb rfl) (lb rfl) (ok_F_X6_in hq2) ?_
    refine po_i hF (fun hc hF => ?_) (fun hc hF => ?_)
    · refine pr_ifT (tgt := 35) dX6_across_19 (by decide) (pc_eqT hc) ?_
      refine pr_iconst (v := (-1)) dX6_across_35 (kc_m1) ?_
      cases hF
      exact pr_iret dX6_across_36 rfl rfl rfl
    · refine pr_ifF (tgt := 35) dX6_across_19 (by decide) (pc_eqF hc) ?_
      refine pr_iload_n dX6_across_22 rfl ?_
      refine pr_iload_n dX6_across_23 rfl ?_
      refine pr_ior dX6_across_24 ?_
      refine pr_aload_n dX6_across_25 rfl ?_
      obtain ⟨v3, hv3, hF⟩ := po_b hF
      refine pr_getI dX6_across_26 tf_6_108 (hv3) ?_
      refine pr_iconst (v := (-1)) dX6_across_29 (kc_m1) ?_
      refine pr_ixor dX6_across_30 ?_
      refine pr_iand dX6_across_31 ?_
      refine po_i hF (fun hc hF => ?_) (fun hc hF => ?_)
      · refine pr_ifT (tgt := 37) dX6_across_32 (by decide) (pc_eqT hc) ?_
        refine pr_iload_n dX6_across_37 rfl ?_
        refine pr_iload_n dX6_across_38 rfl ?_
        refine pr_iand dX6_across_39 ?_
        refine po_i hF (fun hc hF => ?_) (fun hc hF => ?_)
        · refine pr_ifF (tgt := 63) dX6_across_40 (by decide) (pc_neF hc) ?_
          refine pr_iload_n dX6_across_43 rfl ?_
          obtain ⟨q4, hq4, hF⟩ := po_b hF
          refine pr_S dX6_across_44 cs_6_276 (as := [.int x1]) (rest := []) rfl rfl rfl (lb rfl) (lb rfl) (lb rfl) (ok_F_X6_bits hq4) ?_
          refine pr_iload_n dX6_across_47 rfl ?_
          obtain ⟨q5, hq5, hF⟩ := po_b hF
          refine pr_S dX6_across_48 cs_6_276 (as := [.int x2]) (rest := [.int q4]) rfl rfl rfl (lb rfl) (lb rfl) (lb rfl) (ok_F_X6_bits hq5) ?_
          refine po_i hF (fun hc hF => ?_) (fun hc hF => ?_)
          · refine pr_icF (tgt := 63) dX6_across_51 (by decide) (pc_neF hc) ?_
            refine pr_iload_n dX6_across_54 rfl ?_
            obtain ⟨q6, hq6, hF⟩ := po_b hF
            refine pr_S dX6_across_55 cs_6_276 (as := [.int x1]) (rest := []) rfl rfl rfl (lb rfl) (lb rfl) (lb rfl) (ok_F_X6_bits hq6) ?_
            refine pr_bipush (v := 8) dX6_across_58 (kb_8) ?_
            refine po_i hF (fun hc hF => ?_) (fun hc hF => ?_)
            · refine pr_icF (tgt := 65) dX6_across_60 (by decide) (pc_leF hc) ?_
              refine pr_iconst (v := (-1)) dX6_across_63 (kc_m1) ?_
              cases hF
              exact pr_iret dX6_across_64 rfl rfl rfl
            · refine pr_icT (tgt := 65) dX6_across_60 (by decide) (pc_leT hc) ?_
              refine pr_iconst (v := 0) dX6_across_65 (kc_0) ?_
              refine pr_istore_n (L' := [.ref a0, .int x1, .int x2, .int 0, pm_D]) dX6_across_66 rfl ?_
              refine pr_iconst (v := 0) dX6_across_67 (kc_0) ?_
              refine pr_istore (L' := [.ref a0, .int x1, .int x2, .int 0, .int 0]) dX6_across_68 rfl ?_
              obtain ⟨q10, hq10, hF⟩ := po_b hF
              refine ok_L_X6_across_70 n hq10 rfl (fun z4 hz4 => ?_)
              refine pr_iconst (v := 0) dX6_across_107 (kc_0) ?_
              refine pr_istore (L' := [.ref a0, .int x1, .int x2, .int q10.1, .int 0]) dX6_across_108 rfl ?_
              obtain ⟨q14, hq14, hF⟩ := po_b hF
              refine ok_L_X6_across_110 n hq14 rfl rfl (fun z4 hz4 => ?_)
              refine pr_iconst (v := 0) dX6_across_141 (kc_0) ?_
              refine pr_istore (L' := [.ref a0, .int x1, .int x2, .int q10.1, .int 0]) dX6_across_142 rfl ?_
              obtain ⟨q18, hq18, hF⟩ := po_b hF
              refine ok_L_X6_across_144 n hq18 rfl (fun z4 hz4 => ?_)
              refine pr_aload_n dX6_across_184 rfl ?_
              obtain ⟨v19, hv19, hF⟩ := po_b hF
              refine pr_getR dX6_across_185 tf_6_91 (hv19) ?_
              refine pr_iconst (v := 1) dX6_across_188 (kc_1) ?_
              refine pr_iload_n dX6_across_189 rfl ?_
              refine pr_ishl dX6_across_190 ?_
              refine pr_iconst (v := 1) dX6_across_191 (kc_1) ?_
              refine pr_isub dX6_across_192 ?_
              obtain ⟨v20, hv20, hF⟩ := po_b hF
              refine pr_iald dX6_across_193 (hv20) ?_
              cases hF
              exact pr_iret dX6_across_194 rfl rfl rfl
          · refine pr_icT (tgt := 63) dX6_across_51 (by decide) (pc_neT hc) ?_
            refine pr_iconst (v := (-1)) dX6_across_63 (kc_m1) ?_
            cases hF
            exact pr_iret dX6_across_64 rfl rfl rfl
        · refine pr_ifT (tgt := 63) dX6_across_40 (by decide) (pc_neT hc) ?_
          refine pr_iconst (v := (-1)) dX6_across_63 (kc_m1) ?_
          cases hF
          exact pr_iret dX6_across_64 rfl rfl rfl
      · refine pr_ifF (tgt := 37) dX6_across_32 (by decide) (pc_eqF hc) ?_
        refine pr_iconst (v := (-1)) dX6_across_35 (kc_m1) ?_
        cases hF
        exact pr_iret dX6_across_36 rfl rfl rfl

def F_X6_madeEven (n : Nat) (h : pm_H) (a0 : Nat) (x1 : Int32) : Option (Int32) :=
  (if pm_cl_ h a0 = some 5 then F_X6_isTold h a0 x1 else none).bind fun q1 =>
  if q1 = 0 then
    some (-1000000)
  else
    (if pm_cl_ h a0 = some 5 then F_X6_favoursToAll n h a0 x1 else none).bind fun q2 =>
    (if pm_cl_ h a0 = some 5 then F_X6_favoursOfAllTo n h a0 x1 else none).bind fun q3 =>
    some (q2 - q3)
theorem ok_F_X6_madeEven {d n : Nat} {h : pm_H} {a0 : Nat} {x1 : Int32} {q : Int32} (hF : F_X6_madeEven n h a0 x1 = some q) : pm_E (d + 2) 6 cX6_madeEven (some .int) 0 [.ref a0, .int x1] [] h (some (.int q), h) := by
  unfold F_X6_madeEven at hF
  refine pr_aload_n dX6_madeEven_0 rfl ?_
  refine pr_iload_n dX6_madeEven_1 rfl ?_
  obtain ⟨q1, hq1, hF⟩ := po_b hF
  refine po_i hq1 (fun hcl hq => ?_) (fun _ hq => nomatch hq)
  refine pr_V (as := [.int x1]) (rest := []) dX6_madeEven_2 cv_6_233 hcl rfl rfl rfl rfl (lb rfl) (lb rfl) (lb rfl) (ok_F_X6_isTold hq) ?_
  refine po_i hF (fun hc hF => ?_) (fun hc hF => ?_)
  · refine pr_ifT (tgt := 22) dX6_madeEven_5 (by decide) (pc_eqT hc) ?_
    refine pr_ldc_w (v := (-1000000)) dX6_madeEven_22 rfl ?_
    cases hF
    exact pr_iret dX6_madeEven_25 rfl rfl rfl
  · refine pr_ifF (tgt := 22) dX6_madeEven_5 (by decide) (pc_eqF hc) ?_
    refine pr_aload_n dX6_madeEven_8 rfl ?_
    refine pr_iload_n dX6_madeEven_9 rfl ?_
    obtain ⟨q2, hq2, hF⟩ := po_b hF
    refine po_i hq2 (fun hcl hq => ?_) (fun _ hq => nomatch hq)
    refine pr_V (as := [.int x1]) (rest := []) dX6_madeEven_10 cv_6_331 hcl rfl rfl rfl rfl (lb rfl) (lb rfl) (lb rfl) (ok_F_X6_favoursToAll hq) ?_
    refine pr_aload_n dX6_madeEven_13 rfl ?_
    refine pr_iload_n dX6_madeEven_14 rfl ?_
    obtain ⟨q3, hq3, hF⟩ := po_b hF
    refine po_i hq3 (fun hcl hq => ?_) (fun _ hq => nomatch hq)
    refine pr_V (as := [.int x1]) (rest := [.int q2]) dX6_madeEven_15 cv_6_334 hcl rfl rfl rfl rfl (lb rfl) (lb rfl) (lb rfl) (ok_F_X6_favoursOfAllTo hq) ?_
    refine pr_isub dX6_madeEven_18 ?_
    refine pr_goto (tgt := 25) dX6_madeEven_19 (by decide) ?_
    cases hF
    exact pr_iret dX6_madeEven_25 rfl rfl rfl

def L_X6_mostOwed_5 : Nat → Nat → Int32 → Int32 → pm_H → Option (Int32)
  | 0, _, _, _, _ => none
  | n + 1, x0, x1, x2, h =>
    if x2 < 16 then
      (if pm_cl_ h x0 = some 5 then F_X6_isTold h x0 x2 else none).bind fun q1 =>
      if q1 = 0 then
        L_X6_mostOwed_5 n x0 x1 (x2 + 1) h
      else
      if x1 = (-2) then
        L_X6_mostOwed_5 n x0 x2 (x2 + 1) h
      else
        (if pm_cl_ h x0 = some 5 then F_X6_madeEven n h x0 x2 else none).bind fun q2 =>
        (if pm_cl_ h x0 = some 5 then F_X6_madeEven n h x0 x1 else none).bind fun q3 =>
        if q3 < q2 then
          L_X6_mostOwed_5 n x0 x2 (x2 + 1) h
        else
          L_X6_mostOwed_5 n x0 x1 (x2 + 1) h
    else
      some x1
theorem ok_L_X6_mostOwed_5 {d : Nat} : ∀ (n : Nat) {x0 : Nat} {x1 : Int32} {x2 : Int32} {h : pm_H} {q : Int32} {res : Option Value × pm_H}, L_X6_mostOwed_5 n x0 x1 x2 h = some q → (∀ z2 : Value, pm_nolong z2 = true → pm_E (d + 3) 6 cX6_mostOwed (some .int) 46 [.ref x0, .int q, z2] [] h res) → pm_E (d + 3) 6 cX6_mostOwed (some .int) 5 [.ref x0, .int x1, .int x2] [] h res := by
  intro n
  induction n with
  | zero =>
    intro x0 x1 x2 h q res hF hk
    rw [L_X6_mostOwed_5] at hF
    cases hF
  | succ n ih =>
    intro x0 x1 x2 h q res hF hk
    rw [L_X6_mostOwed_5] at hF
    refine pr_iload_n dX6_mostOwed_5 rfl ?_
    refine pr_bipush (v := 16) dX6_mostOwed_6 (kb_16) ?_
    refine po_i hF (fun hc hF => ?_) (fun hc hF => ?_)
    · refine pr_icF (tgt := 46) dX6_mostOwed_8 (by decide) (pc_geF hc) ?_
      refine pr_aload_n dX6_mostOwed_11 rfl ?_
      refine pr_iload_n dX6_mostOwed_12 rfl ?_
      obtain ⟨q1, hq1, hF⟩ := po_b hF
      refine po_i hq1 (fun hcl hq => ?_) (fun _ hq => nomatch hq)
      refine pr_V (as := [.int x2]) (rest := []) dX6_mostOwed_13 cv_6_233 hcl rfl rfl rfl rfl (lb rfl) (lb rfl) (lb rfl) (ok_F_X6_isTold hq) ?_
      refine po_i hF (fun hc hF => ?_) (fun hc hF => ?_)
      · refine pr_ifT (tgt := 40) dX6_mostOwed_16 (by decide) (pc_eqT hc) ?_
        refine pr_iinc (v := 1) (L' := [.ref x0, .int x1, .int (x2 + 1)]) dX6_mostOwed_40 rfl (kc_1) rfl ?_
        refine pr_goto (tgt := 5) dX6_mostOwed_43 (by decide) ?_
        exact ih hF hk
      · refine pr_ifF (tgt := 40) dX6_mostOwed_16 (by decide) (pc_eqF hc) ?_
        refine pr_iload_n dX6_mostOwed_19 rfl ?_
        refine pr_bipush (v := (-2)) dX6_mostOwed_20 (kb_m2) ?_
        refine po_i hF (fun hc hF => ?_) (fun hc hF => ?_)
        · refine pr_icT (tgt := 38) dX6_mostOwed_22 (by decide) (pc_eqT hc) ?_
          refine pr_iload_n dX6_mostOwed_38 rfl ?_
          refine pr_istore_n (L' := [.ref x0, .int x2, .int x2]) dX6_mostOwed_39 rfl ?_
          refine pr_iinc (v := 1) (L' := [.ref x0, .int x2, .int (x2 + 1)]) dX6_mostOwed_40 rfl (kc_1) rfl ?_
          refine pr_goto (tgt := 5) dX6_mostOwed_43 (by decide) ?_
          exact ih hF hk
        · refine pr_icF (tgt := 38) dX6_mostOwed_22 (by decide) (pc_eqF hc) ?_
          refine pr_aload_n dX6_mostOwed_25 rfl ?_
          refine pr_iload_n dX6_mostOwed_26 rfl ?_
          obtain ⟨q2, hq2, hF⟩ := po_b hF
          refine po_i hq2 (fun hcl hq => ?_) (fun _ hq => nomatch hq)
          refine pr_V (as := [.int x2]) (rest := []) dX6_mostOwed_27 cv_6_382 hcl rfl rfl rfl rfl (lb rfl) (lb rfl) (lb rfl) (ok_F_X6_madeEven hq) ?_
          refine pr_aload_n dX6_mostOwed_30 rfl ?_
          refine pr_iload_n dX6_mostOwed_31 rfl ?_
          obtain ⟨q3, hq3, hF⟩ := po_b hF
          refine po_i hq3 (fun hcl hq => ?_) (fun _ hq => nomatch hq)
          refine pr_V (as := [.int x1]) (rest := [.int q2]) dX6_mostOwed_32 cv_6_382 hcl rfl rfl rfl rfl (lb rfl) (lb rfl) (lb rfl) (ok_F_X6_madeEven hq) ?_
          refine po_i hF (fun hc hF => ?_) (fun hc hF => ?_)
          · refine pr_icF (tgt := 40) dX6_mostOwed_35 (by decide) (pc_leF hc) ?_
            refine pr_iload_n dX6_mostOwed_38 rfl ?_
            refine pr_istore_n (L' := [.ref x0, .int x2, .int x2]) dX6_mostOwed_39 rfl ?_
            refine pr_iinc (v := 1) (L' := [.ref x0, .int x2, .int (x2 + 1)]) dX6_mostOwed_40 rfl (kc_1) rfl ?_
            refine pr_goto (tgt := 5) dX6_mostOwed_43 (by decide) ?_
            exact ih hF hk
          · refine pr_icT (tgt := 40) dX6_mostOwed_35 (by decide) (pc_leT hc) ?_
            refine pr_iinc (v := 1) (L' := [.ref x0, .int x1, .int (x2 + 1)]) dX6_mostOwed_40 rfl (kc_1) rfl ?_
            refine pr_goto (tgt := 5) dX6_mostOwed_43 (by decide) ?_
            exact ih hF hk
    · refine pr_icT (tgt := 46) dX6_mostOwed_8 (by decide) (pc_geT hc) ?_
      cases hF
      exact hk _ rfl
def F_X6_mostOwed (n : Nat) (h : pm_H) (a0 : Nat) : Option (Int32) :=
  (L_X6_mostOwed_5 n a0 (-2) 0 h).bind fun q4 =>
  some q4
theorem ok_F_X6_mostOwed {d n : Nat} {h : pm_H} {a0 : Nat} {q : Int32} (hF : F_X6_mostOwed n h a0 = some q) : pm_E (d + 3) 6 cX6_mostOwed (some .int) 0 [.ref a0, pm_D, pm_D] [] h (some (.int q), h) := by
  unfold F_X6_mostOwed at hF
  refine pr_bipush (v := (-2)) dX6_mostOwed_0 (kb_m2) ?_
  refine pr_istore_n (L' := [.ref a0, .int (-2), pm_D]) dX6_mostOwed_2 rfl ?_
  refine pr_iconst (v := 0) dX6_mostOwed_3 (kc_0) ?_
  refine pr_istore_n (L' := [.ref a0, .int (-2), .int 0]) dX6_mostOwed_4 rfl ?_
  obtain ⟨q4, hq4, hF⟩ := po_b hF
  refine ok_L_X6_mostOwed_5 n hq4 (fun z2 hz2 => ?_)
  refine pr_iload_n dX6_mostOwed_46 rfl ?_
  cases hF
  exact pr_iret dX6_mostOwed_47 rfl rfl rfl

def F_X6_octet (h : pm_H) (a0 : Nat) (x1 : Int32) : Option (Int32) :=
  (pm_fR [(5, 11)] h a0).bind fun v1 =>
  (pm_ai 1 h v1 x1).bind fun v2 =>
  some (v2 &&& 255)
theorem ok_F_X6_octet {d : Nat} {h : pm_H} {a0 : Nat} {x1 : Int32} {q : Int32} (hF : F_X6_octet h a0 x1 = some q) : pm_E (d + 0) 6 cX6_octet (some .int) 0 [.ref a0, .int x1] [] h (some (.int q), h) := by
  unfold F_X6_octet at hF
  refine pr_aload_n dX6_octet_0 rfl ?_
  obtain ⟨v1, hv1, hF⟩ := po_b hF
  refine pr_getR dX6_octet_1 tf_6_31 (hv1) ?_
  refine pr_iload_n dX6_octet_4 rfl ?_
  obtain ⟨v2, hv2, hF⟩ := po_b hF
  refine pr_bald dX6_octet_5 (hv2) ?_
  refine pr_sipush (v := 255) dX6_octet_6 (ks_255) ?_
  refine pr_iand dX6_octet_9 ?_
  cases hF
  exact pr_iret dX6_octet_10 rfl rfl rfl

def L_X6_hermit_44 : Nat → Nat → Int32 → Int32 → Int32 → pm_H → Option (Int32)
  | 0, _, _, _, _, _ => none
  | n + 1, x0, x2, x3, x4, h =>
    if x4 < x2 then
      (if pm_cl_ h x0 = some 5 then F_X6_octet h x0 (2 * x4) else none).bind fun q6 =>
      (if pm_cl_ h x0 = some 5 then F_X6_octet h x0 ((2 * x4) + 1) else none).bind fun q7 =>
      L_X6_hermit_44 n x0 x2 (x3 &&& (((pm_shl q6 8) ||| q7) ^^^ (-1))) (x4 + 1) h
    else
      some x3
theorem ok_L_X6_hermit_44 {d : Nat} : ∀ (n : Nat) {x0 : Nat} {x2 : Int32} {x3 : Int32} {x4 : Int32} {w1 : Value} {h : pm_H} {q : Int32} {res : Option Value × pm_H}, L_X6_hermit_44 n x0 x2 x3 x4 h = some q → pm_nolong w1 = true → (∀ z4 : Value, pm_nolong z4 = true → pm_E (d + 2) 6 cX6_hermit (some .int) 83 [.ref x0, w1, .int x2, .int q, z4] [] h res) → pm_E (d + 2) 6 cX6_hermit (some .int) 44 [.ref x0, w1, .int x2, .int x3, .int x4] [] h res := by
  intro n
  induction n with
  | zero =>
    intro x0 x2 x3 x4 w1 h q res hF hw1 hk
    rw [L_X6_hermit_44] at hF
    cases hF
  | succ n ih =>
    intro x0 x2 x3 x4 w1 h q res hF hw1 hk
    rw [L_X6_hermit_44] at hF
    refine pr_iload dX6_hermit_44 rfl ?_
    refine pr_iload_n dX6_hermit_46 rfl ?_
    refine po_i hF (fun hc hF => ?_) (fun hc hF => ?_)
    · refine pr_icF (tgt := 83) dX6_hermit_47 (by decide) (pc_geF hc) ?_
      refine pr_iload_n dX6_hermit_50 rfl ?_
      refine pr_aload_n dX6_hermit_51 rfl ?_
      refine pr_iconst (v := 2) dX6_hermit_52 (kc_2) ?_
      refine pr_iload dX6_hermit_53 rfl ?_
      refine pr_imul dX6_hermit_55 ?_
      obtain ⟨q6, hq6, hF⟩ := po_b hF
      refine po_i hq6 (fun hcl hq => ?_) (fun _ hq => nomatch hq)
      refine pr_V (as := [.int (2 * x4)]) (rest := [.int x3]) dX6_hermit_56 cv_6_385 hcl rfl rfl rfl rfl (lb rfl) (lb rfl) (lb rfl) (ok_F_X6_octet hq) ?_
      refine pr_bipush (v := 8) dX6_hermit_59 (kb_8) ?_
      refine pr_ishl dX6_hermit_61 ?_
      refine pr_aload_n dX6_hermit_62 rfl ?_
      refine pr_iconst (v := 2) dX6_hermit_63 (kc_2) ?_
      refine pr_iload dX6_hermit_64 rfl ?_
      refine pr_imul dX6_hermit_66 ?_
      refine pr_iconst (v := 1) dX6_hermit_67 (kc_1) ?_
      refine pr_iadd dX6_hermit_68 ?_
      obtain ⟨q7, hq7, hF⟩ := po_b hF
      refine po_i hq7 (fun hcl hq => ?_) (fun _ hq => nomatch hq)
      refine pr_V (as := [.int ((2 * x4) + 1)]) (rest := [.int (pm_shl q6 8), .int x3]) dX6_hermit_69 cv_6_385 hcl rfl rfl rfl rfl (lb rfl) (lb rfl) (lb rfl) (ok_F_X6_octet hq) ?_
      refine pr_ior dX6_hermit_72 ?_
      refine pr_iconst (v := (-1)) dX6_hermit_73 (kc_m1) ?_
      refine pr_ixor dX6_hermit_74 ?_
      refine pr_iand dX6_hermit_75 ?_
      refine pr_istore_n (L' := [.ref x0, w1, .int x2, .int (x3 &&& (((pm_shl q6 8) ||| q7) ^^^ (-1))), .int x4]) dX6_hermit_76 rfl ?_
      refine pr_iinc (v := 1) (L' := [.ref x0, w1, .int x2, .int (x3 &&& (((pm_shl q6 8) ||| q7) ^^^ (-1))), .int (x4 + 1)]) dX6_hermit_77 rfl (kc_1) rfl ?_
      refine pr_goto (tgt := 44) dX6_hermit_80 (by decide) ?_
      exact ih hF hw1 hk
    · refine pr_icT (tgt := 83) dX6_hermit_47 (by decide) (pc_geT hc) ?_
      cases hF
      exact hk _ rfl
def F_X6_hermit (n : Nat) (h : pm_H) (a0 : Nat) (x1 : Int32) (x2 : Int32) : Option (Int32 × pm_H) :=
  (if pm_cl_ h a0 = some 5 then F_X6_isTold h a0 x1 else none).bind fun q1 =>
  if q1 = 0 then
    some ((-1), h)
  else
    (F_X6_in x2 1 8).bind fun q2 =>
    if q2 = 0 then
      some ((-1), h)
    else
      (pm_fI [(5, 12)] h a0).bind fun v3 =>
      if v3 < (2 * x2) then
        some ((-1), h)
      else
        (pm_put [(5, 12, 0)] h a0 (.int 0)).bind fun h4 =>
        (if pm_cl_ h4 a0 = some 5 then F_X6_friendsOf h4 a0 x1 else none).bind fun q5 =>
        (L_X6_hermit_44 n a0 x2 q5 0 h4).bind fun q8 =>
        some (q8, h4)
theorem ok_F_X6_hermit {d n : Nat} {h : pm_H} {a0 : Nat} {x1 : Int32} {x2 : Int32} {q : Int32 × pm_H} (hF : F_X6_hermit n h a0 x1 x2 = some q) : pm_E (d + 2) 6 cX6_hermit (some .int) 0 [.ref a0, .int x1, .int x2, pm_D, pm_D] [] h (some (.int q.1), q.2) := by
  unfold F_X6_hermit at hF
  refine pr_aload_n dX6_hermit_0 rfl ?_
  refine pr_iload_n dX6_hermit_1 rfl ?_
  obtain ⟨q1, hq1, hF⟩ := po_b hF
  refine po_i hq1 (fun hcl hq => ?_) (fun _ hq => nomatch hq)
  refine pr_V (as := [.int x1]) (rest := []) dX6_hermit_2 cv_6_233 hcl rfl rfl rfl rfl (lb rfl) (lb rfl) (lb rfl) (ok_F_X6_isTold hq) ?_
  refine po_i hF (fun hc hF => ?_) (fun hc hF => ?_)
  · refine pr_ifT (tgt := 28) dX6_hermit_5 (by decide) (pc_eqT hc) ?_
    refine pr_iconst (v := (-1)) dX6_hermit_28 (kc_m1) ?_
    cases hF
    exact pr_iret dX6_hermit_29 rfl rfl rfl
  · refine pr_ifF (tgt := 28) dX6_hermit_5 (by decide) (pc_eqF hc) ?_
    refine pr_iload_n dX6_hermit_8 rfl ?_
    refine pr_iconst (v := 1) dX6_hermit_9 (kc_1) ?_
    refine pr_bipush (v := 8) dX6_hermit_10 (kb_8) ?_
    obtain ⟨q2, hq2, hF⟩ := po_b hF
    refine pr_S dX6_hermit_12 cs_6_104 (as := [.int x2, .int 1, .int 8]) (rest := []) rfl rfl rfl (lb rfl) (lb rfl) (lb rfl) (ok_F_X6_in hq2) ?_
    refine po_i hF (fun hc hF => ?_) (fun hc hF => ?_)
    · refine pr_ifT (tgt := 28) dX6_hermit_15 (by decide) (pc_eqT hc) ?_
      refine pr_iconst (v := (-1)) dX6_hermit_28 (kc_m1) ?_
      cases hF
      exact pr_iret dX6_hermit_29 rfl rfl rfl
    · refine pr_ifF (tgt := 28) dX6_hermit_15 (by decide) (pc_eqF hc) ?_
      refine pr_iconst (v := 2) dX6_hermit_18 (kc_2) ?_
      refine pr_iload_n dX6_hermit_19 rfl ?_
      refine pr_imul dX6_hermit_20 ?_
      refine pr_aload_n dX6_hermit_21 rfl ?_
      obtain ⟨v3, hv3, hF⟩ := po_b hF
      refine pr_getI dX6_hermit_22 tf_6_116 (hv3) ?_
      refine po_i hF (fun hc hF => ?_) (fun hc hF => ?_)
      · refine pr_icF (tgt := 30) dX6_hermit_25 (by decide) (pc_leF hc) ?_
        refine pr_iconst (v := (-1)) dX6_hermit_28 (kc_m1) ?_
        cases hF
        exact pr_iret dX6_hermit_29 rfl rfl rfl
      · refine pr_icT (tgt := 30) dX6_hermit_25 (by decide) (pc_leT hc) ?_
        refine pr_aload_n dX6_hermit_30 rfl ?_
        refine pr_iconst (v := 0) dX6_hermit_31 (kc_0) ?_
        obtain ⟨h4, hh4, hF⟩ := po_b hF
        refine pr_put dX6_hermit_32 tp_6_116 (hh4) ?_
        refine pr_aload_n dX6_hermit_35 rfl ?_
        refine pr_iload_n dX6_hermit_36 rfl ?_
        obtain ⟨q5, hq5, hF⟩ := po_b hF
        refine po_i hq5 (fun hcl hq => ?_) (fun _ hq => nomatch hq)
        refine pr_V (as := [.int x1]) (rest := []) dX6_hermit_37 cv_6_291 hcl rfl rfl rfl rfl (lb rfl) (lb rfl) (lb rfl) (ok_F_X6_friendsOf hq) ?_
        refine pr_istore_n (L' := [.ref a0, .int x1, .int x2, .int q5, pm_D]) dX6_hermit_40 rfl ?_
        refine pr_iconst (v := 0) dX6_hermit_41 (kc_0) ?_
        refine pr_istore (L' := [.ref a0, .int x1, .int x2, .int q5, .int 0]) dX6_hermit_42 rfl ?_
        obtain ⟨q8, hq8, hF⟩ := po_b hF
        refine ok_L_X6_hermit_44 n hq8 rfl (fun z4 hz4 => ?_)
        refine pr_iload_n dX6_hermit_83 rfl ?_
        cases hF
        exact pr_iret dX6_hermit_84 rfl rfl rfl

def L_X6_burglar_32 : Nat → Nat → Int32 → Int32 → Int32 → pm_H → Option ((Int32 × pm_H) ⊕ (Int32))
  | 0, _, _, _, _, _ => none
  | n + 1, x0, x1, x2, x3, h =>
    if x3 < x1 then
      (if pm_cl_ h x0 = some 5 then F_X6_octet h x0 x3 else none).bind fun q5 =>
      (if pm_cl_ h x0 = some 5 then F_X6_isTold h x0 q5 else none).bind fun q6 =>
      if q6 = 0 then
        some (.inl ((-3), h))
      else
        (if pm_cl_ h x0 = some 5 then F_X6_octet h x0 x3 else none).bind fun q7 =>
        L_X6_burglar_32 n x0 x1 (x2 &&& ((pm_shl 1 q7) ^^^ (-1))) (x3 + 1) h
    else
      some (.inr x2)
theorem ok_L_X6_burglar_32 {d : Nat} : ∀ (n : Nat) {x0 : Nat} {x1 : Int32} {x2 : Int32} {x3 : Int32} {h : pm_H} {q : (Int32 × pm_H) ⊕ (Int32)} {res : Option Value × pm_H}, L_X6_burglar_32 n x0 x1 x2 x3 h = some q → (∀ r, q = .inl r → res = (some (.int r.1), r.2)) → (∀ e, q = .inr e → ∀ z3 : Value, pm_nolong z3 = true → pm_E (d + 2) 6 cX6_burglar (some .int) 70 [.ref x0, .int x1, .int e, z3] [] h res) → pm_E (d + 2) 6 cX6_burglar (some .int) 32 [.ref x0, .int x1, .int x2, .int x3] [] h res := by
  intro n
  induction n with
  | zero =>
    intro x0 x1 x2 x3 h q res hF hr hk
    rw [L_X6_burglar_32] at hF
    cases hF
  | succ n ih =>
    intro x0 x1 x2 x3 h q res hF hr hk
    rw [L_X6_burglar_32] at hF
    refine pr_iload_n dX6_burglar_32 rfl ?_
    refine pr_iload_n dX6_burglar_33 rfl ?_
    refine po_i hF (fun hc hF => ?_) (fun hc hF => ?_)
    · refine pr_icF (tgt := 70) dX6_burglar_34 (by decide) (pc_geF hc) ?_
      refine pr_aload_n dX6_burglar_37 rfl ?_
      refine pr_aload_n dX6_burglar_38 rfl ?_
      refine pr_iload_n dX6_burglar_39 rfl ?_
      obtain ⟨q5, hq5, hF⟩ := po_b hF
      refine po_i hq5 (fun hcl hq => ?_) (fun _ hq => nomatch hq)
      refine pr_V (as := [.int x3]) (rest := [.ref x0]) dX6_burglar_40 cv_6_385 hcl rfl rfl rfl rfl (lb rfl) (lb rfl) (lb rfl) (ok_F_X6_octet hq) ?_
      obtain ⟨q6, hq6, hF⟩ := po_b hF
      refine po_i hq6 (fun hcl hq => ?_) (fun _ hq => nomatch hq)
      refine pr_V (as := [.int q5]) (rest := []) dX6_burglar_43 cv_6_233 hcl rfl rfl rfl rfl (lb rfl) (lb rfl) (lb rfl) (ok_F_X6_isTold hq) ?_
      refine po_i hF (fun hc hF => ?_) (fun hc hF => ?_)
      · refine pr_ifF (tgt := 52) dX6_burglar_46 (by decide) (pc_neF hc) ?_
        refine pr_bipush (v := (-3)) dX6_burglar_49 (kb_m3) ?_
        cases hF
        exact pr_iret dX6_burglar_51 rfl rfl (hr _ rfl)
      · refine pr_ifT (tgt := 52) dX6_burglar_46 (by decide) (pc_neT hc) ?_
        refine pr_iload_n dX6_burglar_52 rfl ?_
        refine pr_iconst (v := 1) dX6_burglar_53 (kc_1) ?_
        refine pr_aload_n dX6_burglar_54 rfl ?_
        refine pr_iload_n dX6_burglar_55 rfl ?_
        obtain ⟨q7, hq7, hF⟩ := po_b hF
        refine po_i hq7 (fun hcl hq => ?_) (fun _ hq => nomatch hq)
        refine pr_V (as := [.int x3]) (rest := [.int 1, .int x2]) dX6_burglar_56 cv_6_385 hcl rfl rfl rfl rfl (lb rfl) (lb rfl) (lb rfl) (ok_F_X6_octet hq) ?_
        refine pr_ishl dX6_burglar_59 ?_
        refine pr_iconst (v := (-1)) dX6_burglar_60 (kc_m1) ?_
        refine pr_ixor dX6_burglar_61 ?_
        refine pr_iand dX6_burglar_62 ?_
        refine pr_istore_n (L' := [.ref x0, .int x1, .int (x2 &&& ((pm_shl 1 q7) ^^^ (-1))), .int x3]) dX6_burglar_63 rfl ?_
        refine pr_iinc (v := 1) (L' := [.ref x0, .int x1, .int (x2 &&& ((pm_shl 1 q7) ^^^ (-1))), .int (x3 + 1)]) dX6_burglar_64 rfl (kc_1) rfl ?_
        refine pr_goto (tgt := 32) dX6_burglar_67 (by decide) ?_
        exact ih hF hr hk
    · refine pr_icT (tgt := 70) dX6_burglar_34 (by decide) (pc_geT hc) ?_
      cases hF
      exact hk _ rfl _ rfl
def F_X6_burglar (n : Nat) (h : pm_H) (a0 : Nat) (x1 : Int32) : Option (Int32 × pm_H) :=
  (F_X6_in x1 1 10).bind fun q1 =>
  if q1 = 0 then
    some ((-1), h)
  else
    (pm_fI [(5, 12)] h a0).bind fun v2 =>
    if v2 < x1 then
      some ((-1), h)
    else
      (pm_put [(5, 12, 0)] h a0 (.int 0)).bind fun h3 =>
      (pm_fI [(5, 7)] h3 a0).bind fun v4 =>
      (L_X6_burglar_32 n a0 x1 v4 0 h3).bind fun q8 => po_s q8 (fun r => some r) fun e9 =>
      some (e9, h3)
theorem ok_F_X6_burglar {d n : Nat} {h : pm_H} {a0 : Nat} {x1 : Int32} {q : Int32 × pm_H} (hF : F_X6_burglar n h a0 x1 = some q) : pm_E (d + 2) 6 cX6_burglar (some .int) 0 [.ref a0, .int x1, pm_D, pm_D] [] h (some (.int q.1), q.2) := by
  unfold F_X6_burglar at hF
  refine pr_iload_n dX6_burglar_0 rfl ?_
  refine pr_iconst (v := 1) dX6_burglar_1 (kc_1) ?_
  refine pr_bipush (v := 10) dX6_burglar_2 (kb_10) ?_
  obtain ⟨q1, hq1, hF⟩ := po_b hF
  refine pr_S dX6_burglar_4 cs_6_104 (as := [.int x1, .int 1, .int 10]) (rest := []) rfl rfl rfl (lb rfl) (lb rfl) (lb rfl) (ok_F_X6_in hq1) ?_
  refine po_i hF (fun hc hF => ?_) (fun hc hF => ?_)
  · refine pr_ifT (tgt := 18) dX6_burglar_7 (by decide) (pc_eqT hc) ?_
    refine pr_iconst (v := (-1)) dX6_burglar_18 (kc_m1) ?_
    cases hF
    exact pr_iret dX6_burglar_19 rfl rfl rfl
  · refine pr_ifF (tgt := 18) dX6_burglar_7 (by decide) (pc_eqF hc) ?_
    refine pr_iload_n dX6_burglar_10 rfl ?_
    refine pr_aload_n dX6_burglar_11 rfl ?_
    obtain ⟨v2, hv2, hF⟩ := po_b hF
    refine pr_getI dX6_burglar_12 tf_6_116 (hv2) ?_
    refine po_i hF (fun hc hF => ?_) (fun hc hF => ?_)
    · refine pr_icF (tgt := 20) dX6_burglar_15 (by decide) (pc_leF hc) ?_
      refine pr_iconst (v := (-1)) dX6_burglar_18 (kc_m1) ?_
      cases hF
      exact pr_iret dX6_burglar_19 rfl rfl rfl
    · refine pr_icT (tgt := 20) dX6_burglar_15 (by decide) (pc_leT hc) ?_
      refine pr_aload_n dX6_burglar_20 rfl ?_
      refine pr_iconst (v := 0) dX6_burglar_21 (kc_0) ?_
      obtain ⟨h3, hh3, hF⟩ := po_b hF
      refine pr_put dX6_burglar_22 tp_6_116 (hh3) ?_
      refine pr_aload_n dX6_burglar_25 rfl ?_
      obtain ⟨v4, hv4, hF⟩ := po_b hF
      refine pr_getI dX6_burglar_26 tf_6_108 (hv4) ?_
      refine pr_istore_n (L' := [.ref a0, .int x1, .int v4, pm_D]) dX6_burglar_29 rfl ?_
      refine pr_iconst (v := 0) dX6_burglar_30 (kc_0) ?_
      refine pr_istore_n (L' := [.ref a0, .int x1, .int v4, .int 0]) dX6_burglar_31 rfl ?_
      obtain ⟨q8, hq8, hF⟩ := po_b hF
      refine ok_L_X6_burglar_32 n hq8 (fun r hq => ?_) (fun e9 hq z3 hz3 => ?_)
      · subst hq
        replace hF := po_sl hF
        cases hF
        exact rfl
      subst hq
      replace hF := po_sr hF
      refine pr_iload_n dX6_burglar_70 rfl ?_
      cases hF
      exact pr_iret dX6_burglar_71 rfl rfl rfl

def L_X6_callsAt_43 : Nat → Nat → Int32 → Int32 → Int32 → Int32 → Int32 → pm_H → Option (Int32)
  | 0, _, _, _, _, _, _, _ => none
  | n + 1, x0, x1, x5, x6, x7, x8, h =>
    if x8 < x1 then
      (F_X6_has x5 x8).bind fun q4 =>
      if q4 = 0 then
        L_X6_callsAt_43 n x0 x1 x5 x6 x7 (x8 + 1) h
      else
        (pm_fR [(5, 50)] h x0).bind fun v5 =>
        (pm_ai 0 h v5 ((8 * x5) + x8)).bind fun v6 =>
        (if pm_cl_ h x0 = some 5 then F_X6_octet h x0 (2 * x8) else none).bind fun q7 =>
        (F_X6_size (x6 - q7)).bind fun q8 =>
        (F_X6_min x7 (v6 + q8)).bind fun q9 =>
        L_X6_callsAt_43 n x0 x1 x5 x6 q9 (x8 + 1) h
    else
      some x7
theorem ok_L_X6_callsAt_43 {d : Nat} : ∀ (n : Nat) {x0 : Nat} {x1 : Int32} {x5 : Int32} {x6 : Int32} {x7 : Int32} {x8 : Int32} {w2 w3 w4 : Value} {h : pm_H} {q : Int32} {res : Option Value × pm_H}, L_X6_callsAt_43 n x0 x1 x5 x6 x7 x8 h = some q → pm_nolong w2 = true → pm_nolong w3 = true → pm_nolong w4 = true → (∀ z8 : Value, pm_nolong z8 = true → pm_E (d + 1) 6 cX6_callsAt (some .int) 100 [.ref x0, .int x1, w2, w3, w4, .int x5, .int x6, .int q, z8] [] h res) → pm_E (d + 1) 6 cX6_callsAt (some .int) 43 [.ref x0, .int x1, w2, w3, w4, .int x5, .int x6, .int x7, .int x8] [] h res := by
  intro n
  induction n with
  | zero =>
    intro x0 x1 x5 x6 x7 x8 w2 w3 w4 h q res hF hw2 hw3 hw4 hk
    rw [L_X6_callsAt_43] at hF
    cases hF
  | succ n ih =>
    intro x0 x1 x5 x6 x7 x8 w2 w3 w4 h q res hF hw2 hw3 hw4 hk
    rw [L_X6_callsAt_43] at hF
    refine pr_iload dX6_callsAt_43 rfl ?_
    refine pr_iload_n dX6_callsAt_45 rfl ?_
    refine po_i hF (fun hc hF => ?_) (fun hc hF => ?_)
    · refine pr_icF (tgt := 100) dX6_callsAt_46 (by decide) (pc_geF hc) ?_
      refine pr_iload dX6_callsAt_49 rfl ?_
      refine pr_iload dX6_callsAt_51 rfl ?_
      obtain ⟨q4, hq4, hF⟩ := po_b hF
      refine pr_S dX6_callsAt_53 cs_6_100 (as := [.int x5, .int x8]) (rest := []) rfl rfl rfl (lb rfl) (lb rfl) (lb rfl) (ok_F_X6_has hq4) ?_
      refine po_i hF (fun hc hF => ?_) (fun hc hF => ?_)
      · refine pr_ifT (tgt := 94) dX6_callsAt_56 (by decide) (pc_eqT hc) ?_
        refine pr_iinc (v := 1) (L' := [.ref x0, .int x1, w2, w3, w4, .int x5, .int x6, .int x7, .int (x8 + 1)]) dX6_callsAt_94 rfl (kc_1) rfl ?_
        refine pr_goto (tgt := 43) dX6_callsAt_97 (by decide) ?_
        exact ih hF hw2 hw3 hw4 hk
      · refine pr_ifF (tgt := 94) dX6_callsAt_56 (by decide) (pc_eqF hc) ?_
        refine pr_iload dX6_callsAt_59 rfl ?_
        refine pr_aload_n dX6_callsAt_61 rfl ?_
        obtain ⟨v5, hv5, hF⟩ := po_b hF
        refine pr_getR dX6_callsAt_62 tf_6_97 (hv5) ?_
        refine pr_bipush (v := 8) dX6_callsAt_65 (kb_8) ?_
        refine pr_iload dX6_callsAt_67 rfl ?_
        refine pr_imul dX6_callsAt_69 ?_
        refine pr_iload dX6_callsAt_70 rfl ?_
        refine pr_iadd dX6_callsAt_72 ?_
        obtain ⟨v6, hv6, hF⟩ := po_b hF
        refine pr_iald dX6_callsAt_73 (hv6) ?_
        refine pr_iload dX6_callsAt_74 rfl ?_
        refine pr_aload_n dX6_callsAt_76 rfl ?_
        refine pr_iconst (v := 2) dX6_callsAt_77 (kc_2) ?_
        refine pr_iload dX6_callsAt_78 rfl ?_
        refine pr_imul dX6_callsAt_80 ?_
        obtain ⟨q7, hq7, hF⟩ := po_b hF
        refine po_i hq7 (fun hcl hq => ?_) (fun _ hq => nomatch hq)
        refine pr_V (as := [.int (2 * x8)]) (rest := [.int x6, .int v6, .int x7]) dX6_callsAt_81 cv_6_385 hcl rfl rfl rfl rfl (lb rfl) (lb rfl) (lb rfl) (ok_F_X6_octet hq) ?_
        refine pr_isub dX6_callsAt_84 ?_
        obtain ⟨q8, hq8, hF⟩ := po_b hF
        refine pr_S dX6_callsAt_85 cs_6_112 (as := [.int (x6 - q7)]) (rest := [.int v6, .int x7]) rfl rfl rfl (lb rfl) (lb rfl) (lb rfl) (ok_F_X6_size hq8) ?_
        refine pr_iadd dX6_callsAt_88 ?_
        obtain ⟨q9, hq9, hF⟩ := po_b hF
        refine pr_S dX6_callsAt_89 cs_6_303 (as := [.int x7, .int (v6 + q8)]) (rest := []) rfl rfl rfl (lb rfl) (lb rfl) (lb rfl) (ok_F_X6_min hq9) ?_
        refine pr_istore (L' := [.ref x0, .int x1, w2, w3, w4, .int x5, .int x6, .int q9, .int x8]) dX6_callsAt_92 rfl ?_
        refine pr_iinc (v := 1) (L' := [.ref x0, .int x1, w2, w3, w4, .int x5, .int x6, .int q9, .int (x8 + 1)]) dX6_callsAt_94 rfl (kc_1) rfl ?_
        refine pr_goto (tgt := 43) dX6_callsAt_97 (by decide) ?_
        exact ih hF hw2 hw3 hw4 hk
    · refine pr_icT (tgt := 100) dX6_callsAt_46 (by decide) (pc_geT hc) ?_
      cases hF
      exact hk _ rfl
def F_X6_callsAt (n : Nat) (h : pm_H) (a0 : Nat) (x1 : Int32) (x2 : Int32) (x3 : Int32) (x4 : Int32) : Option (Int32) :=
  (if pm_cl_ h a0 = some 5 then F_X6_octet h a0 (2 * x4) else none).bind fun q1 =>
  ((
    if (x3 &&& ((pm_shl 1 x4) ^^^ (-1))) = 0 then
      (F_X6_size (q1 - x2)).bind fun q2 =>
      some q2
    else
      some 1000000
  ) : Option (Int32)).bind fun q3 =>
  (L_X6_callsAt_43 n a0 x1 (x3 &&& ((pm_shl 1 x4) ^^^ (-1))) q1 q3 0 h).bind fun q10 =>
  (if pm_cl_ h a0 = some 5 then F_X6_octet h a0 ((2 * x4) + 1) else none).bind fun q11 =>
  if q11 < q10 then
    some 1000000
  else
    some q10
theorem ok_F_X6_callsAt {d n : Nat} {h : pm_H} {a0 : Nat} {x1 : Int32} {x2 : Int32} {x3 : Int32} {x4 : Int32} {q : Int32} (hF : F_X6_callsAt n h a0 x1 x2 x3 x4 = some q) : pm_E (d + 1) 6 cX6_callsAt (some .int) 0 [.ref a0, .int x1, .int x2, .int x3, .int x4, pm_D, pm_D, pm_D, pm_D] [] h (some (.int q), h) := by
  unfold F_X6_callsAt at hF
  refine pr_iload_n dX6_callsAt_0 rfl ?_
  refine pr_iconst (v := 1) dX6_callsAt_1 (kc_1) ?_
  refine pr_iload dX6_callsAt_2 rfl ?_
  refine pr_ishl dX6_callsAt_4 ?_
  refine pr_iconst (v := (-1)) dX6_callsAt_5 (kc_m1) ?_
  refine pr_ixor dX6_callsAt_6 ?_
  refine pr_iand dX6_callsAt_7 ?_
  refine pr_istore (L' := [.ref a0, .int x1, .int x2, .int x3, .int x4, .int (x3 &&& ((pm_shl 1 x4) ^^^ (-1))), pm_D, pm_D, pm_D]) dX6_callsAt_8 rfl ?_
  refine pr_aload_n dX6_callsAt_10 rfl ?_
  refine pr_iconst (v := 2) dX6_callsAt_11 (kc_2) ?_
  refine pr_iload dX6_callsAt_12 rfl ?_
  refine pr_imul dX6_callsAt_14 ?_
  obtain ⟨q1, hq1, hF⟩ := po_b hF
  refine po_i hq1 (fun hcl hq => ?_) (fun _ hq => nomatch hq)
  refine pr_V (as := [.int (2 * x4)]) (rest := []) dX6_callsAt_15 cv_6_385 hcl rfl rfl rfl rfl (lb rfl) (lb rfl) (lb rfl) (ok_F_X6_octet hq) ?_
  refine pr_istore (L' := [.ref a0, .int x1, .int x2, .int x3, .int x4, .int (x3 &&& ((pm_shl 1 x4) ^^^ (-1))), .int q1, pm_D, pm_D]) dX6_callsAt_18 rfl ?_
  refine pr_iload dX6_callsAt_20 rfl ?_
  obtain ⟨q3, hq3, hF⟩ := po_b hF
  have J38 : pm_E (d + 1) 6 cX6_callsAt (some .int) 38 [.ref a0, .int x1, .int x2, .int x3, .int x4, .int (x3 &&& ((pm_shl 1 x4) ^^^ (-1))), .int q1, pm_D, pm_D] [.int q3] h (some (.int q), h) := by
    refine pr_istore (L' := [.ref a0, .int x1, .int x2, .int x3, .int x4, .int (x3 &&& ((pm_shl 1 x4) ^^^ (-1))), .int q1, .int q3, pm_D]) dX6_callsAt_38 rfl ?_
    refine pr_iconst (v := 0) dX6_callsAt_40 (kc_0) ?_
    refine pr_istore (L' := [.ref a0, .int x1, .int x2, .int x3, .int x4, .int (x3 &&& ((pm_shl 1 x4) ^^^ (-1))), .int q1, .int q3, .int 0]) dX6_callsAt_41 rfl ?_
    obtain ⟨q10, hq10, hF⟩ := po_b hF
    refine ok_L_X6_callsAt_43 n hq10 rfl rfl rfl (fun z8 hz8 => ?_)
    refine pr_iload dX6_callsAt_100 rfl ?_
    refine pr_aload_n dX6_callsAt_102 rfl ?_
    refine pr_iconst (v := 2) dX6_callsAt_103 (kc_2) ?_
    refine pr_iload dX6_callsAt_104 rfl ?_
    refine pr_imul dX6_callsAt_106 ?_
    refine pr_iconst (v := 1) dX6_callsAt_107 (kc_1) ?_
    refine pr_iadd dX6_callsAt_108 ?_
    obtain ⟨q11, hq11, hF⟩ := po_b hF
    refine po_i hq11 (fun hcl hq => ?_) (fun _ hq => nomatch hq)
    refine pr_V (as := [.int ((2 * x4) + 1)]) (rest := [.int q10]) dX6_callsAt_109 cv_6_385 hcl rfl rfl rfl rfl (lb rfl) (lb rfl) (lb rfl) (ok_F_X6_octet hq) ?_
    refine po_i hF (fun hc hF => ?_) (fun hc hF => ?_)
    · refine pr_icF (tgt := 121) dX6_callsAt_112 (by decide) (pc_leF hc) ?_
      refine pr_ldc_w (v := 1000000) dX6_callsAt_115 rfl ?_
      refine pr_goto (tgt := 123) dX6_callsAt_118 (by decide) ?_
      cases hF
      exact pr_iret dX6_callsAt_123 rfl rfl rfl
    · refine pr_icT (tgt := 121) dX6_callsAt_112 (by decide) (pc_leT hc) ?_
      refine pr_iload dX6_callsAt_121 rfl ?_
      cases hF
      exact pr_iret dX6_callsAt_123 rfl rfl rfl
  clear hF
  have hF := hq3
  refine po_i hF (fun hc hF => ?_) (fun hc hF => ?_)
  · refine pr_ifF (tgt := 35) dX6_callsAt_22 (by decide) (pc_neF hc) ?_
    refine pr_iload dX6_callsAt_25 rfl ?_
    refine pr_iload_n dX6_callsAt_27 rfl ?_
    refine pr_isub dX6_callsAt_28 ?_
    obtain ⟨q2, hq2, hF⟩ := po_b hF
    refine pr_S dX6_callsAt_29 cs_6_112 (as := [.int (q1 - x2)]) (rest := []) rfl rfl rfl (lb rfl) (lb rfl) (lb rfl) (ok_F_X6_size hq2) ?_
    refine pr_goto (tgt := 38) dX6_callsAt_32 (by decide) ?_
    cases hF
    exact J38
  · refine pr_ifT (tgt := 35) dX6_callsAt_22 (by decide) (pc_neT hc) ?_
    refine pr_ldc_w (v := 1000000) dX6_callsAt_35 rfl ?_
    cases hF
    exact J38

def L_X6_calls_39 : Nat → Nat → Int32 → Int32 → pm_H → Option ((Int32 × pm_H) ⊕ (Unit))
  | 0, _, _, _, _ => none
  | n + 1, x0, x1, x3, h =>
    if x3 < x1 then
      (if pm_cl_ h x0 = some 5 then F_X6_octet h x0 (2 * x3) else none).bind fun q5 =>
      if 99 < q5 then
        some (.inl ((-3), h))
      else
        L_X6_calls_39 n x0 x1 (x3 + 1) h
    else
      some (.inr ())
theorem ok_L_X6_calls_39 {d : Nat} : ∀ (n : Nat) {x0 : Nat} {x1 : Int32} {x3 : Int32} {w2 : Value} {h : pm_H} {q : (Int32 × pm_H) ⊕ (Unit)} {res : Option Value × pm_H}, L_X6_calls_39 n x0 x1 x3 h = some q → pm_nolong w2 = true → (∀ r, q = .inl r → res = (some (.int r.1), r.2)) → (∀ e, q = .inr e → ∀ z3 : Value, pm_nolong z3 = true → pm_E (d + 2) 6 cX6_calls (some .int) 65 [.ref x0, .int x1, w2, z3, pm_D] [] h res) → pm_E (d + 2) 6 cX6_calls (some .int) 39 [.ref x0, .int x1, w2, .int x3, pm_D] [] h res := by
  intro n
  induction n with
  | zero =>
    intro x0 x1 x3 w2 h q res hF hw2 hr hk
    rw [L_X6_calls_39] at hF
    cases hF
  | succ n ih =>
    intro x0 x1 x3 w2 h q res hF hw2 hr hk
    rw [L_X6_calls_39] at hF
    refine pr_iload_n dX6_calls_39 rfl ?_
    refine pr_iload_n dX6_calls_40 rfl ?_
    refine po_i hF (fun hc hF => ?_) (fun hc hF => ?_)
    · refine pr_icF (tgt := 65) dX6_calls_41 (by decide) (pc_geF hc) ?_
      refine pr_aload_n dX6_calls_44 rfl ?_
      refine pr_iconst (v := 2) dX6_calls_45 (kc_2) ?_
      refine pr_iload_n dX6_calls_46 rfl ?_
      refine pr_imul dX6_calls_47 ?_
      obtain ⟨q5, hq5, hF⟩ := po_b hF
      refine po_i hq5 (fun hcl hq => ?_) (fun _ hq => nomatch hq)
      refine pr_V (as := [.int (2 * x3)]) (rest := []) dX6_calls_48 cv_6_385 hcl rfl rfl rfl rfl (lb rfl) (lb rfl) (lb rfl) (ok_F_X6_octet hq) ?_
      refine pr_bipush (v := 99) dX6_calls_51 (kb_99) ?_
      refine po_i hF (fun hc hF => ?_) (fun hc hF => ?_)
      · refine pr_icF (tgt := 59) dX6_calls_53 (by decide) (pc_leF hc) ?_
        refine pr_bipush (v := (-3)) dX6_calls_56 (kb_m3) ?_
        cases hF
        exact pr_iret dX6_calls_58 rfl rfl (hr _ rfl)
      · refine pr_icT (tgt := 59) dX6_calls_53 (by decide) (pc_leT hc) ?_
        refine pr_iinc (v := 1) (L' := [.ref x0, .int x1, w2, .int (x3 + 1), pm_D]) dX6_calls_59 rfl (kc_1) (pm_st_w (i := 2) rfl rfl hw2 rfl) ?_
        refine pr_goto (tgt := 39) dX6_calls_62 (by decide) ?_
        exact ih hF hw2 hr hk
    · refine pr_icT (tgt := 65) dX6_calls_41 (by decide) (pc_geT hc) ?_
      cases hF
      exact hk _ rfl _ rfl
def L_X6_calls_77 : Nat → Nat → Int32 → Int32 → Int32 → Int32 → pm_H → Option (pm_H)
  | 0, _, _, _, _, _, _ => none
  | n + 1, x0, x1, x2, x3, x4, h =>
    if x4 < x1 then
      (pm_fR [(5, 50)] h x0).bind fun v8 =>
      (F_X6_has x3 x4).bind fun q9 =>
      if q9 = 0 then
        (pm_si 0 h v8 ((8 * x3) + x4) 1000000).bind fun h10 =>
        L_X6_calls_77 n x0 x1 x2 x3 (x4 + 1) h10
      else
        (if pm_cl_ h x0 = some 5 then F_X6_callsAt n h x0 x1 x2 x3 x4 else none).bind fun q11 =>
        (pm_si 0 h v8 ((8 * x3) + x4) q11).bind fun h12 =>
        L_X6_calls_77 n x0 x1 x2 x3 (x4 + 1) h12
    else
      some h
theorem ok_L_X6_calls_77 {d : Nat} : ∀ (n : Nat) {x0 : Nat} {x1 : Int32} {x2 : Int32} {x3 : Int32} {x4 : Int32} {h : pm_H} {q : pm_H} {res : Option Value × pm_H}, L_X6_calls_77 n x0 x1 x2 x3 x4 h = some q → (∀ z4 : Value, pm_nolong z4 = true → pm_E (d + 2) 6 cX6_calls (some .int) 125 [.ref x0, .int x1, .int x2, .int x3, z4] [] q res) → pm_E (d + 2) 6 cX6_calls (some .int) 77 [.ref x0, .int x1, .int x2, .int x3, .int x4] [] h res := by
  intro n
  induction n with
  | zero =>
    intro x0 x1 x2 x3 x4 h q res hF hk
    rw [L_X6_calls_77] at hF
    cases hF
  | succ n ih =>
    intro x0 x1 x2 x3 x4 h q res hF hk
    rw [L_X6_calls_77] at hF
    refine pr_iload dX6_calls_77 rfl ?_
    refine pr_iload_n dX6_calls_79 rfl ?_
    refine po_i hF (fun hc hF => ?_) (fun hc hF => ?_)
    · refine pr_icF (tgt := 125) dX6_calls_80 (by decide) (pc_geF hc) ?_
      refine pr_aload_n dX6_calls_83 rfl ?_
      obtain ⟨v8, hv8, hF⟩ := po_b hF
      refine pr_getR dX6_calls_84 tf_6_97 (hv8) ?_
      refine pr_bipush (v := 8) dX6_calls_87 (kb_8) ?_
      refine pr_iload_n dX6_calls_89 rfl ?_
      refine pr_imul dX6_calls_90 ?_
      refine pr_iload dX6_calls_91 rfl ?_
      refine pr_iadd dX6_calls_93 ?_
      refine pr_iload_n dX6_calls_94 rfl ?_
      refine pr_iload dX6_calls_95 rfl ?_
      obtain ⟨q9, hq9, hF⟩ := po_b hF
      refine pr_S dX6_calls_97 cs_6_100 (as := [.int x3, .int x4]) (rest := [.int ((8 * x3) + x4), .ref v8]) rfl rfl rfl (lb rfl) (lb rfl) (lb rfl) (ok_F_X6_has hq9) ?_
      refine po_i hF (fun hc hF => ?_) (fun hc hF => ?_)
      · refine pr_ifT (tgt := 115) dX6_calls_100 (by decide) (pc_eqT hc) ?_
        refine pr_ldc_w (v := 1000000) dX6_calls_115 rfl ?_
        obtain ⟨h10, hh10, hF⟩ := po_b hF
        refine pr_iast dX6_calls_118 (hh10) ?_
        refine pr_iinc (v := 1) (L' := [.ref x0, .int x1, .int x2, .int x3, .int (x4 + 1)]) dX6_calls_119 rfl (kc_1) rfl ?_
        refine pr_goto (tgt := 77) dX6_calls_122 (by decide) ?_
        exact ih hF hk
      · refine pr_ifF (tgt := 115) dX6_calls_100 (by decide) (pc_eqF hc) ?_
        refine pr_aload_n dX6_calls_103 rfl ?_
        refine pr_iload_n dX6_calls_104 rfl ?_
        refine pr_iload_n dX6_calls_105 rfl ?_
        refine pr_iload_n dX6_calls_106 rfl ?_
        refine pr_iload dX6_calls_107 rfl ?_
        obtain ⟨q11, hq11, hF⟩ := po_b hF
        refine po_i hq11 (fun hcl hq => ?_) (fun _ hq => nomatch hq)
        refine pr_V (as := [.int x1, .int x2, .int x3, .int x4]) (rest := [.int ((8 * x3) + x4), .ref v8]) dX6_calls_109 cv_6_388 hcl rfl rfl rfl rfl (lb rfl) (lb rfl) (lb rfl) (ok_F_X6_callsAt hq) ?_
        refine pr_goto (tgt := 118) dX6_calls_112 (by decide) ?_
        obtain ⟨h12, hh12, hF⟩ := po_b hF
        refine pr_iast dX6_calls_118 (hh12) ?_
        refine pr_iinc (v := 1) (L' := [.ref x0, .int x1, .int x2, .int x3, .int (x4 + 1)]) dX6_calls_119 rfl (kc_1) rfl ?_
        refine pr_goto (tgt := 77) dX6_calls_122 (by decide) ?_
        exact ih hF hk
    · refine pr_icT (tgt := 125) dX6_calls_80 (by decide) (pc_geT hc) ?_
      cases hF
      exact hk _ rfl
def L_X6_calls_67 : Nat → Nat → Int32 → Int32 → Int32 → pm_H → Option (pm_H)
  | 0, _, _, _, _, _ => none
  | n + 1, x0, x1, x2, x3, h =>
    if x3 < (pm_shl 1 x1) then
      (L_X6_calls_77 n x0 x1 x2 x3 0 h).bind fun q13 =>
      L_X6_calls_67 n x0 x1 x2 (x3 + 1) q13
    else
      some h
theorem ok_L_X6_calls_67 {d : Nat} : ∀ (n : Nat) {x0 : Nat} {x1 : Int32} {x2 : Int32} {x3 : Int32} {w4 : Value} {h : pm_H} {q : pm_H} {res : Option Value × pm_H}, L_X6_calls_67 n x0 x1 x2 x3 h = some q → pm_nolong w4 = true → (∀ z3 : Value, pm_nolong z3 = true → ∀ z4 : Value, pm_nolong z4 = true → pm_E (d + 2) 6 cX6_calls (some .int) 131 [.ref x0, .int x1, .int x2, z3, z4] [] q res) → pm_E (d + 2) 6 cX6_calls (some .int) 67 [.ref x0, .int x1, .int x2, .int x3, w4] [] h res := by
  intro n
  induction n with
  | zero =>
    intro x0 x1 x2 x3 w4 h q res hF hw4 hk
    rw [L_X6_calls_67] at hF
    cases hF
  | succ n ih =>
    intro x0 x1 x2 x3 w4 h q res hF hw4 hk
    rw [L_X6_calls_67] at hF
    refine pr_iload_n dX6_calls_67 rfl ?_
    refine pr_iconst (v := 1) dX6_calls_68 (kc_1) ?_
    refine pr_iload_n dX6_calls_69 rfl ?_
    refine pr_ishl dX6_calls_70 ?_
    refine po_i hF (fun hc hF => ?_) (fun hc hF => ?_)
    · refine pr_icF (tgt := 131) dX6_calls_71 (by decide) (pc_geF hc) ?_
      refine pr_iconst (v := 0) dX6_calls_74 (kc_0) ?_
      refine pr_istore (L' := [.ref x0, .int x1, .int x2, .int x3, .int 0]) dX6_calls_75 rfl ?_
      obtain ⟨q13, hq13, hF⟩ := po_b hF
      refine ok_L_X6_calls_77 n hq13 (fun z4 hz4 => ?_)
      refine pr_iinc (v := 1) (L' := [.ref x0, .int x1, .int x2, .int (x3 + 1), z4]) dX6_calls_125 rfl (kc_1) rfl ?_
      refine pr_goto (tgt := 67) dX6_calls_128 (by decide) ?_
      exact ih hF hz4 hk
    · refine pr_icT (tgt := 131) dX6_calls_71 (by decide) (pc_geT hc) ?_
      cases hF
      exact hk _ rfl _ hw4
def L_X6_calls_138 : Nat → Nat → Int32 → Int32 → Int32 → pm_H → Option (Int32)
  | 0, _, _, _, _, _ => none
  | n + 1, x0, x1, x3, x4, h =>
    if x4 < x1 then
      (pm_fR [(5, 50)] h x0).bind fun v15 =>
      (pm_ai 0 h v15 ((8 * ((pm_shl 1 x1) - 1)) + x4)).bind fun v16 =>
      (F_X6_min x3 v16).bind fun q17 =>
      L_X6_calls_138 n x0 x1 q17 (x4 + 1) h
    else
      some x3
theorem ok_L_X6_calls_138 {d : Nat} : ∀ (n : Nat) {x0 : Nat} {x1 : Int32} {x3 : Int32} {x4 : Int32} {w2 : Value} {h : pm_H} {q : Int32} {res : Option Value × pm_H}, L_X6_calls_138 n x0 x1 x3 x4 h = some q → pm_nolong w2 = true → (∀ z4 : Value, pm_nolong z4 = true → pm_E (d + 2) 6 cX6_calls (some .int) 171 [.ref x0, .int x1, w2, .int q, z4] [] h res) → pm_E (d + 2) 6 cX6_calls (some .int) 138 [.ref x0, .int x1, w2, .int x3, .int x4] [] h res := by
  intro n
  induction n with
  | zero =>
    intro x0 x1 x3 x4 w2 h q res hF hw2 hk
    rw [L_X6_calls_138] at hF
    cases hF
  | succ n ih =>
    intro x0 x1 x3 x4 w2 h q res hF hw2 hk
    rw [L_X6_calls_138] at hF
    refine pr_iload dX6_calls_138 rfl ?_
    refine pr_iload_n dX6_calls_140 rfl ?_
    refine po_i hF (fun hc hF => ?_) (fun hc hF => ?_)
    · refine pr_icF (tgt := 171) dX6_calls_141 (by decide) (pc_geF hc) ?_
      refine pr_iload_n dX6_calls_144 rfl ?_
      refine pr_aload_n dX6_calls_145 rfl ?_
      obtain ⟨v15, hv15, hF⟩ := po_b hF
      refine pr_getR dX6_calls_146 tf_6_97 (hv15) ?_
      refine pr_bipush (v := 8) dX6_calls_149 (kb_8) ?_
      refine pr_iconst (v := 1) dX6_calls_151 (kc_1) ?_
      refine pr_iload_n dX6_calls_152 rfl ?_
      refine pr_ishl dX6_calls_153 ?_
      refine pr_iconst (v := 1) dX6_calls_154 (kc_1) ?_
      refine pr_isub dX6_calls_155 ?_
      refine pr_imul dX6_calls_156 ?_
      refine pr_iload dX6_calls_157 rfl ?_
      refine pr_iadd dX6_calls_159 ?_
      obtain ⟨v16, hv16, hF⟩ := po_b hF
      refine pr_iald dX6_calls_160 (hv16) ?_
      obtain ⟨q17, hq17, hF⟩ := po_b hF
      refine pr_S dX6_calls_161 cs_6_303 (as := [.int x3, .int v16]) (rest := []) rfl rfl rfl (lb rfl) (lb rfl) (lb rfl) (ok_F_X6_min hq17) ?_
      refine pr_istore_n (L' := [.ref x0, .int x1, w2, .int q17, .int x4]) dX6_calls_164 (pm_st_w (i := 2) rfl rfl hw2 rfl) ?_
      refine pr_iinc (v := 1) (L' := [.ref x0, .int x1, w2, .int q17, .int (x4 + 1)]) dX6_calls_165 rfl (kc_1) rfl ?_
      refine pr_goto (tgt := 138) dX6_calls_168 (by decide) ?_
      exact ih hF hw2 hk
    · refine pr_icT (tgt := 171) dX6_calls_141 (by decide) (pc_geT hc) ?_
      cases hF
      exact hk _ rfl
def F_X6_calls (n : Nat) (h : pm_H) (a0 : Nat) (x1 : Int32) (x2 : Int32) : Option (Int32 × pm_H) :=
  (F_X6_in x1 1 8).bind fun q1 =>
  if q1 = 0 then
    some ((-1), h)
  else
    (F_X6_in x2 0 99).bind fun q2 =>
    if q2 = 0 then
      some ((-1), h)
    else
      (pm_fI [(5, 12)] h a0).bind fun v3 =>
      if v3 < (2 * x1) then
        some ((-1), h)
      else
        (pm_put [(5, 12, 0)] h a0 (.int 0)).bind fun h4 =>
        (L_X6_calls_39 n a0 x1 0 h4).bind fun q6 => po_s q6 (fun r => some r) fun e7 =>
        (L_X6_calls_67 n a0 x1 x2 1 h4).bind fun q14 =>
        (L_X6_calls_138 n a0 x1 1000000 0 q14).bind fun q18 =>
        if q18 < 1000000 then
          some (q18, q14)
        else
          some ((-2), q14)
theorem ok_F_X6_calls {d n : Nat} {h : pm_H} {a0 : Nat} {x1 : Int32} {x2 : Int32} {q : Int32 × pm_H} (hF : F_X6_calls n h a0 x1 x2 = some q) : pm_E (d + 2) 6 cX6_calls (some .int) 0 [.ref a0, .int x1, .int x2, pm_D, pm_D] [] h (some (.int q.1), q.2) := by
  unfold F_X6_calls at hF
  refine pr_iload_n dX6_calls_0 rfl ?_
  refine pr_iconst (v := 1) dX6_calls_1 (kc_1) ?_
  refine pr_bipush (v := 8) dX6_calls_2 (kb_8) ?_
  obtain ⟨q1, hq1, hF⟩ := po_b hF
  refine pr_S dX6_calls_4 cs_6_104 (as := [.int x1, .int 1, .int 8]) (rest := []) rfl rfl rfl (lb rfl) (lb rfl) (lb rfl) (ok_F_X6_in hq1) ?_
  refine po_i hF (fun hc hF => ?_) (fun hc hF => ?_)
  · refine pr_ifT (tgt := 30) dX6_calls_7 (by decide) (pc_eqT hc) ?_
    refine pr_iconst (v := (-1)) dX6_calls_30 (kc_m1) ?_
    cases hF
    exact pr_iret dX6_calls_31 rfl rfl rfl
  · refine pr_ifF (tgt := 30) dX6_calls_7 (by decide) (pc_eqF hc) ?_
    refine pr_iload_n dX6_calls_10 rfl ?_
    refine pr_iconst (v := 0) dX6_calls_11 (kc_0) ?_
    refine pr_bipush (v := 99) dX6_calls_12 (kb_99) ?_
    obtain ⟨q2, hq2, hF⟩ := po_b hF
    refine pr_S dX6_calls_14 cs_6_104 (as := [.int x2, .int 0, .int 99]) (rest := []) rfl rfl rfl (lb rfl) (lb rfl) (lb rfl) (ok_F_X6_in hq2) ?_
    refine po_i hF (fun hc hF => ?_) (fun hc hF => ?_)
    · refine pr_ifT (tgt := 30) dX6_calls_17 (by decide) (pc_eqT hc) ?_
      refine pr_iconst (v := (-1)) dX6_calls_30 (kc_m1) ?_
      cases hF
      exact pr_iret dX6_calls_31 rfl rfl rfl
    · refine pr_ifF (tgt := 30) dX6_calls_17 (by decide) (pc_eqF hc) ?_
      refine pr_iconst (v := 2) dX6_calls_20 (kc_2) ?_
      refine pr_iload_n dX6_calls_21 rfl ?_
      refine pr_imul dX6_calls_22 ?_
      refine pr_aload_n dX6_calls_23 rfl ?_
      obtain ⟨v3, hv3, hF⟩ := po_b hF
      refine pr_getI dX6_calls_24 tf_6_116 (hv3) ?_
      refine po_i hF (fun hc hF => ?_) (fun hc hF => ?_)
      · refine pr_icF (tgt := 32) dX6_calls_27 (by decide) (pc_leF hc) ?_
        refine pr_iconst (v := (-1)) dX6_calls_30 (kc_m1) ?_
        cases hF
        exact pr_iret dX6_calls_31 rfl rfl rfl
      · refine pr_icT (tgt := 32) dX6_calls_27 (by decide) (pc_leT hc) ?_
        refine pr_aload_n dX6_calls_32 rfl ?_
        refine pr_iconst (v := 0) dX6_calls_33 (kc_0) ?_
        obtain ⟨h4, hh4, hF⟩ := po_b hF
        refine pr_put dX6_calls_34 tp_6_116 (hh4) ?_
        refine pr_iconst (v := 0) dX6_calls_37 (kc_0) ?_
        refine pr_istore_n (L' := [.ref a0, .int x1, .int x2, .int 0, pm_D]) dX6_calls_38 rfl ?_
        obtain ⟨q6, hq6, hF⟩ := po_b hF
        refine ok_L_X6_calls_39 n hq6 rfl (fun r hq => ?_) (fun e7 hq z3 hz3 => ?_)
        · subst hq
          replace hF := po_sl hF
          cases hF
          exact rfl
        subst hq
        replace hF := po_sr hF
        refine pr_iconst (v := 1) dX6_calls_65 (kc_1) ?_
        refine pr_istore_n (L' := [.ref a0, .int x1, .int x2, .int 1, pm_D]) dX6_calls_66 rfl ?_
        obtain ⟨q14, hq14, hF⟩ := po_b hF
        refine ok_L_X6_calls_67 n hq14 rfl (fun z3 hz3 z4 hz4 => ?_)
        refine pr_ldc_w (v := 1000000) dX6_calls_131 rfl ?_
        refine pr_istore_n (L' := [.ref a0, .int x1, .int x2, .int 1000000, z4]) dX6_calls_134 rfl ?_
        refine pr_iconst (v := 0) dX6_calls_135 (kc_0) ?_
        refine pr_istore (L' := [.ref a0, .int x1, .int x2, .int 1000000, .int 0]) dX6_calls_136 rfl ?_
        obtain ⟨q18, hq18, hF⟩ := po_b hF
        refine ok_L_X6_calls_138 n hq18 rfl (fun z4 hz4 => ?_)
        refine pr_iload_n dX6_calls_171 rfl ?_
        refine pr_ldc_w (v := 1000000) dX6_calls_172 rfl ?_
        refine po_i hF (fun hc hF => ?_) (fun hc hF => ?_)
        · refine pr_icT (tgt := 183) dX6_calls_175 (by decide) (pc_ltT hc) ?_
          refine pr_iload_n dX6_calls_183 rfl ?_
          cases hF
          exact pr_iret dX6_calls_184 rfl rfl rfl
        · refine pr_icF (tgt := 183) dX6_calls_175 (by decide) (pc_ltF hc) ?_
          refine pr_bipush (v := (-2)) dX6_calls_178 (kb_m2) ?_
          refine pr_goto (tgt := 184) dX6_calls_180 (by decide) ?_
          cases hF
          exact pr_iret dX6_calls_184 rfl rfl rfl

def L_X6_mostHoused_24 : Nat → Nat → Int32 → Int32 → Int32 → Int32 → Int32 → pm_H → Option (Int32 × pm_H)
  | 0, _, _, _, _, _, _, _ => none
  | n + 1, x0, x1, x2, x3, x4, x5, h =>
    if x5 < x1 then
      (pm_fR [(5, 48)] h x0).bind fun v1 =>
      (pm_ai 0 h v1 x4).bind fun v2 =>
      if 0 < v2 then
        (F_X6_has x4 x5).bind fun q3 =>
        if q3 = 0 then
          (if pm_cl_ h x0 = some 5 then F_X6_octet h x0 x3 else none).bind fun q4 =>
          (F_X6_has q4 x5).bind fun q5 =>
          if q5 = 0 then
            L_X6_mostHoused_24 n x0 x1 x2 x3 x4 (x5 + 1) h
          else
            (pm_fR [(5, 48)] h x0).bind fun v6 =>
            (pm_si 0 h v6 (x4 ||| (pm_shl 1 x5)) 1).bind fun h7 =>
            (F_X6_bits n x4).bind fun q8 =>
            (F_X6_max x2 (q8 + 1)).bind fun q9 =>
            L_X6_mostHoused_24 n x0 x1 q9 x3 x4 (x5 + 1) h7
        else
          L_X6_mostHoused_24 n x0 x1 x2 x3 x4 (x5 + 1) h
      else
        some (x2, h)
    else
      some (x2, h)
theorem ok_L_X6_mostHoused_24 {d : Nat} : ∀ (n : Nat) {x0 : Nat} {x1 : Int32} {x2 : Int32} {x3 : Int32} {x4 : Int32} {x5 : Int32} {h : pm_H} {q : Int32 × pm_H} {res : Option Value × pm_H}, L_X6_mostHoused_24 n x0 x1 x2 x3 x4 x5 h = some q → (∀ z5 : Value, pm_nolong z5 = true → pm_E (d + 1) 6 cX6_mostHoused (some .int) 97 [.ref x0, .int x1, .int q.1, .int x3, .int x4, z5] [] q.2 res) → pm_E (d + 1) 6 cX6_mostHoused (some .int) 24 [.ref x0, .int x1, .int x2, .int x3, .int x4, .int x5] [] h res := by
  intro n
  induction n with
  | zero =>
    intro x0 x1 x2 x3 x4 x5 h q res hF hk
    rw [L_X6_mostHoused_24] at hF
    cases hF
  | succ n ih =>
    intro x0 x1 x2 x3 x4 x5 h q res hF hk
    rw [L_X6_mostHoused_24] at hF
    refine pr_iload dX6_mostHoused_24 rfl ?_
    refine pr_iload_n dX6_mostHoused_26 rfl ?_
    refine po_i hF (fun hc hF => ?_) (fun hc hF => ?_)
    · refine pr_icF (tgt := 97) dX6_mostHoused_27 (by decide) (pc_geF hc) ?_
      refine pr_aload_n dX6_mostHoused_30 rfl ?_
      obtain ⟨v1, hv1, hF⟩ := po_b hF
      refine pr_getR dX6_mostHoused_31 tf_6_91 (hv1) ?_
      refine pr_iload dX6_mostHoused_34 rfl ?_
      obtain ⟨v2, hv2, hF⟩ := po_b hF
      refine pr_iald dX6_mostHoused_36 (hv2) ?_
      refine po_i hF (fun hc hF => ?_) (fun hc hF => ?_)
      · refine pr_ifF (tgt := 97) dX6_mostHoused_37 (by decide) (pc_leF hc) ?_
        refine pr_iload dX6_mostHoused_40 rfl ?_
        refine pr_iload dX6_mostHoused_42 rfl ?_
        obtain ⟨q3, hq3, hF⟩ := po_b hF
        refine pr_S dX6_mostHoused_44 cs_6_100 (as := [.int x4, .int x5]) (rest := []) rfl rfl rfl (lb rfl) (lb rfl) (lb rfl) (ok_F_X6_has hq3) ?_
        refine po_i hF (fun hc hF => ?_) (fun hc hF => ?_)
        · refine pr_ifF (tgt := 91) dX6_mostHoused_47 (by decide) (pc_neF hc) ?_
          refine pr_aload_n dX6_mostHoused_50 rfl ?_
          refine pr_iload_n dX6_mostHoused_51 rfl ?_
          obtain ⟨q4, hq4, hF⟩ := po_b hF
          refine po_i hq4 (fun hcl hq => ?_) (fun _ hq => nomatch hq)
          refine pr_V (as := [.int x3]) (rest := []) dX6_mostHoused_52 cv_6_385 hcl rfl rfl rfl rfl (lb rfl) (lb rfl) (lb rfl) (ok_F_X6_octet hq) ?_
          refine pr_iload dX6_mostHoused_55 rfl ?_
          obtain ⟨q5, hq5, hF⟩ := po_b hF
          refine pr_S dX6_mostHoused_57 cs_6_100 (as := [.int q4, .int x5]) (rest := []) rfl rfl rfl (lb rfl) (lb rfl) (lb rfl) (ok_F_X6_has hq5) ?_
          refine po_i hF (fun hc hF => ?_) (fun hc hF => ?_)
          · refine pr_ifF (tgt := 66) dX6_mostHoused_60 (by decide) (pc_neF hc) ?_
            refine pr_goto (tgt := 91) dX6_mostHoused_63 (by decide) ?_
            refine pr_iinc (v := 1) (L' := [.ref x0, .int x1, .int x2, .int x3, .int x4, .int (x5 + 1)]) dX6_mostHoused_91 rfl (kc_1) rfl ?_
            refine pr_goto (tgt := 24) dX6_mostHoused_94 (by decide) ?_
            exact ih hF hk
          · refine pr_ifT (tgt := 66) dX6_mostHoused_60 (by decide) (pc_neT hc) ?_
            refine pr_aload_n dX6_mostHoused_66 rfl ?_
            obtain ⟨v6, hv6, hF⟩ := po_b hF
            refine pr_getR dX6_mostHoused_67 tf_6_91 (hv6) ?_
            refine pr_iload dX6_mostHoused_70 rfl ?_
            refine pr_iconst (v := 1) dX6_mostHoused_72 (kc_1) ?_
            refine pr_iload dX6_mostHoused_73 rfl ?_
            refine pr_ishl dX6_mostHoused_75 ?_
            refine pr_ior dX6_mostHoused_76 ?_
            refine pr_iconst (v := 1) dX6_mostHoused_77 (kc_1) ?_
            obtain ⟨h7, hh7, hF⟩ := po_b hF
            refine pr_iast dX6_mostHoused_78 (hh7) ?_
            refine pr_iload_n dX6_mostHoused_79 rfl ?_
            refine pr_iload dX6_mostHoused_80 rfl ?_
            obtain ⟨q8, hq8, hF⟩ := po_b hF
            refine pr_S dX6_mostHoused_82 cs_6_276 (as := [.int x4]) (rest := [.int x2]) rfl rfl rfl (lb rfl) (lb rfl) (lb rfl) (ok_F_X6_bits hq8) ?_
            refine pr_iconst (v := 1) dX6_mostHoused_85 (kc_1) ?_
            refine pr_iadd dX6_mostHoused_86 ?_
            obtain ⟨q9, hq9, hF⟩ := po_b hF
            refine pr_S dX6_mostHoused_87 cs_6_368 (as := [.int x2, .int (q8 + 1)]) (rest := []) rfl rfl rfl (lb rfl) (lb rfl) (lb rfl) (ok_F_X6_max hq9) ?_
            refine pr_istore_n (L' := [.ref x0, .int x1, .int q9, .int x3, .int x4, .int x5]) dX6_mostHoused_90 rfl ?_
            refine pr_iinc (v := 1) (L' := [.ref x0, .int x1, .int q9, .int x3, .int x4, .int (x5 + 1)]) dX6_mostHoused_91 rfl (kc_1) rfl ?_
            refine pr_goto (tgt := 24) dX6_mostHoused_94 (by decide) ?_
            exact ih hF hk
        · refine pr_ifT (tgt := 91) dX6_mostHoused_47 (by decide) (pc_neT hc) ?_
          refine pr_iinc (v := 1) (L' := [.ref x0, .int x1, .int x2, .int x3, .int x4, .int (x5 + 1)]) dX6_mostHoused_91 rfl (kc_1) rfl ?_
          refine pr_goto (tgt := 24) dX6_mostHoused_94 (by decide) ?_
          exact ih hF hk
      · refine pr_ifT (tgt := 97) dX6_mostHoused_37 (by decide) (pc_leT hc) ?_
        cases hF
        exact hk _ rfl
    · refine pr_icT (tgt := 97) dX6_mostHoused_27 (by decide) (pc_geT hc) ?_
      cases hF
      exact hk _ rfl
def L_X6_mostHoused_16 : Nat → Nat → Int32 → Int32 → Int32 → Int32 → pm_H → Option (Int32 × pm_H)
  | 0, _, _, _, _, _, _ => none
  | n + 1, x0, x1, x2, x3, x4, h =>
    if x4 < 0 then
      some (x2, h)
    else
      (L_X6_mostHoused_24 n x0 x1 x2 x3 x4 0 h).bind fun q10 =>
      L_X6_mostHoused_16 n x0 x1 q10.1 x3 (x4 + (-1)) q10.2
theorem ok_L_X6_mostHoused_16 {d : Nat} : ∀ (n : Nat) {x0 : Nat} {x1 : Int32} {x2 : Int32} {x3 : Int32} {x4 : Int32} {w5 : Value} {h : pm_H} {q : Int32 × pm_H} {res : Option Value × pm_H}, L_X6_mostHoused_16 n x0 x1 x2 x3 x4 h = some q → pm_nolong w5 = true → (∀ z4 : Value, pm_nolong z4 = true → ∀ z5 : Value, pm_nolong z5 = true → pm_E (d + 1) 6 cX6_mostHoused (some .int) 103 [.ref x0, .int x1, .int q.1, .int x3, z4, z5] [] q.2 res) → pm_E (d + 1) 6 cX6_mostHoused (some .int) 16 [.ref x0, .int x1, .int x2, .int x3, .int x4, w5] [] h res := by
  intro n
  induction n with
  | zero =>
    intro x0 x1 x2 x3 x4 w5 h q res hF hw5 hk
    rw [L_X6_mostHoused_16] at hF
    cases hF
  | succ n ih =>
    intro x0 x1 x2 x3 x4 w5 h q res hF hw5 hk
    rw [L_X6_mostHoused_16] at hF
    refine pr_iload dX6_mostHoused_16 rfl ?_
    refine po_i hF (fun hc hF => ?_) (fun hc hF => ?_)
    · refine pr_ifT (tgt := 103) dX6_mostHoused_18 (by decide) (pc_ltT hc) ?_
      cases hF
      exact hk _ rfl _ hw5
    · refine pr_ifF (tgt := 103) dX6_mostHoused_18 (by decide) (pc_ltF hc) ?_
      refine pr_iconst (v := 0) dX6_mostHoused_21 (kc_0) ?_
      refine pr_istore (L' := [.ref x0, .int x1, .int x2, .int x3, .int x4, .int 0]) dX6_mostHoused_22 rfl ?_
      obtain ⟨q10, hq10, hF⟩ := po_b hF
      refine ok_L_X6_mostHoused_24 n hq10 (fun z5 hz5 => ?_)
      refine pr_iinc (v := (-1)) (L' := [.ref x0, .int x1, .int q10.1, .int x3, .int (x4 + (-1)), z5]) dX6_mostHoused_97 rfl (kc_m1) rfl ?_
      refine pr_goto (tgt := 16) dX6_mostHoused_100 (by decide) ?_
      exact ih hF hz5 hk
def L_X6_mostHoused_4 : Nat → Nat → Int32 → Int32 → Int32 → pm_H → Option (Int32 × pm_H)
  | 0, _, _, _, _, _ => none
  | n + 1, x0, x1, x2, x3, h =>
    if x3 < x1 then
      (L_X6_mostHoused_16 n x0 x1 x2 x3 ((pm_shl 1 x1) - 1) h).bind fun q11 =>
      L_X6_mostHoused_4 n x0 x1 q11.1 (x3 + 1) q11.2
    else
      some (x2, h)
theorem ok_L_X6_mostHoused_4 {d : Nat} : ∀ (n : Nat) {x0 : Nat} {x1 : Int32} {x2 : Int32} {x3 : Int32} {w4 w5 : Value} {h : pm_H} {q : Int32 × pm_H} {res : Option Value × pm_H}, L_X6_mostHoused_4 n x0 x1 x2 x3 h = some q → pm_nolong w4 = true → pm_nolong w5 = true → (∀ z3 : Value, pm_nolong z3 = true → ∀ z4 : Value, pm_nolong z4 = true → ∀ z5 : Value, pm_nolong z5 = true → pm_E (d + 1) 6 cX6_mostHoused (some .int) 109 [.ref x0, .int x1, .int q.1, z3, z4, z5] [] q.2 res) → pm_E (d + 1) 6 cX6_mostHoused (some .int) 4 [.ref x0, .int x1, .int x2, .int x3, w4, w5] [] h res := by
  intro n
  induction n with
  | zero =>
    intro x0 x1 x2 x3 w4 w5 h q res hF hw4 hw5 hk
    rw [L_X6_mostHoused_4] at hF
    cases hF
  | succ n ih =>
    intro x0 x1 x2 x3 w4 w5 h q res hF hw4 hw5 hk
    rw [L_X6_mostHoused_4] at hF
    refine pr_iload_n dX6_mostHoused_4 rfl ?_
    refine pr_iload_n dX6_mostHoused_5 rfl ?_
    refine po_i hF (fun hc hF => ?_) (fun hc hF => ?_)
    · refine pr_icF (tgt := 109) dX6_mostHoused_6 (by decide) (pc_geF hc) ?_
      refine pr_iconst (v := 1) dX6_mostHoused_9 (kc_1) ?_
      refine pr_iload_n dX6_mostHoused_10 rfl ?_
      refine pr_ishl dX6_mostHoused_11 ?_
      refine pr_iconst (v := 1) dX6_mostHoused_12 (kc_1) ?_
      refine pr_isub dX6_mostHoused_13 ?_
      refine pr_istore (L' := [.ref x0, .int x1, .int x2, .int x3, .int ((pm_shl 1 x1) - 1), w5]) dX6_mostHoused_14 rfl ?_
      obtain ⟨q11, hq11, hF⟩ := po_b hF
      refine ok_L_X6_mostHoused_16 n hq11 hw5 (fun z4 hz4 z5 hz5 => ?_)
      refine pr_iinc (v := 1) (L' := [.ref x0, .int x1, .int q11.1, .int (x3 + 1), z4, z5]) dX6_mostHoused_103 rfl (kc_1) rfl ?_
      refine pr_goto (tgt := 4) dX6_mostHoused_106 (by decide) ?_
      exact ih hF hz4 hz5 hk
    · refine pr_icT (tgt := 109) dX6_mostHoused_6 (by decide) (pc_geT hc) ?_
      cases hF
      exact hk _ rfl _ hw4 _ hw5
def F_X6_mostHoused (n : Nat) (h : pm_H) (a0 : Nat) (x1 : Int32) : Option (Int32 × pm_H) :=
  (L_X6_mostHoused_4 n a0 x1 0 0 h).bind fun q12 =>
  some (q12.1, q12.2)
theorem ok_F_X6_mostHoused {d n : Nat} {h : pm_H} {a0 : Nat} {x1 : Int32} {q : Int32 × pm_H} (hF : F_X6_mostHoused n h a0 x1 = some q) : pm_E (d + 1) 6 cX6_mostHoused (some .int) 0 [.ref a0, .int x1, pm_D, pm_D, pm_D, pm_D] [] h (some (.int q.1), q.2) := by
  unfold F_X6_mostHoused at hF
  refine pr_iconst (v := 0) dX6_mostHoused_0 (kc_0) ?_
  refine pr_istore_n (L' := [.ref a0, .int x1, .int 0, pm_D, pm_D, pm_D]) dX6_mostHoused_1 rfl ?_
  refine pr_iconst (v := 0) dX6_mostHoused_2 (kc_0) ?_
  refine pr_istore_n (L' := [.ref a0, .int x1, .int 0, .int 0, pm_D, pm_D]) dX6_mostHoused_3 rfl ?_
  obtain ⟨q12, hq12, hF⟩ := po_b hF
  refine ok_L_X6_mostHoused_4 n hq12 rfl rfl (fun z3 hz3 z4 hz4 z5 hz5 => ?_)
  refine pr_iload_n dX6_mostHoused_109 rfl ?_
  cases hF
  exact pr_iret dX6_mostHoused_110 rfl rfl rfl

def L_X6_allHoused_19 : Nat → Nat → Int32 → Int32 → Int32 → Int32 → pm_H → Option (pm_H)
  | 0, _, _, _, _, _, _ => none
  | n + 1, x0, x1, x2, x3, x4, h =>
    if x4 < x1 then
      (F_X6_has x2 x4).bind fun q2 =>
      if q2 = 0 then
        L_X6_allHoused_19 n x0 x1 x2 x3 (x4 + 1) h
      else
        (if pm_cl_ h x0 = some 5 then F_X6_octet h x0 x3 else none).bind fun q3 =>
        (F_X6_has q3 x4).bind fun q4 =>
        if q4 = 0 then
          L_X6_allHoused_19 n x0 x1 x2 x3 (x4 + 1) h
        else
          (pm_fR [(5, 48)] h x0).bind fun v5 =>
          (pm_fR [(5, 48)] h x0).bind fun v6 =>
          (pm_ai 0 h v6 x2).bind fun v7 =>
          (pm_fR [(5, 48)] h x0).bind fun v8 =>
          (pm_ai 0 h v8 (x2 &&& ((pm_shl 1 x4) ^^^ (-1)))).bind fun v9 =>
          (pm_si 0 h v5 x2 (v7 + v9)).bind fun h10 =>
          L_X6_allHoused_19 n x0 x1 x2 x3 (x4 + 1) h10
    else
      some h
theorem ok_L_X6_allHoused_19 {d : Nat} : ∀ (n : Nat) {x0 : Nat} {x1 : Int32} {x2 : Int32} {x3 : Int32} {x4 : Int32} {h : pm_H} {q : pm_H} {res : Option Value × pm_H}, L_X6_allHoused_19 n x0 x1 x2 x3 x4 h = some q → (∀ z4 : Value, pm_nolong z4 = true → pm_E (d + 1) 6 cX6_allHoused (some .int) 79 [.ref x0, .int x1, .int x2, .int x3, z4] [] q res) → pm_E (d + 1) 6 cX6_allHoused (some .int) 19 [.ref x0, .int x1, .int x2, .int x3, .int x4] [] h res := by
  intro n
  induction n with
  | zero =>
    intro x0 x1 x2 x3 x4 h q res hF hk
    rw [L_X6_allHoused_19] at hF
    cases hF
  | succ n ih =>
    intro x0 x1 x2 x3 x4 h q res hF hk
    rw [L_X6_allHoused_19] at hF
    refine pr_iload dX6_allHoused_19 rfl ?_
    refine pr_iload_n dX6_allHoused_21 rfl ?_
    refine po_i hF (fun hc hF => ?_) (fun hc hF => ?_)
    · refine pr_icF (tgt := 79) dX6_allHoused_22 (by decide) (pc_geF hc) ?_
      refine pr_iload_n dX6_allHoused_25 rfl ?_
      refine pr_iload dX6_allHoused_26 rfl ?_
      obtain ⟨q2, hq2, hF⟩ := po_b hF
      refine pr_S dX6_allHoused_28 cs_6_100 (as := [.int x2, .int x4]) (rest := []) rfl rfl rfl (lb rfl) (lb rfl) (lb rfl) (ok_F_X6_has hq2) ?_
      refine po_i hF (fun hc hF => ?_) (fun hc hF => ?_)
      · refine pr_ifT (tgt := 73) dX6_allHoused_31 (by decide) (pc_eqT hc) ?_
        refine pr_iinc (v := 1) (L' := [.ref x0, .int x1, .int x2, .int x3, .int (x4 + 1)]) dX6_allHoused_73 rfl (kc_1) rfl ?_
        refine pr_goto (tgt := 19) dX6_allHoused_76 (by decide) ?_
        exact ih hF hk
      · refine pr_ifF (tgt := 73) dX6_allHoused_31 (by decide) (pc_eqF hc) ?_
        refine pr_aload_n dX6_allHoused_34 rfl ?_
        refine pr_iload_n dX6_allHoused_35 rfl ?_
        obtain ⟨q3, hq3, hF⟩ := po_b hF
        refine po_i hq3 (fun hcl hq => ?_) (fun _ hq => nomatch hq)
        refine pr_V (as := [.int x3]) (rest := []) dX6_allHoused_36 cv_6_385 hcl rfl rfl rfl rfl (lb rfl) (lb rfl) (lb rfl) (ok_F_X6_octet hq) ?_
        refine pr_iload dX6_allHoused_39 rfl ?_
        obtain ⟨q4, hq4, hF⟩ := po_b hF
        refine pr_S dX6_allHoused_41 cs_6_100 (as := [.int q3, .int x4]) (rest := []) rfl rfl rfl (lb rfl) (lb rfl) (lb rfl) (ok_F_X6_has hq4) ?_
        refine po_i hF (fun hc hF => ?_) (fun hc hF => ?_)
        · refine pr_ifT (tgt := 73) dX6_allHoused_44 (by decide) (pc_eqT hc) ?_
          refine pr_iinc (v := 1) (L' := [.ref x0, .int x1, .int x2, .int x3, .int (x4 + 1)]) dX6_allHoused_73 rfl (kc_1) rfl ?_
          refine pr_goto (tgt := 19) dX6_allHoused_76 (by decide) ?_
          exact ih hF hk
        · refine pr_ifF (tgt := 73) dX6_allHoused_44 (by decide) (pc_eqF hc) ?_
          refine pr_aload_n dX6_allHoused_47 rfl ?_
          obtain ⟨v5, hv5, hF⟩ := po_b hF
          refine pr_getR dX6_allHoused_48 tf_6_91 (hv5) ?_
          refine pr_iload_n dX6_allHoused_51 rfl ?_
          refine pr_aload_n dX6_allHoused_52 rfl ?_
          obtain ⟨v6, hv6, hF⟩ := po_b hF
          refine pr_getR dX6_allHoused_53 tf_6_91 (hv6) ?_
          refine pr_iload_n dX6_allHoused_56 rfl ?_
          obtain ⟨v7, hv7, hF⟩ := po_b hF
          refine pr_iald dX6_allHoused_57 (hv7) ?_
          refine pr_aload_n dX6_allHoused_58 rfl ?_
          obtain ⟨v8, hv8, hF⟩ := po_b hF
          refine pr_getR dX6_allHoused_59 tf_6_91 (hv8) ?_
          refine pr_iload_n dX6_allHoused_62 rfl ?_
          refine pr_iconst (v := 1) dX6_allHoused_63 (kc_1) ?_
          refine pr_iload dX6_allHoused_64 rfl ?_
          refine pr_ishl dX6_allHoused_66 ?_
          refine pr_iconst (v := (-1)) dX6_allHoused_67 (kc_m1) ?_
          refine pr_ixor dX6_allHoused_68 ?_
          refine pr_iand dX6_allHoused_69 ?_
          obtain ⟨v9, hv9, hF⟩ := po_b hF
          refine pr_iald dX6_allHoused_70 (hv9) ?_
          refine pr_iadd dX6_allHoused_71 ?_
          obtain ⟨h10, hh10, hF⟩ := po_b hF
          refine pr_iast dX6_allHoused_72 (hh10) ?_
          refine pr_iinc (v := 1) (L' := [.ref x0, .int x1, .int x2, .int x3, .int (x4 + 1)]) dX6_allHoused_73 rfl (kc_1) rfl ?_
          refine pr_goto (tgt := 19) dX6_allHoused_76 (by decide) ?_
          exact ih hF hk
    · refine pr_icT (tgt := 79) dX6_allHoused_22 (by decide) (pc_geT hc) ?_
      cases hF
      exact hk _ rfl
def L_X6_allHoused_2 : Nat → Nat → Int32 → Int32 → pm_H → Option (pm_H)
  | 0, _, _, _, _ => none
  | n + 1, x0, x1, x2, h =>
    if x2 < (pm_shl 1 x1) then
      (F_X6_bits n x2).bind fun q1 =>
      (L_X6_allHoused_19 n x0 x1 x2 (q1 - 1) 0 h).bind fun q11 =>
      L_X6_allHoused_2 n x0 x1 (x2 + 1) q11
    else
      some h
theorem ok_L_X6_allHoused_2 {d : Nat} : ∀ (n : Nat) {x0 : Nat} {x1 : Int32} {x2 : Int32} {w3 w4 : Value} {h : pm_H} {q : pm_H} {res : Option Value × pm_H}, L_X6_allHoused_2 n x0 x1 x2 h = some q → pm_nolong w3 = true → pm_nolong w4 = true → (∀ z2 : Value, pm_nolong z2 = true → ∀ z3 : Value, pm_nolong z3 = true → ∀ z4 : Value, pm_nolong z4 = true → pm_E (d + 1) 6 cX6_allHoused (some .int) 85 [.ref x0, .int x1, z2, z3, z4] [] q res) → pm_E (d + 1) 6 cX6_allHoused (some .int) 2 [.ref x0, .int x1, .int x2, w3, w4] [] h res := by
  intro n
  induction n with
  | zero =>
    intro x0 x1 x2 w3 w4 h q res hF hw3 hw4 hk
    rw [L_X6_allHoused_2] at hF
    cases hF
  | succ n ih =>
    intro x0 x1 x2 w3 w4 h q res hF hw3 hw4 hk
    rw [L_X6_allHoused_2] at hF
    refine pr_iload_n dX6_allHoused_2 rfl ?_
    refine pr_iconst (v := 1) dX6_allHoused_3 (kc_1) ?_
    refine pr_iload_n dX6_allHoused_4 rfl ?_
    refine pr_ishl dX6_allHoused_5 ?_
    refine po_i hF (fun hc hF => ?_) (fun hc hF => ?_)
    · refine pr_icF (tgt := 85) dX6_allHoused_6 (by decide) (pc_geF hc) ?_
      refine pr_iload_n dX6_allHoused_9 rfl ?_
      obtain ⟨q1, hq1, hF⟩ := po_b hF
      refine pr_S dX6_allHoused_10 cs_6_276 (as := [.int x2]) (rest := []) rfl rfl rfl (lb rfl) (lb rfl) (lb rfl) (ok_F_X6_bits hq1) ?_
      refine pr_iconst (v := 1) dX6_allHoused_13 (kc_1) ?_
      refine pr_isub dX6_allHoused_14 ?_
      refine pr_istore_n (L' := [.ref x0, .int x1, .int x2, .int (q1 - 1), w4]) dX6_allHoused_15 rfl ?_
      refine pr_iconst (v := 0) dX6_allHoused_16 (kc_0) ?_
      refine pr_istore (L' := [.ref x0, .int x1, .int x2, .int (q1 - 1), .int 0]) dX6_allHoused_17 rfl ?_
      obtain ⟨q11, hq11, hF⟩ := po_b hF
      refine ok_L_X6_allHoused_19 n hq11 (fun z4 hz4 => ?_)
      refine pr_iinc (v := 1) (L' := [.ref x0, .int x1, .int (x2 + 1), .int (q1 - 1), z4]) dX6_allHoused_79 rfl (kc_1) rfl ?_
      refine pr_goto (tgt := 2) dX6_allHoused_82 (by decide) ?_
      exact ih hF rfl hz4 hk
    · refine pr_icT (tgt := 85) dX6_allHoused_6 (by decide) (pc_geT hc) ?_
      cases hF
      exact hk _ rfl _ hw3 _ hw4
def F_X6_allHoused (n : Nat) (h : pm_H) (a0 : Nat) (x1 : Int32) : Option (Int32 × pm_H) :=
  (L_X6_allHoused_2 n a0 x1 1 h).bind fun q12 =>
  (pm_fR [(5, 48)] q12 a0).bind fun v13 =>
  (pm_ai 0 q12 v13 ((pm_shl 1 x1) - 1)).bind fun v14 =>
  some (v14, q12)
theorem ok_F_X6_allHoused {d n : Nat} {h : pm_H} {a0 : Nat} {x1 : Int32} {q : Int32 × pm_H} (hF : F_X6_allHoused n h a0 x1 = some q) : pm_E (d + 1) 6 cX6_allHoused (some .int) 0 [.ref a0, .int x1, pm_D, pm_D, pm_D] [] h (some (.int q.1), q.2) := by
  unfold F_X6_allHoused at hF
  refine pr_iconst (v := 1) dX6_allHoused_0 (kc_1) ?_
  refine pr_istore_n (L' := [.ref a0, .int x1, .int 1, pm_D, pm_D]) dX6_allHoused_1 rfl ?_
  obtain ⟨q12, hq12, hF⟩ := po_b hF
  refine ok_L_X6_allHoused_2 n hq12 rfl rfl (fun z2 hz2 z3 hz3 z4 hz4 => ?_)
  refine pr_aload_n dX6_allHoused_85 rfl ?_
  obtain ⟨v13, hv13, hF⟩ := po_b hF
  refine pr_getR dX6_allHoused_86 tf_6_91 (hv13) ?_
  refine pr_iconst (v := 1) dX6_allHoused_89 (kc_1) ?_
  refine pr_iload_n dX6_allHoused_90 rfl ?_
  refine pr_ishl dX6_allHoused_91 ?_
  refine pr_iconst (v := 1) dX6_allHoused_92 (kc_1) ?_
  refine pr_isub dX6_allHoused_93 ?_
  obtain ⟨v14, hv14, hF⟩ := po_b hF
  refine pr_iald dX6_allHoused_94 (hv14) ?_
  cases hF
  exact pr_iret dX6_allHoused_95 rfl rfl rfl

def L_X6_changed_36 : Nat → Nat → Int32 → Int32 → pm_H → Option ((Int32 × pm_H) ⊕ (Unit))
  | 0, _, _, _, _ => none
  | n + 1, x0, x1, x3, h =>
    if x3 < x1 then
      (if pm_cl_ h x0 = some 5 then F_X6_octet h x0 x3 else none).bind fun q5 =>
      if (pm_shr q5 x1) = 0 then
        L_X6_changed_36 n x0 x1 (x3 + 1) h
      else
        some (.inl ((-3), h))
    else
      some (.inr ())
theorem ok_L_X6_changed_36 {d : Nat} : ∀ (n : Nat) {x0 : Nat} {x1 : Int32} {x3 : Int32} {w2 : Value} {h : pm_H} {q : (Int32 × pm_H) ⊕ (Unit)} {res : Option Value × pm_H}, L_X6_changed_36 n x0 x1 x3 h = some q → pm_nolong w2 = true → (∀ r, q = .inl r → res = (some (.int r.1), r.2)) → (∀ e, q = .inr e → ∀ z3 : Value, pm_nolong z3 = true → pm_E (d + 2) 6 cX6_changed (some .int) 60 [.ref x0, .int x1, w2, z3] [] h res) → pm_E (d + 2) 6 cX6_changed (some .int) 36 [.ref x0, .int x1, w2, .int x3] [] h res := by
  intro n
  induction n with
  | zero =>
    intro x0 x1 x3 w2 h q res hF hw2 hr hk
    rw [L_X6_changed_36] at hF
    cases hF
  | succ n ih =>
    intro x0 x1 x3 w2 h q res hF hw2 hr hk
    rw [L_X6_changed_36] at hF
    refine pr_iload_n dX6_changed_36 rfl ?_
    refine pr_iload_n dX6_changed_37 rfl ?_
    refine po_i hF (fun hc hF => ?_) (fun hc hF => ?_)
    · refine pr_icF (tgt := 60) dX6_changed_38 (by decide) (pc_geF hc) ?_
      refine pr_aload_n dX6_changed_41 rfl ?_
      refine pr_iload_n dX6_changed_42 rfl ?_
      obtain ⟨q5, hq5, hF⟩ := po_b hF
      refine po_i hq5 (fun hcl hq => ?_) (fun _ hq => nomatch hq)
      refine pr_V (as := [.int x3]) (rest := []) dX6_changed_43 cv_6_385 hcl rfl rfl rfl rfl (lb rfl) (lb rfl) (lb rfl) (ok_F_X6_octet hq) ?_
      refine pr_iload_n dX6_changed_46 rfl ?_
      refine pr_ishr dX6_changed_47 ?_
      refine po_i hF (fun hc hF => ?_) (fun hc hF => ?_)
      · refine pr_ifT (tgt := 54) dX6_changed_48 (by decide) (pc_eqT hc) ?_
        refine pr_iinc (v := 1) (L' := [.ref x0, .int x1, w2, .int (x3 + 1)]) dX6_changed_54 rfl (kc_1) (pm_st_w (i := 2) rfl rfl hw2 rfl) ?_
        refine pr_goto (tgt := 36) dX6_changed_57 (by decide) ?_
        exact ih hF hw2 hr hk
      · refine pr_ifF (tgt := 54) dX6_changed_48 (by decide) (pc_eqF hc) ?_
        refine pr_bipush (v := (-3)) dX6_changed_51 (kb_m3) ?_
        cases hF
        exact pr_iret dX6_changed_53 rfl rfl (hr _ rfl)
    · refine pr_icT (tgt := 60) dX6_changed_38 (by decide) (pc_geT hc) ?_
      cases hF
      exact hk _ rfl _ rfl
def L_X6_changed_62 : Nat → Nat → Int32 → Int32 → pm_H → Option (pm_H)
  | 0, _, _, _, _ => none
  | n + 1, x0, x1, x3, h =>
    if x3 < (pm_shl 1 x1) then
      (pm_fR [(5, 48)] h x0).bind fun v8 =>
      if x3 = 0 then
        (pm_si 0 h v8 x3 1).bind fun h10 =>
        L_X6_changed_62 n x0 x1 (x3 + 1) h10
      else
        (pm_si 0 h v8 x3 0).bind fun h9 =>
        L_X6_changed_62 n x0 x1 (x3 + 1) h9
    else
      some h
theorem ok_L_X6_changed_62 {d : Nat} : ∀ (n : Nat) {x0 : Nat} {x1 : Int32} {x3 : Int32} {w2 : Value} {h : pm_H} {q : pm_H} {res : Option Value × pm_H}, L_X6_changed_62 n x0 x1 x3 h = some q → pm_nolong w2 = true → (∀ z3 : Value, pm_nolong z3 = true → pm_E (d + 2) 6 cX6_changed (some .int) 90 [.ref x0, .int x1, w2, z3] [] q res) → pm_E (d + 2) 6 cX6_changed (some .int) 62 [.ref x0, .int x1, w2, .int x3] [] h res := by
  intro n
  induction n with
  | zero =>
    intro x0 x1 x3 w2 h q res hF hw2 hk
    rw [L_X6_changed_62] at hF
    cases hF
  | succ n ih =>
    intro x0 x1 x3 w2 h q res hF hw2 hk
    rw [L_X6_changed_62] at hF
    refine pr_iload_n dX6_changed_62 rfl ?_
    refine pr_iconst (v := 1) dX6_changed_63 (kc_1) ?_
    refine pr_iload_n dX6_changed_64 rfl ?_
    refine pr_ishl dX6_changed_65 ?_
    refine po_i hF (fun hc hF => ?_) (fun hc hF => ?_)
    · refine pr_icF (tgt := 90) dX6_changed_66 (by decide) (pc_geF hc) ?_
      refine pr_aload_n dX6_changed_69 rfl ?_
      obtain ⟨v8, hv8, hF⟩ := po_b hF
      refine pr_getR dX6_changed_70 tf_6_91 (hv8) ?_
      refine pr_iload_n dX6_changed_73 rfl ?_
      refine pr_iload_n dX6_changed_74 rfl ?_
      refine po_i hF (fun hc hF => ?_) (fun hc hF => ?_)
      · refine pr_ifF (tgt := 82) dX6_changed_75 (by decide) (pc_neF hc) ?_
        refine pr_iconst (v := 1) dX6_changed_78 (kc_1) ?_
        refine pr_goto (tgt := 83) dX6_changed_79 (by decide) ?_
        obtain ⟨h10, hh10, hF⟩ := po_b hF
        refine pr_iast dX6_changed_83 (hh10) ?_
        refine pr_iinc (v := 1) (L' := [.ref x0, .int x1, w2, .int (x3 + 1)]) dX6_changed_84 rfl (kc_1) (pm_st_w (i := 2) rfl rfl hw2 rfl) ?_
        refine pr_goto (tgt := 62) dX6_changed_87 (by decide) ?_
        exact ih hF hw2 hk
      · refine pr_ifT (tgt := 82) dX6_changed_75 (by decide) (pc_neT hc) ?_
        refine pr_iconst (v := 0) dX6_changed_82 (kc_0) ?_
        obtain ⟨h9, hh9, hF⟩ := po_b hF
        refine pr_iast dX6_changed_83 (hh9) ?_
        refine pr_iinc (v := 1) (L' := [.ref x0, .int x1, w2, .int (x3 + 1)]) dX6_changed_84 rfl (kc_1) (pm_st_w (i := 2) rfl rfl hw2 rfl) ?_
        refine pr_goto (tgt := 62) dX6_changed_87 (by decide) ?_
        exact ih hF hw2 hk
    · refine pr_icT (tgt := 90) dX6_changed_66 (by decide) (pc_geT hc) ?_
      cases hF
      exact hk _ rfl
def F_X6_changed (n : Nat) (h : pm_H) (a0 : Nat) (x1 : Int32) (x2 : Int32) : Option (Int32 × pm_H) :=
  (F_X6_in x1 2 8).bind fun q1 =>
  if q1 = 0 then
    some ((-1), h)
  else
    (F_X6_in x2 0 1).bind fun q2 =>
    if q2 = 0 then
      some ((-1), h)
    else
      (pm_fI [(5, 12)] h a0).bind fun v3 =>
      if v3 < x1 then
        some ((-1), h)
      else
        (pm_put [(5, 12, 0)] h a0 (.int 0)).bind fun h4 =>
        (L_X6_changed_36 n a0 x1 0 h4).bind fun q6 => po_s q6 (fun r => some r) fun e7 =>
        (L_X6_changed_62 n a0 x1 0 h4).bind fun q11 =>
        if x2 = 0 then
          (if pm_cl_ q11 a0 = some 5 then F_X6_mostHoused n q11 a0 x1 else none).bind fun q13 =>
          some (q13.1, q13.2)
        else
          (if pm_cl_ q11 a0 = some 5 then F_X6_allHoused n q11 a0 x1 else none).bind fun q12 =>
          some (q12.1, q12.2)
theorem ok_F_X6_changed {d n : Nat} {h : pm_H} {a0 : Nat} {x1 : Int32} {x2 : Int32} {q : Int32 × pm_H} (hF : F_X6_changed n h a0 x1 x2 = some q) : pm_E (d + 2) 6 cX6_changed (some .int) 0 [.ref a0, .int x1, .int x2, pm_D] [] h (some (.int q.1), q.2) := by
  unfold F_X6_changed at hF
  refine pr_iload_n dX6_changed_0 rfl ?_
  refine pr_iconst (v := 2) dX6_changed_1 (kc_2) ?_
  refine pr_bipush (v := 8) dX6_changed_2 (kb_8) ?_
  obtain ⟨q1, hq1, hF⟩ := po_b hF
  refine pr_S dX6_changed_4 cs_6_104 (as := [.int x1, .int 2, .int 8]) (rest := []) rfl rfl rfl (lb rfl) (lb rfl) (lb rfl) (ok_F_X6_in hq1) ?_
  refine po_i hF (fun hc hF => ?_) (fun hc hF => ?_)
  · refine pr_ifT (tgt := 27) dX6_changed_7 (by decide) (pc_eqT hc) ?_
    refine pr_iconst (v := (-1)) dX6_changed_27 (kc_m1) ?_
    cases hF
    exact pr_iret dX6_changed_28 rfl rfl rfl
  · refine pr_ifF (tgt := 27) dX6_changed_7 (by decide) (pc_eqF hc) ?_
    refine pr_iload_n dX6_changed_10 rfl ?_
    refine pr_iconst (v := 0) dX6_changed_11 (kc_0) ?_
    refine pr_iconst (v := 1) dX6_changed_12 (kc_1) ?_
    obtain ⟨q2, hq2, hF⟩ := po_b hF
    refine pr_S dX6_changed_13 cs_6_104 (as := [.int x2, .int 0, .int 1]) (rest := []) rfl rfl rfl (lb rfl) (lb rfl) (lb rfl) (ok_F_X6_in hq2) ?_
    refine po_i hF (fun hc hF => ?_) (fun hc hF => ?_)
    · refine pr_ifT (tgt := 27) dX6_changed_16 (by decide) (pc_eqT hc) ?_
      refine pr_iconst (v := (-1)) dX6_changed_27 (kc_m1) ?_
      cases hF
      exact pr_iret dX6_changed_28 rfl rfl rfl
    · refine pr_ifF (tgt := 27) dX6_changed_16 (by decide) (pc_eqF hc) ?_
      refine pr_iload_n dX6_changed_19 rfl ?_
      refine pr_aload_n dX6_changed_20 rfl ?_
      obtain ⟨v3, hv3, hF⟩ := po_b hF
      refine pr_getI dX6_changed_21 tf_6_116 (hv3) ?_
      refine po_i hF (fun hc hF => ?_) (fun hc hF => ?_)
      · refine pr_icF (tgt := 29) dX6_changed_24 (by decide) (pc_leF hc) ?_
        refine pr_iconst (v := (-1)) dX6_changed_27 (kc_m1) ?_
        cases hF
        exact pr_iret dX6_changed_28 rfl rfl rfl
      · refine pr_icT (tgt := 29) dX6_changed_24 (by decide) (pc_leT hc) ?_
        refine pr_aload_n dX6_changed_29 rfl ?_
        refine pr_iconst (v := 0) dX6_changed_30 (kc_0) ?_
        obtain ⟨h4, hh4, hF⟩ := po_b hF
        refine pr_put dX6_changed_31 tp_6_116 (hh4) ?_
        refine pr_iconst (v := 0) dX6_changed_34 (kc_0) ?_
        refine pr_istore_n (L' := [.ref a0, .int x1, .int x2, .int 0]) dX6_changed_35 rfl ?_
        obtain ⟨q6, hq6, hF⟩ := po_b hF
        refine ok_L_X6_changed_36 n hq6 rfl (fun r hq => ?_) (fun e7 hq z3 hz3 => ?_)
        · subst hq
          replace hF := po_sl hF
          cases hF
          exact rfl
        subst hq
        replace hF := po_sr hF
        refine pr_iconst (v := 0) dX6_changed_60 (kc_0) ?_
        refine pr_istore_n (L' := [.ref a0, .int x1, .int x2, .int 0]) dX6_changed_61 rfl ?_
        obtain ⟨q11, hq11, hF⟩ := po_b hF
        refine ok_L_X6_changed_62 n hq11 rfl (fun z3 hz3 => ?_)
        refine pr_iload_n dX6_changed_90 rfl ?_
        refine po_i hF (fun hc hF => ?_) (fun hc hF => ?_)
        · refine pr_ifF (tgt := 102) dX6_changed_91 (by decide) (pc_neF hc) ?_
          refine pr_aload_n dX6_changed_94 rfl ?_
          refine pr_iload_n dX6_changed_95 rfl ?_
          obtain ⟨q13, hq13, hF⟩ := po_b hF
          refine po_i hq13 (fun hcl hq => ?_) (fun _ hq => nomatch hq)
          refine pr_V (as := [.int x1]) (rest := []) dX6_changed_96 cv_6_393 hcl rfl rfl rfl rfl (lb rfl) (lb rfl) (lb rfl) (ok_F_X6_mostHoused hq) ?_
          refine pr_goto (tgt := 107) dX6_changed_99 (by decide) ?_
          cases hF
          exact pr_iret dX6_changed_107 rfl rfl rfl
        · refine pr_ifT (tgt := 102) dX6_changed_91 (by decide) (pc_neT hc) ?_
          refine pr_aload_n dX6_changed_102 rfl ?_
          refine pr_iload_n dX6_changed_103 rfl ?_
          obtain ⟨q12, hq12, hF⟩ := po_b hF
          refine po_i hq12 (fun hcl hq => ?_) (fun _ hq => nomatch hq)
          refine pr_V (as := [.int x1]) (rest := []) dX6_changed_104 cv_6_396 hcl rfl rfl rfl rfl (lb rfl) (lb rfl) (lb rfl) (ok_F_X6_allHoused hq) ?_
          cases hF
          exact pr_iret dX6_changed_107 rfl rfl rfl

def L_X6_between_27 : Nat → Nat → Int32 → Int32 → Int32 → Int32 → pm_H → Option (Int32)
  | 0, _, _, _, _, _, _ => none
  | n + 1, x0, x1, x2, x3, x4, h =>
    if x4 < 16 then
      (if pm_cl_ h x0 = some 5 then F_X6_isTold h x0 x4 else none).bind fun q3 =>
      if q3 = 0 then
        L_X6_between_27 n x0 x1 x2 x3 (x4 + 1) h
      else
        (pm_fR [(5, 3)] h x0).bind fun v4 =>
        (pm_ai 0 h v4 x4).bind fun v5 =>
        (F_X6_min x1 x2).bind fun q6 =>
        (F_X6_max x1 x2).bind fun q7 =>
        (F_X6_in v5 q6 q7).bind fun q8 =>
        if q8 = 0 then
          L_X6_between_27 n x0 x1 x2 x3 (x4 + 1) h
        else
          L_X6_between_27 n x0 x1 x2 (x3 ||| (pm_shl 1 x4)) (x4 + 1) h
    else
      some x3
theorem ok_L_X6_between_27 {d : Nat} : ∀ (n : Nat) {x0 : Nat} {x1 : Int32} {x2 : Int32} {x3 : Int32} {x4 : Int32} {h : pm_H} {q : Int32} {res : Option Value × pm_H}, L_X6_between_27 n x0 x1 x2 x3 x4 h = some q → (∀ z4 : Value, pm_nolong z4 = true → pm_E (d + 2) 6 cX6_between (some .int) 79 [.ref x0, .int x1, .int x2, .int q, z4] [] h res) → pm_E (d + 2) 6 cX6_between (some .int) 27 [.ref x0, .int x1, .int x2, .int x3, .int x4] [] h res := by
  intro n
  induction n with
  | zero =>
    intro x0 x1 x2 x3 x4 h q res hF hk
    rw [L_X6_between_27] at hF
    cases hF
  | succ n ih =>
    intro x0 x1 x2 x3 x4 h q res hF hk
    rw [L_X6_between_27] at hF
    refine pr_iload dX6_between_27 rfl ?_
    refine pr_bipush (v := 16) dX6_between_29 (kb_16) ?_
    refine po_i hF (fun hc hF => ?_) (fun hc hF => ?_)
    · refine pr_icF (tgt := 79) dX6_between_31 (by decide) (pc_geF hc) ?_
      refine pr_aload_n dX6_between_34 rfl ?_
      refine pr_iload dX6_between_35 rfl ?_
      obtain ⟨q3, hq3, hF⟩ := po_b hF
      refine po_i hq3 (fun hcl hq => ?_) (fun _ hq => nomatch hq)
      refine pr_V (as := [.int x4]) (rest := []) dX6_between_37 cv_6_233 hcl rfl rfl rfl rfl (lb rfl) (lb rfl) (lb rfl) (ok_F_X6_isTold hq) ?_
      refine po_i hF (fun hc hF => ?_) (fun hc hF => ?_)
      · refine pr_ifT (tgt := 73) dX6_between_40 (by decide) (pc_eqT hc) ?_
        refine pr_iinc (v := 1) (L' := [.ref x0, .int x1, .int x2, .int x3, .int (x4 + 1)]) dX6_between_73 rfl (kc_1) rfl ?_
        refine pr_goto (tgt := 27) dX6_between_76 (by decide) ?_
        exact ih hF hk
      · refine pr_ifF (tgt := 73) dX6_between_40 (by decide) (pc_eqF hc) ?_
        refine pr_aload_n dX6_between_43 rfl ?_
        obtain ⟨v4, hv4, hF⟩ := po_b hF
        refine pr_getR dX6_between_44 tf_6_19 (hv4) ?_
        refine pr_iload dX6_between_47 rfl ?_
        obtain ⟨v5, hv5, hF⟩ := po_b hF
        refine pr_iald dX6_between_49 (hv5) ?_
        refine pr_iload_n dX6_between_50 rfl ?_
        refine pr_iload_n dX6_between_51 rfl ?_
        obtain ⟨q6, hq6, hF⟩ := po_b hF
        refine pr_S dX6_between_52 cs_6_303 (as := [.int x1, .int x2]) (rest := [.int v5]) rfl rfl rfl (lb rfl) (lb rfl) (lb rfl) (ok_F_X6_min hq6) ?_
        refine pr_iload_n dX6_between_55 rfl ?_
        refine pr_iload_n dX6_between_56 rfl ?_
        obtain ⟨q7, hq7, hF⟩ := po_b hF
        refine pr_S dX6_between_57 cs_6_368 (as := [.int x1, .int x2]) (rest := [.int q6, .int v5]) rfl rfl rfl (lb rfl) (lb rfl) (lb rfl) (ok_F_X6_max hq7) ?_
        obtain ⟨q8, hq8, hF⟩ := po_b hF
        refine pr_S dX6_between_60 cs_6_104 (as := [.int v5, .int q6, .int q7]) (rest := []) rfl rfl rfl (lb rfl) (lb rfl) (lb rfl) (ok_F_X6_in hq8) ?_
        refine po_i hF (fun hc hF => ?_) (fun hc hF => ?_)
        · refine pr_ifT (tgt := 73) dX6_between_63 (by decide) (pc_eqT hc) ?_
          refine pr_iinc (v := 1) (L' := [.ref x0, .int x1, .int x2, .int x3, .int (x4 + 1)]) dX6_between_73 rfl (kc_1) rfl ?_
          refine pr_goto (tgt := 27) dX6_between_76 (by decide) ?_
          exact ih hF hk
        · refine pr_ifF (tgt := 73) dX6_between_63 (by decide) (pc_eqF hc) ?_
          refine pr_iload_n dX6_between_66 rfl ?_
          refine pr_iconst (v := 1) dX6_between_67 (kc_1) ?_
          refine pr_iload dX6_between_68 rfl ?_
          refine pr_ishl dX6_between_70 ?_
          refine pr_ior dX6_between_71 ?_
          refine pr_istore_n (L' := [.ref x0, .int x1, .int x2, .int (x3 ||| (pm_shl 1 x4)), .int x4]) dX6_between_72 rfl ?_
          refine pr_iinc (v := 1) (L' := [.ref x0, .int x1, .int x2, .int (x3 ||| (pm_shl 1 x4)), .int (x4 + 1)]) dX6_between_73 rfl (kc_1) rfl ?_
          refine pr_goto (tgt := 27) dX6_between_76 (by decide) ?_
          exact ih hF hk
    · refine pr_icT (tgt := 79) dX6_between_31 (by decide) (pc_geT hc) ?_
      cases hF
      exact hk _ rfl
def F_X6_between (n : Nat) (h : pm_H) (a0 : Nat) (x1 : Int32) (x2 : Int32) : Option (Int32) :=
  (F_X6_in x1 0 99).bind fun q1 =>
  if q1 = 0 then
    some (-1)
  else
    (F_X6_in x2 0 99).bind fun q2 =>
    if q2 = 0 then
      some (-1)
    else
      (L_X6_between_27 n a0 x1 x2 0 0 h).bind fun q9 =>
      some q9
theorem ok_F_X6_between {d n : Nat} {h : pm_H} {a0 : Nat} {x1 : Int32} {x2 : Int32} {q : Int32} (hF : F_X6_between n h a0 x1 x2 = some q) : pm_E (d + 2) 6 cX6_between (some .int) 0 [.ref a0, .int x1, .int x2, pm_D, pm_D] [] h (some (.int q), h) := by
  unfold F_X6_between at hF
  refine pr_iload_n dX6_between_0 rfl ?_
  refine pr_iconst (v := 0) dX6_between_1 (kc_0) ?_
  refine pr_bipush (v := 99) dX6_between_2 (kb_99) ?_
  obtain ⟨q1, hq1, hF⟩ := po_b hF
  refine pr_S dX6_between_4 cs_6_104 (as := [.int x1, .int 0, .int 99]) (rest := []) rfl rfl rfl (lb rfl) (lb rfl) (lb rfl) (ok_F_X6_in hq1) ?_
  refine po_i hF (fun hc hF => ?_) (fun hc hF => ?_)
  · refine pr_ifT (tgt := 20) dX6_between_7 (by decide) (pc_eqT hc) ?_
    refine pr_iconst (v := (-1)) dX6_between_20 (kc_m1) ?_
    cases hF
    exact pr_iret dX6_between_21 rfl rfl rfl
  · refine pr_ifF (tgt := 20) dX6_between_7 (by decide) (pc_eqF hc) ?_
    refine pr_iload_n dX6_between_10 rfl ?_
    refine pr_iconst (v := 0) dX6_between_11 (kc_0) ?_
    refine pr_bipush (v := 99) dX6_between_12 (kb_99) ?_
    obtain ⟨q2, hq2, hF⟩ := po_b hF
    refine pr_S dX6_between_14 cs_6_104 (as := [.int x2, .int 0, .int 99]) (rest := []) rfl rfl rfl (lb rfl) (lb rfl) (lb rfl) (ok_F_X6_in hq2) ?_
    refine po_i hF (fun hc hF => ?_) (fun hc hF => ?_)
    · refine pr_ifF (tgt := 22) dX6_between_17 (by decide) (pc_neF hc) ?_
      refine pr_iconst (v := (-1)) dX6_between_20 (kc_m1) ?_
      cases hF
      exact pr_iret dX6_between_21 rfl rfl rfl
    · refine pr_ifT (tgt := 22) dX6_between_17 (by decide) (pc_neT hc) ?_
      refine pr_iconst (v := 0) dX6_between_22 (kc_0) ?_
      refine pr_istore_n (L' := [.ref a0, .int x1, .int x2, .int 0, pm_D]) dX6_between_23 rfl ?_
      refine pr_iconst (v := 0) dX6_between_24 (kc_0) ?_
      refine pr_istore (L' := [.ref a0, .int x1, .int x2, .int 0, .int 0]) dX6_between_25 rfl ?_
      obtain ⟨q9, hq9, hF⟩ := po_b hF
      refine ok_L_X6_between_27 n hq9 (fun z4 hz4 => ?_)
      refine pr_iload_n dX6_between_79 rfl ?_
      cases hF
      exact pr_iret dX6_between_80 rfl rfl rfl

def F_X6_seed (h : pm_H) (a0 : Nat) (x1 : Int32) : Option (Int32 × pm_H) :=
  (F_X6_in x1 0 65535).bind fun q1 =>
  if q1 = 0 then
    some (0, h)
  else
    (pm_fR [(5, 0)] h a0).bind fun v2 =>
    (pm_si 0 h v2 273 x1).bind fun h3 =>
    some (1, h3)
theorem ok_F_X6_seed {d : Nat} {h : pm_H} {a0 : Nat} {x1 : Int32} {q : Int32 × pm_H} (hF : F_X6_seed h a0 x1 = some q) : pm_E (d + 1) 6 cX6_seed (some .boolean) 0 [.ref a0, .int x1] [] h (some (.int q.1), q.2) := by
  unfold F_X6_seed at hF
  refine pr_iload_n dX6_seed_0 rfl ?_
  refine pr_iconst (v := 0) dX6_seed_1 (kc_0) ?_
  refine pr_ldc_w (v := 65535) dX6_seed_2 rfl ?_
  obtain ⟨q1, hq1, hF⟩ := po_b hF
  refine pr_S dX6_seed_5 cs_6_104 (as := [.int x1, .int 0, .int 65535]) (rest := []) rfl rfl rfl (lb rfl) (lb rfl) (lb rfl) (ok_F_X6_in hq1) ?_
  refine po_i hF (fun hc hF => ?_) (fun hc hF => ?_)
  · refine pr_ifF (tgt := 13) dX6_seed_8 (by decide) (pc_neF hc) ?_
    refine pr_iconst (v := 0) dX6_seed_11 (kc_0) ?_
    cases hF
    exact pr_iret dX6_seed_12 rfl nb_0 rfl
  · refine pr_ifT (tgt := 13) dX6_seed_8 (by decide) (pc_neT hc) ?_
    refine pr_aload_n dX6_seed_13 rfl ?_
    obtain ⟨v2, hv2, hF⟩ := po_b hF
    refine pr_getR dX6_seed_14 tf_6_7 (hv2) ?_
    refine pr_sipush (v := 273) dX6_seed_17 (ks_273) ?_
    refine pr_iload_n dX6_seed_20 rfl ?_
    obtain ⟨h3, hh3, hF⟩ := po_b hF
    refine pr_iast dX6_seed_21 (hh3) ?_
    refine pr_iconst (v := 1) dX6_seed_22 (kc_1) ?_
    cases hF
    exact pr_iret dX6_seed_23 rfl nb_1 rfl

def F_X6_keep (n : Nat) (h : pm_H) (a0 : Nat) : Option (Int32 × pm_H) :=
  (pm_put [(5, 51, 1)] h a0 (.int 1)).bind fun h1 =>
  (pm_fR [(5, 0)] h1 a0).bind fun v2 =>
  (pm_fR [(5, 2)] h1 a0).bind fun v3 =>
  (F_X6_copies n h1 v2 v3).bind fun q4 =>
  (pm_fR [(5, 0)] q4 a0).bind fun v5 =>
  (pm_ai 0 q4 v5 272).bind fun v6 =>
  some (v6, q4)
theorem ok_F_X6_keep {d n : Nat} {h : pm_H} {a0 : Nat} {q : Int32 × pm_H} (hF : F_X6_keep n h a0 = some q) : pm_E (d + 1) 6 cX6_keep (some .int) 0 [.ref a0] [] h (some (.int q.1), q.2) := by
  unfold F_X6_keep at hF
  refine pr_aload_n dX6_keep_0 rfl ?_
  refine pr_iconst (v := 1) dX6_keep_1 (kc_1) ?_
  obtain ⟨h1, hh1, hF⟩ := po_b hF
  refine pr_put dX6_keep_2 tp_6_399 (hh1) ?_
  refine pr_aload_n dX6_keep_5 rfl ?_
  obtain ⟨v2, hv2, hF⟩ := po_b hF
  refine pr_getR dX6_keep_6 tf_6_7 (hv2) ?_
  refine pr_aload_n dX6_keep_9 rfl ?_
  obtain ⟨v3, hv3, hF⟩ := po_b hF
  refine pr_getR dX6_keep_10 tf_6_16 (hv3) ?_
  obtain ⟨q4, hq4, hF⟩ := po_b hF
  refine pr_S dX6_keep_13 cs_6_324 (as := [.ref v2, .ref v3]) (rest := []) rfl rfl rfl (lb rfl) (lb rfl) (lb rfl) (ok_F_X6_copies hq4) ?_
  refine pr_aload_n dX6_keep_16 rfl ?_
  obtain ⟨v5, hv5, hF⟩ := po_b hF
  refine pr_getR dX6_keep_17 tf_6_7 (hv5) ?_
  refine pr_sipush (v := 272) dX6_keep_20 (ks_272) ?_
  obtain ⟨v6, hv6, hF⟩ := po_b hF
  refine pr_iald dX6_keep_23 (hv6) ?_
  cases hF
  exact pr_iret dX6_keep_24 rfl rfl rfl

def F_X6_undo (n : Nat) (h : pm_H) (a0 : Nat) : Option (Int32 × pm_H) :=
  (pm_fI [(5, 51)] h a0).bind fun v1 =>
  if v1 = 0 then
    some (0, h)
  else
    (pm_fR [(5, 2)] h a0).bind fun v2 =>
    (pm_fR [(5, 0)] h a0).bind fun v3 =>
    (F_X6_copies n h v2 v3).bind fun q4 =>
    some (1, q4)
theorem ok_F_X6_undo {d n : Nat} {h : pm_H} {a0 : Nat} {q : Int32 × pm_H} (hF : F_X6_undo n h a0 = some q) : pm_E (d + 1) 6 cX6_undo (some .boolean) 0 [.ref a0] [] h (some (.int q.1), q.2) := by
  unfold F_X6_undo at hF
  refine pr_aload_n dX6_undo_0 rfl ?_
  obtain ⟨v1, hv1, hF⟩ := po_b hF
  refine pr_getI dX6_undo_1 tf_6_399 (hv1) ?_
  refine po_i hF (fun hc hF => ?_) (fun hc hF => ?_)
  · refine pr_ifF (tgt := 9) dX6_undo_4 (by decide) (pc_neF hc) ?_
    refine pr_iconst (v := 0) dX6_undo_7 (kc_0) ?_
    cases hF
    exact pr_iret dX6_undo_8 rfl nb_0 rfl
  · refine pr_ifT (tgt := 9) dX6_undo_4 (by decide) (pc_neT hc) ?_
    refine pr_aload_n dX6_undo_9 rfl ?_
    obtain ⟨v2, hv2, hF⟩ := po_b hF
    refine pr_getR dX6_undo_10 tf_6_16 (hv2) ?_
    refine pr_aload_n dX6_undo_13 rfl ?_
    obtain ⟨v3, hv3, hF⟩ := po_b hF
    refine pr_getR dX6_undo_14 tf_6_7 (hv3) ?_
    obtain ⟨q4, hq4, hF⟩ := po_b hF
    refine pr_S dX6_undo_17 cs_6_324 (as := [.ref v2, .ref v3]) (rest := []) rfl rfl rfl (lb rfl) (lb rfl) (lb rfl) (ok_F_X6_copies hq4) ?_
    refine pr_iconst (v := 1) dX6_undo_20 (kc_1) ?_
    cases hF
    exact pr_iret dX6_undo_21 rfl nb_1 rfl

def L_X6_check_28 : Nat → Nat → Int32 → Int32 → pm_H → Option ((Int32 × pm_H) ⊕ (Unit))
  | 0, _, _, _, _ => none
  | n + 1, x0, x1, x2, h =>
    if x2 < x1 then
      (if pm_cl_ h x0 = some 5 then F_X6_octet h x0 x2 else none).bind fun q4 =>
      (if pm_cl_ h x0 = some 5 then F_X6_isTold h x0 x2 else none).bind fun q5 =>
      ((
        if q5 = 0 then
          some 255
        else
          (pm_fR [(5, 3)] h x0).bind fun v6 =>
          (pm_ai 0 h v6 x2).bind fun v7 =>
          some v7
      ) : Option (Int32)).bind fun q8 =>
      if q4 = q8 then
        L_X6_check_28 n x0 x1 (x2 + 1) h
      else
        some (.inl (x2, h))
    else
      some (.inr ())
theorem ok_L_X6_check_28 {d : Nat} : ∀ (n : Nat) {x0 : Nat} {x1 : Int32} {x2 : Int32} {h : pm_H} {q : (Int32 × pm_H) ⊕ (Unit)} {res : Option Value × pm_H}, L_X6_check_28 n x0 x1 x2 h = some q → (∀ r, q = .inl r → res = (some (.int r.1), r.2)) → (∀ e, q = .inr e → ∀ z2 : Value, pm_nolong z2 = true → pm_E (d + 2) 6 cX6_check (some .int) 69 [.ref x0, .int x1, z2] [] h res) → pm_E (d + 2) 6 cX6_check (some .int) 28 [.ref x0, .int x1, .int x2] [] h res := by
  intro n
  induction n with
  | zero =>
    intro x0 x1 x2 h q res hF hr hk
    rw [L_X6_check_28] at hF
    cases hF
  | succ n ih =>
    intro x0 x1 x2 h q res hF hr hk
    rw [L_X6_check_28] at hF
    refine pr_iload_n dX6_check_28 rfl ?_
    refine pr_iload_n dX6_check_29 rfl ?_
    refine po_i hF (fun hc hF => ?_) (fun hc hF => ?_)
    · refine pr_icF (tgt := 69) dX6_check_30 (by decide) (pc_geF hc) ?_
      refine pr_aload_n dX6_check_33 rfl ?_
      refine pr_iload_n dX6_check_34 rfl ?_
      obtain ⟨q4, hq4, hF⟩ := po_b hF
      refine po_i hq4 (fun hcl hq => ?_) (fun _ hq => nomatch hq)
      refine pr_V (as := [.int x2]) (rest := []) dX6_check_35 cv_6_385 hcl rfl rfl rfl rfl (lb rfl) (lb rfl) (lb rfl) (ok_F_X6_octet hq) ?_
      refine pr_aload_n dX6_check_38 rfl ?_
      refine pr_iload_n dX6_check_39 rfl ?_
      obtain ⟨q5, hq5, hF⟩ := po_b hF
      refine po_i hq5 (fun hcl hq => ?_) (fun _ hq => nomatch hq)
      refine pr_V (as := [.int x2]) (rest := [.int q4]) dX6_check_40 cv_6_233 hcl rfl rfl rfl rfl (lb rfl) (lb rfl) (lb rfl) (ok_F_X6_isTold hq) ?_
      obtain ⟨q8, hq8, hF⟩ := po_b hF
      have J58 : pm_E (d + 2) 6 cX6_check (some .int) 58 [.ref x0, .int x1, .int x2] [.int q8, .int q4] h res := by
        refine po_i hF (fun hc hF => ?_) (fun hc hF => ?_)
        · refine pr_icT (tgt := 63) dX6_check_58 (by decide) (pc_eqT hc) ?_
          refine pr_iinc (v := 1) (L' := [.ref x0, .int x1, .int (x2 + 1)]) dX6_check_63 rfl (kc_1) rfl ?_
          refine pr_goto (tgt := 28) dX6_check_66 (by decide) ?_
          exact ih hF hr hk
        · refine pr_icF (tgt := 63) dX6_check_58 (by decide) (pc_eqF hc) ?_
          refine pr_iload_n dX6_check_61 rfl ?_
          cases hF
          exact pr_iret dX6_check_62 rfl rfl (hr _ rfl)
      clear hF
      have hF := hq8
      refine po_i hF (fun hc hF => ?_) (fun hc hF => ?_)
      · refine pr_ifT (tgt := 55) dX6_check_43 (by decide) (pc_eqT hc) ?_
        refine pr_sipush (v := 255) dX6_check_55 (ks_255) ?_
        cases hF
        exact J58
      · refine pr_ifF (tgt := 55) dX6_check_43 (by decide) (pc_eqF hc) ?_
        refine pr_aload_n dX6_check_46 rfl ?_
        obtain ⟨v6, hv6, hF⟩ := po_b hF
        refine pr_getR dX6_check_47 tf_6_19 (hv6) ?_
        refine pr_iload_n dX6_check_50 rfl ?_
        obtain ⟨v7, hv7, hF⟩ := po_b hF
        refine pr_iald dX6_check_51 (hv7) ?_
        refine pr_goto (tgt := 58) dX6_check_52 (by decide) ?_
        cases hF
        exact J58
    · refine pr_icT (tgt := 69) dX6_check_30 (by decide) (pc_geT hc) ?_
      cases hF
      exact hk _ rfl _ rfl
def F_X6_check (n : Nat) (h : pm_H) (a0 : Nat) (x1 : Int32) : Option (Int32 × pm_H) :=
  (F_X6_in x1 0 16).bind fun q1 =>
  if q1 = 0 then
    some ((-2), h)
  else
    (pm_fI [(5, 12)] h a0).bind fun v2 =>
    if v2 < x1 then
      some ((-2), h)
    else
      (pm_put [(5, 12, 0)] h a0 (.int 0)).bind fun h3 =>
      (L_X6_check_28 n a0 x1 0 h3).bind fun q9 => po_s q9 (fun r => some r) fun e10 =>
      some ((-1), h3)
theorem ok_F_X6_check {d n : Nat} {h : pm_H} {a0 : Nat} {x1 : Int32} {q : Int32 × pm_H} (hF : F_X6_check n h a0 x1 = some q) : pm_E (d + 2) 6 cX6_check (some .int) 0 [.ref a0, .int x1, pm_D] [] h (some (.int q.1), q.2) := by
  unfold F_X6_check at hF
  refine pr_iload_n dX6_check_0 rfl ?_
  refine pr_iconst (v := 0) dX6_check_1 (kc_0) ?_
  refine pr_bipush (v := 16) dX6_check_2 (kb_16) ?_
  obtain ⟨q1, hq1, hF⟩ := po_b hF
  refine pr_S dX6_check_4 cs_6_104 (as := [.int x1, .int 0, .int 16]) (rest := []) rfl rfl rfl (lb rfl) (lb rfl) (lb rfl) (ok_F_X6_in hq1) ?_
  refine po_i hF (fun hc hF => ?_) (fun hc hF => ?_)
  · refine pr_ifT (tgt := 18) dX6_check_7 (by decide) (pc_eqT hc) ?_
    refine pr_bipush (v := (-2)) dX6_check_18 (kb_m2) ?_
    cases hF
    exact pr_iret dX6_check_20 rfl rfl rfl
  · refine pr_ifF (tgt := 18) dX6_check_7 (by decide) (pc_eqF hc) ?_
    refine pr_iload_n dX6_check_10 rfl ?_
    refine pr_aload_n dX6_check_11 rfl ?_
    obtain ⟨v2, hv2, hF⟩ := po_b hF
    refine pr_getI dX6_check_12 tf_6_116 (hv2) ?_
    refine po_i hF (fun hc hF => ?_) (fun hc hF => ?_)
    · refine pr_icF (tgt := 21) dX6_check_15 (by decide) (pc_leF hc) ?_
      refine pr_bipush (v := (-2)) dX6_check_18 (kb_m2) ?_
      cases hF
      exact pr_iret dX6_check_20 rfl rfl rfl
    · refine pr_icT (tgt := 21) dX6_check_15 (by decide) (pc_leT hc) ?_
      refine pr_aload_n dX6_check_21 rfl ?_
      refine pr_iconst (v := 0) dX6_check_22 (kc_0) ?_
      obtain ⟨h3, hh3, hF⟩ := po_b hF
      refine pr_put dX6_check_23 tp_6_116 (hh3) ?_
      refine pr_iconst (v := 0) dX6_check_26 (kc_0) ?_
      refine pr_istore_n (L' := [.ref a0, .int x1, .int 0]) dX6_check_27 rfl ?_
      obtain ⟨q9, hq9, hF⟩ := po_b hF
      refine ok_L_X6_check_28 n hq9 (fun r hq => ?_) (fun e10 hq z2 hz2 => ?_)
      · subst hq
        replace hF := po_sl hF
        cases hF
        exact rfl
      subst hq
      replace hF := po_sr hF
      refine pr_iconst (v := (-1)) dX6_check_69 (kc_m1) ?_
      cases hF
      exact pr_iret dX6_check_70 rfl rfl rfl
