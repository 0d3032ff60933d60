set_option maxRecDepth 100000
def F_X9_worked (h : pm_H) (x0 : Int32) (x1 : Int32) (x2 : Int32) (a3 : Nat) : Option (Int32 × pm_H) :=
  if x0.toInt < 42 ∨ 45 < x0.toInt then
    ((
      if x2 = 0 then
        (pm_put [(2, 0, 1)] h a3 (.int 1)).bind fun h1 =>
        some h1
      else
        some h
    ) : Option (pm_H)).bind fun q2 =>
    if x2 = 0 then
      some (0, q2)
    else
    if x0 = 47 then
      if x2 = 0 then none else
      some (x1 / x2, q2)
    else
    if x2 = 0 then none else
    some (pm_rem x1 x2, q2)
  else if x0 = 42 then
    some (x1 * x2, h)
  else if x0 = 43 then
    some (x1 + x2, h)
  else if x0 = 44 then
    ((
      if x2 = 0 then
        (pm_put [(2, 0, 1)] h a3 (.int 1)).bind fun h3 =>
        some h3
      else
        some h
    ) : Option (pm_H)).bind fun q4 =>
    if x2 = 0 then
      some (0, q4)
    else
    if x0 = 47 then
      if x2 = 0 then none else
      some (x1 / x2, q4)
    else
    if x2 = 0 then none else
    some (pm_rem x1 x2, q4)
  else if x0 = 45 then
    some (x1 - x2, h)
  else none
theorem ok_F_X9_worked {d : Nat} {h : pm_H} {x0 : Int32} {x1 : Int32} {x2 : Int32} {a3 : Nat} {q : Int32 × pm_H} (hF : F_X9_worked h x0 x1 x2 a3 = some q) : pm_E (d + 0) 9 cX9_worked (some .int) 0 [.int x0, .int x1, .int x2, .ref a3] [] h (some (.int q.1), q.2) := by
  unfold F_X9_worked at hF
  refine pr_iload_n dX9_worked_0 rfl ?_
  refine po_i hF (fun hc hF => ?_) (fun hc hF => ?_)
  · refine pr_tabO (tgt := 44) dX9_worked_1 hc (by decide) ?_
    refine pr_iload_n dX9_worked_44 rfl ?_
    obtain ⟨q2, hq2, hF⟩ := po_b hF
    have J53 : pm_E (d + 0) 9 cX9_worked (some .int) 53 [.int x0, .int x1, .int x2, .ref a3] [] q2 (some (.int q.1), q.2) := by
      refine pr_iload_n dX9_worked_53 rfl ?_
      refine po_i hF (fun hc hF => ?_) (fun hc hF => ?_)
      · refine pr_ifF (tgt := 61) dX9_worked_54 (by decide) (pc_neF hc) ?_
        refine pr_iconst (v := 0) dX9_worked_57 (kc_0) ?_
        refine pr_goto (tgt := 76) dX9_worked_58 (by decide) ?_
        cases hF
        exact pr_iret dX9_worked_76 rfl rfl rfl
      · refine pr_ifT (tgt := 61) dX9_worked_54 (by decide) (pc_neT hc) ?_
        refine pr_iload_n dX9_worked_61 rfl ?_
        refine pr_bipush (v := 47) dX9_worked_62 (kb_47) ?_
        refine po_i hF (fun hc hF => ?_) (fun hc hF => ?_)
        · refine pr_icF (tgt := 73) dX9_worked_64 (by decide) (pc_neF hc) ?_
          refine pr_iload_n dX9_worked_67 rfl ?_
          refine pr_iload_n dX9_worked_68 rfl ?_
          refine po_i hF (fun _ hF => nomatch hF) (fun hg hF => ?_)
          refine pr_idiv dX9_worked_69 hg ?_
          refine pr_goto (tgt := 76) dX9_worked_70 (by decide) ?_
          cases hF
          exact pr_iret dX9_worked_76 rfl rfl rfl
        · refine pr_icT (tgt := 73) dX9_worked_64 (by decide) (pc_neT hc) ?_
          refine pr_iload_n dX9_worked_73 rfl ?_
          refine pr_iload_n dX9_worked_74 rfl ?_
          refine po_i hF (fun _ hF => nomatch hF) (fun hg hF => ?_)
          refine pr_irem dX9_worked_75 hg ?_
          cases hF
          exact pr_iret dX9_worked_76 rfl rfl rfl
    clear hF
    have hF := hq2
    refine po_i hF (fun hc hF => ?_) (fun hc hF => ?_)
    · refine pr_ifF (tgt := 53) dX9_worked_45 (by decide) (pc_neF hc) ?_
      refine pr_aload_n dX9_worked_48 rfl ?_
      refine pr_iconst (v := 1) dX9_worked_49 (kc_1) ?_
      obtain ⟨h1, hh1, hF⟩ := po_b hF
      refine pr_put dX9_worked_50 tp_9_17 (hh1) ?_
      cases hF
      exact J53
    · refine pr_ifT (tgt := 53) dX9_worked_45 (by decide) (pc_neT hc) ?_
      cases hF
      exact J53
  refine po_i hF (fun he hF => ?_) (fun he42 hF => ?_)
  · refine pr_tabI (off := 39) (tgt := 40) dX9_worked_1 hc (by rw [he]; rfl) (by decide) ?_
    refine pr_iload_n dX9_worked_40 rfl ?_
    refine pr_iload_n dX9_worked_41 rfl ?_
    refine pr_imul dX9_worked_42 ?_
    cases hF
    exact pr_iret dX9_worked_43 rfl rfl rfl
  refine po_i hF (fun he hF => ?_) (fun he43 hF => ?_)
  · refine pr_tabI (off := 31) (tgt := 32) dX9_worked_1 hc (by rw [he]; rfl) (by decide) ?_
    refine pr_iload_n dX9_worked_32 rfl ?_
    refine pr_iload_n dX9_worked_33 rfl ?_
    refine pr_iadd dX9_worked_34 ?_
    cases hF
    exact pr_iret dX9_worked_35 rfl rfl rfl
  refine po_i hF (fun he hF => ?_) (fun he44 hF => ?_)
  · refine pr_tabI (off := 43) (tgt := 44) dX9_worked_1 hc (by rw [he]; rfl) (by decide) ?_
    refine pr_iload_n dX9_worked_44 rfl ?_
    obtain ⟨q4, hq4, hF⟩ := po_b hF
    have J53 : pm_E (d + 0) 9 cX9_worked (some .int) 53 [.int x0, .int x1, .int x2, .ref a3] [] q4 (some (.int q.1), q.2) := by
      refine pr_iload_n dX9_worked_53 rfl ?_
      refine po_i hF (fun hc hF => ?_) (fun hc hF => ?_)
      · refine pr_ifF (tgt := 61) dX9_worked_54 (by decide) (pc_neF hc) ?_
        refine pr_iconst (v := 0) dX9_worked_57 (kc_0) ?_
        refine pr_goto (tgt := 76) dX9_worked_58 (by decide) ?_
        cases hF
        exact pr_iret dX9_worked_76 rfl rfl rfl
      · refine pr_ifT (tgt := 61) dX9_worked_54 (by decide) (pc_neT hc) ?_
        refine pr_iload_n dX9_worked_61 rfl ?_
        refine pr_bipush (v := 47) dX9_worked_62 (kb_47) ?_
        refine po_i hF (fun hc hF => ?_) (fun hc hF => ?_)
        · refine pr_icF (tgt := 73) dX9_worked_64 (by decide) (pc_neF hc) ?_
          refine pr_iload_n dX9_worked_67 rfl ?_
          refine pr_iload_n dX9_worked_68 rfl ?_
          refine po_i hF (fun _ hF => nomatch hF) (fun hg hF => ?_)
          refine pr_idiv dX9_worked_69 hg ?_
          refine pr_goto (tgt := 76) dX9_worked_70 (by decide) ?_
          cases hF
          exact pr_iret dX9_worked_76 rfl rfl rfl
        · refine pr_icT (tgt := 73) dX9_worked_64 (by decide) (pc_neT hc) ?_
          refine pr_iload_n dX9_worked_73 rfl ?_
          refine pr_iload_n dX9_worked_74 rfl ?_
          refine po_i hF (fun _ hF => nomatch hF) (fun hg hF => ?_)
          refine pr_irem dX9_worked_75 hg ?_
          cases hF
          exact pr_iret dX9_worked_76 rfl rfl rfl
    clear hF
    have hF := hq4
    refine po_i hF (fun hc hF => ?_) (fun hc hF => ?_)
    · refine pr_ifF (tgt := 53) dX9_worked_45 (by decide) (pc_neF hc) ?_
      refine pr_aload_n dX9_worked_48 rfl ?_
      refine pr_iconst (v := 1) dX9_worked_49 (kc_1) ?_
      obtain ⟨h3, hh3, hF⟩ := po_b hF
      refine pr_put dX9_worked_50 tp_9_17 (hh3) ?_
      cases hF
      exact J53
    · refine pr_ifT (tgt := 53) dX9_worked_45 (by decide) (pc_neT hc) ?_
      cases hF
      exact J53
  refine po_i hF (fun he hF => ?_) (fun he45 hF => ?_)
  · refine pr_tabI (off := 35) (tgt := 36) dX9_worked_1 hc (by rw [he]; rfl) (by decide) ?_
    refine pr_iload_n dX9_worked_36 rfl ?_
    refine pr_iload_n dX9_worked_37 rfl ?_
    refine pr_isub dX9_worked_38 ?_
    cases hF
    exact pr_iret dX9_worked_39 rfl rfl rfl
  cases hF

def L_X9_worth_14 (fW : pm_H → Nat → Nat → Option (Int32 × pm_H)) : Nat → Nat → Int32 → (Option Nat) → pm_H → Option (Int32 × pm_H)
  | 0, _, _, _, _ => none
  | n + 1, x1, x2, x3, h =>
    po_n (x3) (
      some (x2, h)
    ) (fun r4 =>
      (pm_fI [(7, 0)] h r4).bind fun v5 =>
      (pm_fR [(7, 1)] h r4).bind fun v6 =>
      (fW h v6 x1).bind fun q7 =>
      (F_X9_worked q7.2 v5 x2 q7.1 x1).bind fun q8 =>
      (pm_fV [(7, 2)] q8.2 r4).bind fun v9 =>
      L_X9_worth_14 fW n x1 q8.1 v9 q8.2
    )
theorem ok_L_X9_worth_14 {d : Nat} {fW : pm_H → Nat → Nat → Option (Int32 × pm_H)} (hfW : ∀ {h : pm_H} {b a : Nat} {q : Int32 × pm_H}, fW h b a = some q → pm_Vok d pm_tgW h b [.ref a] (some (.int q.1)) q.2) : ∀ (n : Nat) {x1 : Nat} {x2 : Int32} {x3 : Option Nat} {w0 : Value} {h : pm_H} {q : Int32 × pm_H} {res : Option Value × pm_H}, L_X9_worth_14 fW n x1 x2 x3 h = some q → pm_nolong w0 = true → (∀ z3 : Value, pm_nolong z3 = true → pm_E (d + 1) 9 cX9_worth (some .int) 44 [w0, .ref x1, .int q.1, z3] [] q.2 res) → pm_E (d + 1) 9 cX9_worth (some .int) 14 [w0, .ref x1, .int x2, va_rf x3] [] h res := by
  intro n
  induction n with
  | zero =>
    intro x1 x2 x3 w0 h q res hF hw0 hk
    rw [L_X9_worth_14] at hF
    cases hF
  | succ n ih =>
    intro x1 x2 x3 w0 h q res hF hw0 hk
    rw [L_X9_worth_14] at hF
    refine pr_aload_n (x := va_rf x3) dX9_worth_14 (pv_la rfl) ?_
    refine po_nc hF (fun ho hF => ?_) (fun r4 ho hF => ?_)
    · rw [pv_n ho]
      refine pr_nullT (tgt := 44) dX9_worth_15 (by decide) ?_
      cases hF
      exact hk _ rfl
    · rw [pv_s ho]
      refine pr_nullF dX9_worth_15 ?_
      refine pr_aload_n dX9_worth_18 rfl ?_
      obtain ⟨v5, hv5, hF⟩ := po_b hF
      refine pr_getI dX9_worth_19 tf_9_7 (hv5) ?_
      refine pr_iload_n dX9_worth_22 rfl ?_
      refine pr_aload_n dX9_worth_23 rfl ?_
      obtain ⟨v6, hv6, hF⟩ := po_b hF
      refine pr_getR dX9_worth_24 tf_9_13 (hv6) ?_
      refine pr_aload_n dX9_worth_27 rfl ?_
      obtain ⟨q7, hq7, hF⟩ := po_b hF
      refine pr_VD (as := [.ref x1]) (rest := [.int x2, .int v5]) dX9_worth_28 cv_9_23 (pm_Vok_up 0 (hfW hq7)) rfl rfl rfl (lb rfl) ?_
      refine pr_aload_n dX9_worth_31 rfl ?_
      obtain ⟨q8, hq8, hF⟩ := po_b hF
      refine pr_S dX9_worth_32 cs_9_31 (as := [.int v5, .int x2, .int q7.1, .ref x1]) (rest := []) rfl rfl rfl (lb rfl) (lb rfl) (lb rfl) (ok_F_X9_worked hq8) ?_
      refine pr_istore_n (L' := [w0, .ref x1, .int q8.1, .ref r4]) dX9_worth_35 rfl ?_
      refine pr_aload_n dX9_worth_36 rfl ?_
      obtain ⟨v9, hv9, hF⟩ := po_b hF
      refine pr_getV dX9_worth_37 tf_9_27 (pm_fV_v hv9) ?_
      refine pr_astore_n (L' := [w0, .ref x1, .int q8.1, va_rf v9]) dX9_worth_40 (pv_f _) rfl ?_
      refine pr_goto (tgt := 14) dX9_worth_41 (by decide) ?_
      exact ih hF hw0 hk
def F_X9_worth (fW : pm_H → Nat → Nat → Option (Int32 × pm_H)) (n : Nat) (h : pm_H) (a0 : Nat) (a1 : Nat) : Option (Int32 × pm_H) :=
  (pm_fR [(7, 1)] h a0).bind fun v1 =>
  (fW h v1 a1).bind fun q2 =>
  (pm_fV [(7, 2)] q2.2 a0).bind fun v3 =>
  (L_X9_worth_14 fW n a1 q2.1 v3 q2.2).bind fun q10 =>
  some (q10.1, q10.2)
theorem ok_F_X9_worth {d n : Nat} {h : pm_H} {a0 : Nat} {a1 : Nat} {q : Int32 × pm_H} {fW : pm_H → Nat → Nat → Option (Int32 × pm_H)} (hfW : ∀ {h : pm_H} {b a : Nat} {q : Int32 × pm_H}, fW h b a = some q → pm_Vok d pm_tgW h b [.ref a] (some (.int q.1)) q.2) (hF : F_X9_worth fW n h a0 a1 = some q) : pm_E (d + 1) 9 cX9_worth (some .int) 0 [.ref a0, .ref a1, pm_D, pm_D] [] h (some (.int q.1), q.2) := by
  unfold F_X9_worth at hF
  refine pr_aload_n dX9_worth_0 rfl ?_
  obtain ⟨v1, hv1, hF⟩ := po_b hF
  refine pr_getR dX9_worth_1 tf_9_13 (hv1) ?_
  refine pr_aload_n dX9_worth_4 rfl ?_
  obtain ⟨q2, hq2, hF⟩ := po_b hF
  refine pr_VD (as := [.ref a1]) (rest := []) dX9_worth_5 cv_9_23 (pm_Vok_up 0 (hfW hq2)) rfl rfl rfl (lb rfl) ?_
  refine pr_istore_n (L' := [.ref a0, .ref a1, .int q2.1, pm_D]) dX9_worth_8 rfl ?_
  refine pr_aload_n dX9_worth_9 rfl ?_
  obtain ⟨v3, hv3, hF⟩ := po_b hF
  refine pr_getV dX9_worth_10 tf_9_27 (pm_fV_v hv3) ?_
  refine pr_astore_n (L' := [.ref a0, .ref a1, .int q2.1, va_rf v3]) dX9_worth_13 (pv_f _) rfl ?_
  obtain ⟨q10, hq10, hF⟩ := po_b hF
  refine ok_L_X9_worth_14 hfW n hq10 rfl (fun z3 hz3 => ?_)
  refine pr_iload_n dX9_worth_44 rfl ?_
  cases hF
  exact pr_iret dX9_worth_45 rfl rfl rfl

def F_X10_worth (h : pm_H) (a0 : Nat) (a1 : Nat) : Option (Int32) :=
  (pm_fI [(8, 0)] h a0).bind fun v1 =>
  some v1
theorem ok_F_X10_worth {d : Nat} {h : pm_H} {a0 : Nat} {a1 : Nat} {q : Int32} (hF : F_X10_worth h a0 a1 = some q) : pm_E (d + 0) 10 cX10_worth (some .int) 0 [.ref a0, .ref a1] [] h (some (.int q), h) := by
  unfold F_X10_worth at hF
  refine pr_aload_n dX10_worth_0 rfl ?_
  obtain ⟨v1, hv1, hF⟩ := po_b hF
  refine pr_getI dX10_worth_1 tf_10_7 (hv1) ?_
  cases hF
  exact pr_iret dX10_worth_4 rfl rfl rfl

def F_X3_value (h : pm_H) (a0 : Nat) (x1 : Int32) : Option (Int32) :=
  if x1.toInt < 100 ∨ 116 < x1.toInt then
    (pm_fI [(2, 10)] h a0).bind fun v1 =>
    some v1
  else if x1 = 100 then
    (pm_fI [(2, 4)] h a0).bind fun v2 =>
    some v2
  else if x1 = 101 then
    (pm_fI [(2, 10)] h a0).bind fun v3 =>
    some v3
  else if x1 = 102 then
    (pm_fI [(2, 5)] h a0).bind fun v4 =>
    some v4
  else if x1 = 103 then
    (pm_fI [(2, 6)] h a0).bind fun v5 =>
    some v5
  else if x1 = 104 then
    (pm_fI [(2, 3)] h a0).bind fun v6 =>
    some v6
  else if x1 = 105 then
    (pm_fI [(2, 10)] h a0).bind fun v7 =>
    some v7
  else if x1 = 106 then
    (pm_fI [(2, 10)] h a0).bind fun v8 =>
    some v8
  else if x1 = 107 then
    (pm_fI [(2, 10)] h a0).bind fun v9 =>
    some v9
  else if x1 = 108 then
    (pm_fI [(2, 10)] h a0).bind fun v10 =>
    some v10
  else if x1 = 109 then
    (pm_fI [(2, 10)] h a0).bind fun v11 =>
    some v11
  else if x1 = 110 then
    (pm_fI [(2, 7)] h a0).bind fun v12 =>
    some v12
  else if x1 = 111 then
    (pm_fI [(2, 8)] h a0).bind fun v13 =>
    some v13
  else if x1 = 112 then
    (pm_fI [(2, 1)] h a0).bind fun v14 =>
    some v14
  else if x1 = 113 then
    (pm_fI [(2, 2)] h a0).bind fun v15 =>
    some v15
  else if x1 = 114 then
    (pm_fI [(2, 10)] h a0).bind fun v16 =>
    some v16
  else if x1 = 115 then
    (pm_fI [(2, 10)] h a0).bind fun v17 =>
    some v17
  else if x1 = 116 then
    (pm_fI [(2, 9)] h a0).bind fun v18 =>
    some v18
  else none
theorem ok_F_X3_value {d : Nat} {h : pm_H} {a0 : Nat} {x1 : Int32} {q : Int32} (hF : F_X3_value h a0 x1 = some q) : pm_E (d + 0) 3 cX3_value (some .int) 0 [.ref a0, .int x1] [] h (some (.int q), h) := by
  unfold F_X3_value at hF
  refine pr_iload_n dX3_value_0 rfl ?_
  refine po_i hF (fun hc hF => ?_) (fun hc hF => ?_)
  · refine pr_tabO (tgt := 129) dX3_value_1 hc (by decide) ?_
    refine pr_aload_n dX3_value_129 rfl ?_
    obtain ⟨v1, hv1, hF⟩ := po_b hF
    refine pr_getI dX3_value_130 tf_3_39 (hv1) ?_
    cases hF
    exact pr_iret dX3_value_133 rfl rfl rfl
  refine po_i hF (fun he hF => ?_) (fun he100 hF => ?_)
  · refine pr_tabI (off := 98) (tgt := 99) dX3_value_1 hc (by rw [he]; rfl) (by decide) ?_
    refine pr_aload_n dX3_value_99 rfl ?_
    obtain ⟨v2, hv2, hF⟩ := po_b hF
    refine pr_getI dX3_value_100 tf_3_21 (hv2) ?_
    cases hF
    exact pr_iret dX3_value_103 rfl rfl rfl
  refine po_i hF (fun he hF => ?_) (fun he101 hF => ?_)
  · refine pr_tabI (off := 128) (tgt := 129) dX3_value_1 hc (by rw [he]; rfl) (by decide) ?_
    refine pr_aload_n dX3_value_129 rfl ?_
    obtain ⟨v3, hv3, hF⟩ := po_b hF
    refine pr_getI dX3_value_130 tf_3_39 (hv3) ?_
    cases hF
    exact pr_iret dX3_value_133 rfl rfl rfl
  refine po_i hF (fun he hF => ?_) (fun he102 hF => ?_)
  · refine pr_tabI (off := 103) (tgt := 104) dX3_value_1 hc (by rw [he]; rfl) (by decide) ?_
    refine pr_aload_n dX3_value_104 rfl ?_
    obtain ⟨v4, hv4, hF⟩ := po_b hF
    refine pr_getI dX3_value_105 tf_3_24 (hv4) ?_
    cases hF
    exact pr_iret dX3_value_108 rfl rfl rfl
  refine po_i hF (fun he hF => ?_) (fun he103 hF => ?_)
  · refine pr_tabI (off := 108) (tgt := 109) dX3_value_1 hc (by rw [he]; rfl) (by decide) ?_
    refine pr_aload_n dX3_value_109 rfl ?_
    obtain ⟨v5, hv5, hF⟩ := po_b hF
    refine pr_getI dX3_value_110 tf_3_27 (hv5) ?_
    cases hF
    exact pr_iret dX3_value_113 rfl rfl rfl
  refine po_i hF (fun he hF => ?_) (fun he104 hF => ?_)
  · refine pr_tabI (off := 93) (tgt := 94) dX3_value_1 hc (by rw [he]; rfl) (by decide) ?_
    refine pr_aload_n dX3_value_94 rfl ?_
    obtain ⟨v6, hv6, hF⟩ := po_b hF
    refine pr_getI dX3_value_95 tf_3_18 (hv6) ?_
    cases hF
    exact pr_iret dX3_value_98 rfl rfl rfl
  refine po_i hF (fun he hF => ?_) (fun he105 hF => ?_)
  · refine pr_tabI (off := 128) (tgt := 129) dX3_value_1 hc (by rw [he]; rfl) (by decide) ?_
    refine pr_aload_n dX3_value_129 rfl ?_
    obtain ⟨v7, hv7, hF⟩ := po_b hF
    refine pr_getI dX3_value_130 tf_3_39 (hv7) ?_
    cases hF
    exact pr_iret dX3_value_133 rfl rfl rfl
  refine po_i hF (fun he hF => ?_) (fun he106 hF => ?_)
  · refine pr_tabI (off := 128) (tgt := 129) dX3_value_1 hc (by rw [he]; rfl) (by decide) ?_
    refine pr_aload_n dX3_value_129 rfl ?_
    obtain ⟨v8, hv8, hF⟩ := po_b hF
    refine pr_getI dX3_value_130 tf_3_39 (hv8) ?_
    cases hF
    exact pr_iret dX3_value_133 rfl rfl rfl
  refine po_i hF (fun he hF => ?_) (fun he107 hF => ?_)
  · refine pr_tabI (off := 128) (tgt := 129) dX3_value_1 hc (by rw [he]; rfl) (by decide) ?_
    refine pr_aload_n dX3_value_129 rfl ?_
    obtain ⟨v9, hv9, hF⟩ := po_b hF
    refine pr_getI dX3_value_130 tf_3_39 (hv9) ?_
    cases hF
    exact pr_iret dX3_value_133 rfl rfl rfl
  refine po_i hF (fun he hF => ?_) (fun he108 hF => ?_)
  · refine pr_tabI (off := 128) (tgt := 129) dX3_value_1 hc (by rw [he]; rfl) (by decide) ?_
    refine pr_aload_n dX3_value_129 rfl ?_
    obtain ⟨v10, hv10, hF⟩ := po_b hF
    refine pr_getI dX3_value_130 tf_3_39 (hv10) ?_
    cases hF
    exact pr_iret dX3_value_133 rfl rfl rfl
  refine po_i hF (fun he hF => ?_) (fun he109 hF => ?_)
  · refine pr_tabI (off := 128) (tgt := 129) dX3_value_1 hc (by rw [he]; rfl) (by decide) ?_
    refine pr_aload_n dX3_value_129 rfl ?_
    obtain ⟨v11, hv11, hF⟩ := po_b hF
    refine pr_getI dX3_value_130 tf_3_39 (hv11) ?_
    cases hF
    exact pr_iret dX3_value_133 rfl rfl rfl
  refine po_i hF (fun he hF => ?_) (fun he110 hF => ?_)
  · refine pr_tabI (off := 113) (tgt := 114) dX3_value_1 hc (by rw [he]; rfl) (by decide) ?_
    refine pr_aload_n dX3_value_114 rfl ?_
    obtain ⟨v12, hv12, hF⟩ := po_b hF
    refine pr_getI dX3_value_115 tf_3_30 (hv12) ?_
    cases hF
    exact pr_iret dX3_value_118 rfl rfl rfl
  refine po_i hF (fun he hF => ?_) (fun he111 hF => ?_)
  · refine pr_tabI (off := 118) (tgt := 119) dX3_value_1 hc (by rw [he]; rfl) (by decide) ?_
    refine pr_aload_n dX3_value_119 rfl ?_
    obtain ⟨v13, hv13, hF⟩ := po_b hF
    refine pr_getI dX3_value_120 tf_3_33 (hv13) ?_
    cases hF
    exact pr_iret dX3_value_123 rfl rfl rfl
  refine po_i hF (fun he hF => ?_) (fun he112 hF => ?_)
  · refine pr_tabI (off := 83) (tgt := 84) dX3_value_1 hc (by rw [he]; rfl) (by decide) ?_
    refine pr_aload_n dX3_value_84 rfl ?_
    obtain ⟨v14, hv14, hF⟩ := po_b hF
    refine pr_getI dX3_value_85 tf_3_9 (hv14) ?_
    cases hF
    exact pr_iret dX3_value_88 rfl rfl rfl
  refine po_i hF (fun he hF => ?_) (fun he113 hF => ?_)
  · refine pr_tabI (off := 88) (tgt := 89) dX3_value_1 hc (by rw [he]; rfl) (by decide) ?_
    refine pr_aload_n dX3_value_89 rfl ?_
    obtain ⟨v15, hv15, hF⟩ := po_b hF
    refine pr_getI dX3_value_90 tf_3_15 (hv15) ?_
    cases hF
    exact pr_iret dX3_value_93 rfl rfl rfl
  refine po_i hF (fun he hF => ?_) (fun he114 hF => ?_)
  · refine pr_tabI (off := 128) (tgt := 129) dX3_value_1 hc (by rw [he]; rfl) (by decide) ?_
    refine pr_aload_n dX3_value_129 rfl ?_
    obtain ⟨v16, hv16, hF⟩ := po_b hF
    refine pr_getI dX3_value_130 tf_3_39 (hv16) ?_
    cases hF
    exact pr_iret dX3_value_133 rfl rfl rfl
  refine po_i hF (fun he hF => ?_) (fun he115 hF => ?_)
  · refine pr_tabI (off := 128) (tgt := 129) dX3_value_1 hc (by rw [he]; rfl) (by decide) ?_
    refine pr_aload_n dX3_value_129 rfl ?_
    obtain ⟨v17, hv17, hF⟩ := po_b hF
    refine pr_getI dX3_value_130 tf_3_39 (hv17) ?_
    cases hF
    exact pr_iret dX3_value_133 rfl rfl rfl
  refine po_i hF (fun he hF => ?_) (fun he116 hF => ?_)
  · refine pr_tabI (off := 123) (tgt := 124) dX3_value_1 hc (by rw [he]; rfl) (by decide) ?_
    refine pr_aload_n dX3_value_124 rfl ?_
    obtain ⟨v18, hv18, hF⟩ := po_b hF
    refine pr_getI dX3_value_125 tf_3_36 (hv18) ?_
    cases hF
    exact pr_iret dX3_value_128 rfl rfl rfl
  cases hF

def F_X11_worth (h : pm_H) (a0 : Nat) (a1 : Nat) : Option (Int32) :=
  (pm_fI [(9, 0)] h a0).bind fun v1 =>
  (if pm_cl_ h a1 = some 2 then F_X3_value h a1 v1 else none).bind fun q2 =>
  some q2
theorem ok_F_X11_worth {d : Nat} {h : pm_H} {a0 : Nat} {a1 : Nat} {q : Int32} (hF : F_X11_worth h a0 a1 = some q) : pm_E (d + 1) 11 cX11_worth (some .int) 0 [.ref a0, .ref a1] [] h (some (.int q), h) := by
  unfold F_X11_worth at hF
  refine pr_aload_n dX11_worth_0 rfl ?_
  refine pr_aload_n dX11_worth_1 rfl ?_
  obtain ⟨v1, hv1, hF⟩ := po_b hF
  refine pr_getI dX11_worth_2 tf_11_7 (hv1) ?_
  obtain ⟨q2, hq2, hF⟩ := po_b hF
  refine po_i hq2 (fun hcl hq => ?_) (fun _ hq => nomatch hq)
  refine pr_V (as := [.int v1]) (rest := []) dX11_worth_5 cv_11_13 hcl rfl rfl rfl rfl (lb rfl) (lb rfl) (lb rfl) (ok_F_X3_value hq) ?_
  cases hF
  exact pr_iret dX11_worth_8 rfl rfl rfl
def K_worth : Nat → Nat → pm_H → Nat → Nat → Option (Int32 × pm_H)
  | 0, _, _, _, _ => none
  | k + 1, n, h, b, a =>
    if pm_cl_ h b = some 7 then F_X9_worth (K_worth k n) n h b a
    else if pm_cl_ h b = some 8 then (F_X10_worth h b a).bind fun v => some (v, h)
    else if pm_cl_ h b = some 9 then (F_X11_worth h b a).bind fun v => some (v, h)
    else none
theorem ok_K_worth {d n : Nat} : ∀ (k : Nat) {h : pm_H} {b a : Nat} {q : Int32 × pm_H}, K_worth k n h b a = some q → pm_Vok (d + 1 * k) pm_tgW h b [.ref a] (some (.int q.1)) q.2 := by
  intro k
  induction k with
  | zero => intro h b a q hF; rw [K_worth] at hF; cases hF
  | succ k ih =>
    intro h b a q hF
    rw [K_worth] at hF
    refine po_i hF (fun hc hF => ?_) (fun _ hF => po_i hF (fun hc hF => ?_) (fun _ hF => po_i hF (fun hc hF => ?_) (fun _ hF => nomatch hF)))
    · exact pm_vok 7 _ hc rfl (lb rfl) (lb rfl) (pm_E_up 0 (ok_F_X9_worth (d := d + 1 * k) (fun e => ih e) hF))
    · obtain ⟨v, hv, hF⟩ := po_b hF
      cases hF
      exact pm_vok 8 _ hc rfl (lb rfl) (lb rfl) (pm_E_up 1 (ok_F_X10_worth (d := d + 1 * k) hv))
    · obtain ⟨v, hv, hF⟩ := po_b hF
      cases hF
      exact pm_vok 9 _ hc rfl (lb rfl) (lb rfl) (pm_E_up 0 (ok_F_X11_worth (d := d + 1 * k) hv))

def F_X8_told (fW : pm_H → Nat → Nat → Option (Int32 × pm_H)) (h : pm_H) (a0 : Nat) (a1 : Nat) : Option (Int32 × pm_H) :=
  (pm_put [(2, 0, 1)] h a1 (.int 0)).bind fun h1 =>
  (fW h1 a0 a1).bind fun q2 =>
  (pm_fI [(2, 0)] q2.2 a1).bind fun v3 =>
  if v3 = 0 then
    some (q2.1, q2.2)
  else
    some (0, q2.2)
theorem ok_F_X8_told {d : Nat} {h : pm_H} {a0 : Nat} {a1 : Nat} {q : Int32 × pm_H} {fW : pm_H → Nat → Nat → Option (Int32 × pm_H)} (hfW : ∀ {h : pm_H} {b a : Nat} {q : Int32 × pm_H}, fW h b a = some q → pm_Vok d pm_tgW h b [.ref a] (some (.int q.1)) q.2) (hF : F_X8_told fW h a0 a1 = some q) : pm_E (d + 1) 8 cX8_told (some .int) 0 [.ref a0, .ref a1, pm_D] [] h (some (.int q.1), q.2) := by
  unfold F_X8_told at hF
  refine pr_aload_n dX8_told_0 rfl ?_
  refine pr_iconst (v := 0) dX8_told_1 (kc_0) ?_
  obtain ⟨h1, hh1, hF⟩ := po_b hF
  refine pr_put dX8_told_2 tp_8_7 (hh1) ?_
  refine pr_aload_n dX8_told_5 rfl ?_
  refine pr_aload_n dX8_told_6 rfl ?_
  obtain ⟨q2, hq2, hF⟩ := po_b hF
  refine pr_VD (as := [.ref a1]) (rest := []) dX8_told_7 cv_8_13 (pm_Vok_up 0 (hfW hq2)) rfl rfl rfl (lb rfl) ?_
  refine pr_istore_n (L' := [.ref a0, .ref a1, .int q2.1]) dX8_told_10 rfl ?_
  refine pr_aload_n dX8_told_11 rfl ?_
  obtain ⟨v3, hv3, hF⟩ := po_b hF
  refine pr_getI dX8_told_12 tf_8_7 (hv3) ?_
  refine po_i hF (fun hc hF => ?_) (fun hc hF => ?_)
  · refine pr_ifT (tgt := 22) dX8_told_15 (by decide) (pc_eqT hc) ?_
    refine pr_iload_n dX8_told_22 rfl ?_
    cases hF
    exact pr_iret dX8_told_23 rfl rfl rfl
  · refine pr_ifF (tgt := 22) dX8_told_15 (by decide) (pc_eqF hc) ?_
    refine pr_iconst (v := 0) dX8_told_18 (kc_0) ?_
    refine pr_goto (tgt := 23) dX8_told_19 (by decide) ?_
    cases hF
    exact pr_iret dX8_told_23 rfl rfl rfl

def L_X13_holds_2 (fH : pm_H → Nat → Nat → Option (Int32 × pm_H)) : Nat → Nat → Nat → (Option Nat) → pm_H → Option ((Int32 × pm_H) ⊕ (pm_H))
  | 0, _, _, _, _ => none
  | n + 1, x0, x1, x2, h =>
    po_n (x2) (
      some (.inr h)
    ) (fun r5 =>
      (pm_fR [(10, 0)] h r5).bind fun v6 =>
      (fH h v6 x1).bind fun q7 =>
      if q7.1 = 2 then
        some (.inl (q7.1, q7.2))
      else
        (pm_fI [(10, 1)] q7.2 x0).bind fun v8 =>
        if q7.1 = v8 then
          some (.inl (q7.1, q7.2))
        else
          (pm_fV [(10, 2)] q7.2 r5).bind fun v9 =>
          L_X13_holds_2 fH n x0 x1 v9 q7.2
    )
theorem ok_L_X13_holds_2 {d : Nat} {fH : pm_H → Nat → Nat → Option (Int32 × pm_H)} (hfH : ∀ {h : pm_H} {b a : Nat} {q : Int32 × pm_H}, fH h b a = some q → pm_Vok d pm_tgH h b [.ref a] (some (.int q.1)) q.2) : ∀ (n : Nat) {x0 : Nat} {x1 : Nat} {x2 : Option Nat} {w3 : Value} {h : pm_H} {q : (Int32 × pm_H) ⊕ (pm_H)} {res : Option Value × pm_H}, L_X13_holds_2 fH n x0 x1 x2 h = some q → pm_nolong w3 = true → (∀ r, q = .inl r → res = (some (.int r.1), r.2)) → (∀ e, q = .inr e → ∀ z2 : Value, pm_nolong z2 = true → ∀ z3 : Value, pm_nolong z3 = true → pm_E (d + 1) 13 cX13_holds (some .int) 38 [.ref x0, .ref x1, z2, z3] [] e res) → pm_E (d + 1) 13 cX13_holds (some .int) 2 [.ref x0, .ref x1, va_rf x2, w3] [] h res := by
  intro n
  induction n with
  | zero =>
    intro x0 x1 x2 w3 h q res hF hw3 hr hk
    rw [L_X13_holds_2] at hF
    cases hF
  | succ n ih =>
    intro x0 x1 x2 w3 h q res hF hw3 hr hk
    rw [L_X13_holds_2] at hF
    refine pr_aload_n (x := va_rf x2) dX13_holds_2 (pv_la rfl) ?_
    refine po_nc hF (fun ho hF => ?_) (fun r5 ho hF => ?_)
    · rw [pv_n ho]
      refine pr_nullT (tgt := 38) dX13_holds_3 (by decide) ?_
      cases hF
      exact hk _ rfl _ rfl _ hw3
    · rw [pv_s ho]
      refine pr_nullF dX13_holds_3 ?_
      refine pr_aload_n dX13_holds_6 rfl ?_
      obtain ⟨v6, hv6, hF⟩ := po_b hF
      refine pr_getR dX13_holds_7 tf_13_7 (hv6) ?_
      refine pr_aload_n dX13_holds_10 rfl ?_
      obtain ⟨q7, hq7, hF⟩ := po_b hF
      refine pr_VD (as := [.ref x1]) (rest := []) dX13_holds_11 cv_13_17 (pm_Vok_up 0 (hfH hq7)) rfl rfl rfl (lb rfl) ?_
      refine pr_istore_n (L' := [.ref x0, .ref x1, .ref r5, .int q7.1]) dX13_holds_14 rfl ?_
      refine pr_iload_n dX13_holds_15 rfl ?_
      refine pr_iconst (v := 2) dX13_holds_16 (kc_2) ?_
      refine po_i hF (fun hc hF => ?_) (fun hc hF => ?_)
      · refine pr_icT (tgt := 28) dX13_holds_17 (by decide) (pc_eqT hc) ?_
        refine pr_iload_n dX13_holds_28 rfl ?_
        cases hF
        exact pr_iret dX13_holds_29 rfl rfl (hr _ rfl)
      · refine pr_icF (tgt := 28) dX13_holds_17 (by decide) (pc_eqF hc) ?_
        refine pr_iload_n dX13_holds_20 rfl ?_
        refine pr_aload_n dX13_holds_21 rfl ?_
        obtain ⟨v8, hv8, hF⟩ := po_b hF
        refine pr_getI dX13_holds_22 tf_13_13 (hv8) ?_
        refine po_i hF (fun hc hF => ?_) (fun hc hF => ?_)
        · refine pr_icF (tgt := 30) dX13_holds_25 (by decide) (pc_neF hc) ?_
          refine pr_iload_n dX13_holds_28 rfl ?_
          cases hF
          exact pr_iret dX13_holds_29 rfl rfl (hr _ rfl)
        · refine pr_icT (tgt := 30) dX13_holds_25 (by decide) (pc_neT hc) ?_
          refine pr_aload_n dX13_holds_30 rfl ?_
          obtain ⟨v9, hv9, hF⟩ := po_b hF
          refine pr_getV dX13_holds_31 tf_13_21 (pm_fV_v hv9) ?_
          refine pr_astore_n (L' := [.ref x0, .ref x1, va_rf v9, .int q7.1]) dX13_holds_34 (pv_f _) rfl ?_
          refine pr_goto (tgt := 2) dX13_holds_35 (by decide) ?_
          exact ih hF rfl hr hk
def F_X13_holds (fH : pm_H → Nat → Nat → Option (Int32 × pm_H)) (n : Nat) (h : pm_H) (a0 : Nat) (a1 : Nat) : Option (Int32 × pm_H) :=
  (L_X13_holds_2 fH n a0 a1 (some a0) h).bind fun q10 => po_s q10 (fun r => some r) fun e11 =>
  (pm_fI [(10, 1)] e11 a0).bind fun v12 =>
  some (1 - v12, e11)
theorem ok_F_X13_holds {d n : Nat} {h : pm_H} {a0 : Nat} {a1 : Nat} {q : Int32 × pm_H} {fH : pm_H → Nat → Nat → Option (Int32 × pm_H)} (hfH : ∀ {h : pm_H} {b a : Nat} {q : Int32 × pm_H}, fH h b a = some q → pm_Vok d pm_tgH h b [.ref a] (some (.int q.1)) q.2) (hF : F_X13_holds fH n h a0 a1 = some q) : pm_E (d + 1) 13 cX13_holds (some .int) 0 [.ref a0, .ref a1, pm_D, pm_D] [] h (some (.int q.1), q.2) := by
  unfold F_X13_holds at hF
  refine pr_aload_n dX13_holds_0 rfl ?_
  refine pr_astore_n (L' := [.ref a0, .ref a1, .ref a0, pm_D]) dX13_holds_1 (Or.inr ⟨_, rfl⟩) rfl ?_
  obtain ⟨q10, hq10, hF⟩ := po_b hF
  refine ok_L_X13_holds_2 hfH n hq10 rfl (fun r hq => ?_) (fun e11 hq z2 hz2 z3 hz3 => ?_)
  · subst hq
    replace hF := po_sl hF
    cases hF
    exact rfl
  subst hq
  replace hF := po_sr hF
  refine pr_iconst (v := 1) dX13_holds_38 (kc_1) ?_
  refine pr_aload_n dX13_holds_39 rfl ?_
  obtain ⟨v12, hv12, hF⟩ := po_b hF
  refine pr_getI dX13_holds_40 tf_13_13 (hv12) ?_
  refine pr_isub dX13_holds_43 ?_
  cases hF
  exact pr_iret dX13_holds_44 rfl rfl rfl

def F_X14_holds (fH : pm_H → Nat → Nat → Option (Int32 × pm_H)) (h : pm_H) (a0 : Nat) (a1 : Nat) : Option (Int32 × pm_H) :=
  (pm_fR [(11, 0)] h a0).bind fun v1 =>
  (fH h v1 a1).bind fun q2 =>
  if q2.1 = 2 then
    some (2, q2.2)
  else
    some (1 - q2.1, q2.2)
theorem ok_F_X14_holds {d : Nat} {h : pm_H} {a0 : Nat} {a1 : Nat} {q : Int32 × pm_H} {fH : pm_H → Nat → Nat → Option (Int32 × pm_H)} (hfH : ∀ {h : pm_H} {b a : Nat} {q : Int32 × pm_H}, fH h b a = some q → pm_Vok d pm_tgH h b [.ref a] (some (.int q.1)) q.2) (hF : F_X14_holds fH h a0 a1 = some q) : pm_E (d + 1) 14 cX14_holds (some .int) 0 [.ref a0, .ref a1, pm_D] [] h (some (.int q.1), q.2) := by
  unfold F_X14_holds at hF
  refine pr_aload_n dX14_holds_0 rfl ?_
  obtain ⟨v1, hv1, hF⟩ := po_b hF
  refine pr_getR dX14_holds_1 tf_14_7 (hv1) ?_
  refine pr_aload_n dX14_holds_4 rfl ?_
  obtain ⟨q2, hq2, hF⟩ := po_b hF
  refine pr_VD (as := [.ref a1]) (rest := []) dX14_holds_5 cv_14_13 (pm_Vok_up 0 (hfH hq2)) rfl rfl rfl (lb rfl) ?_
  refine pr_istore_n (L' := [.ref a0, .ref a1, .int q2.1]) dX14_holds_8 rfl ?_
  refine pr_iload_n dX14_holds_9 rfl ?_
  refine pr_iconst (v := 2) dX14_holds_10 (kc_2) ?_
  refine po_i hF (fun hc hF => ?_) (fun hc hF => ?_)
  · refine pr_icF (tgt := 18) dX14_holds_11 (by decide) (pc_neF hc) ?_
    refine pr_iconst (v := 2) dX14_holds_14 (kc_2) ?_
    refine pr_goto (tgt := 21) dX14_holds_15 (by decide) ?_
    cases hF
    exact pr_iret dX14_holds_21 rfl rfl rfl
  · refine pr_icT (tgt := 18) dX14_holds_11 (by decide) (pc_neT hc) ?_
    refine pr_iconst (v := 1) dX14_holds_18 (kc_1) ?_
    refine pr_iload_n dX14_holds_19 rfl ?_
    refine pr_isub dX14_holds_20 ?_
    cases hF
    exact pr_iret dX14_holds_21 rfl rfl rfl

def F_X15_holds (fW : pm_H → Nat → Nat → Option (Int32 × pm_H)) (h : pm_H) (a0 : Nat) (a1 : Nat) : Option (Int32 × pm_H) :=
  (pm_put [(2, 0, 1)] h a1 (.int 0)).bind fun h1 =>
  (pm_fR [(12, 0)] h1 a0).bind fun v2 =>
  (fW h1 v2 a1).bind fun q3 =>
  (pm_fR [(12, 1)] q3.2 a0).bind fun v4 =>
  (fW q3.2 v4 a1).bind fun q5 =>
  (pm_fI [(12, 2)] q5.2 a0).bind fun v6 =>
  ((
    if v6 = 60 then
      if q3.1 < q5.1 then
        some 1
      else
        some 0
    else
      (pm_fI [(12, 2)] q5.2 a0).bind fun v7 =>
      if v7 = 62 then
        if q5.1 < q3.1 then
          some 1
        else
          some 0
      else
      if q3.1 = q5.1 then
        some 1
      else
        some 0
  ) : Option (Int32)).bind fun q8 =>
  (pm_fI [(2, 0)] q5.2 a1).bind fun v9 =>
  if v9 = 0 then
    if q8 = 0 then
      some (0, q5.2)
    else
      some (1, q5.2)
  else
    some (2, q5.2)
theorem ok_F_X15_holds {d : Nat} {h : pm_H} {a0 : Nat} {a1 : Nat} {q : Int32 × pm_H} {fW : pm_H → Nat → Nat → Option (Int32 × pm_H)} (hfW : ∀ {h : pm_H} {b a : Nat} {q : Int32 × pm_H}, fW h b a = some q → pm_Vok d pm_tgW h b [.ref a] (some (.int q.1)) q.2) (hF : F_X15_holds fW h a0 a1 = some q) : pm_E (d + 1) 15 cX15_holds (some .int) 0 [.ref a0, .ref a1, pm_D, pm_D, pm_D] [] h (some (.int q.1), q.2) := by
  unfold F_X15_holds at hF
  refine pr_aload_n dX15_holds_0 rfl ?_
  refine pr_iconst (v := 0) dX15_holds_1 (kc_0) ?_
  obtain ⟨h1, hh1, hF⟩ := po_b hF
  refine pr_put dX15_holds_2 tp_15_20 (hh1) ?_
  refine pr_aload_n dX15_holds_5 rfl ?_
  obtain ⟨v2, hv2, hF⟩ := po_b hF
  refine pr_getR dX15_holds_6 tf_15_7 (hv2) ?_
  refine pr_aload_n dX15_holds_9 rfl ?_
  obtain ⟨q3, hq3, hF⟩ := po_b hF
  refine pr_VD (as := [.ref a1]) (rest := []) dX15_holds_10 cv_15_26 (pm_Vok_up 0 (hfW hq3)) rfl rfl rfl (lb rfl) ?_
  refine pr_istore_n (L' := [.ref a0, .ref a1, .int q3.1, pm_D, pm_D]) dX15_holds_13 rfl ?_
  refine pr_aload_n dX15_holds_14 rfl ?_
  obtain ⟨v4, hv4, hF⟩ := po_b hF
  refine pr_getR dX15_holds_15 tf_15_17 (hv4) ?_
  refine pr_aload_n dX15_holds_18 rfl ?_
  obtain ⟨q5, hq5, hF⟩ := po_b hF
  refine pr_VD (as := [.ref a1]) (rest := []) dX15_holds_19 cv_15_26 (pm_Vok_up 0 (hfW hq5)) rfl rfl rfl (lb rfl) ?_
  refine pr_istore_n (L' := [.ref a0, .ref a1, .int q3.1, .int q5.1, pm_D]) dX15_holds_22 rfl ?_
  refine pr_aload_n dX15_holds_23 rfl ?_
  obtain ⟨v6, hv6, hF⟩ := po_b hF
  refine pr_getI dX15_holds_24 tf_15_13 (hv6) ?_
  refine pr_bipush (v := 60) dX15_holds_27 (kb_60) ?_
  obtain ⟨q8, hq8, hF⟩ := po_b hF
  have J77 : pm_E (d + 1) 15 cX15_holds (some .int) 77 [.ref a0, .ref a1, .int q3.1, .int q5.1, pm_D] [.int q8] q5.2 (some (.int q.1), q.2) := by
    refine pr_istore (L' := [.ref a0, .ref a1, .int q3.1, .int q5.1, .int q8]) dX15_holds_77 rfl ?_
    refine pr_aload_n dX15_holds_79 rfl ?_
    obtain ⟨v9, hv9, hF⟩ := po_b hF
    refine pr_getI dX15_holds_80 tf_15_20 (hv9) ?_
    refine po_i hF (fun hc hF => ?_) (fun hc hF => ?_)
    · refine pr_ifT (tgt := 90) dX15_holds_83 (by decide) (pc_eqT hc) ?_
      refine pr_iload dX15_holds_90 rfl ?_
      refine po_i hF (fun hc hF => ?_) (fun hc hF => ?_)
      · refine pr_ifT (tgt := 99) dX15_holds_92 (by decide) (pc_eqT hc) ?_
        refine pr_iconst (v := 0) dX15_holds_99 (kc_0) ?_
        cases hF
        exact pr_iret dX15_holds_100 rfl rfl rfl
      · refine pr_ifF (tgt := 99) dX15_holds_92 (by decide) (pc_eqF hc) ?_
        refine pr_iconst (v := 1) dX15_holds_95 (kc_1) ?_
        refine pr_goto (tgt := 100) dX15_holds_96 (by decide) ?_
        cases hF
        exact pr_iret dX15_holds_100 rfl rfl rfl
    · refine pr_ifF (tgt := 90) dX15_holds_83 (by decide) (pc_eqF hc) ?_
      refine pr_iconst (v := 2) dX15_holds_86 (kc_2) ?_
      refine pr_goto (tgt := 100) dX15_holds_87 (by decide) ?_
      cases hF
      exact pr_iret dX15_holds_100 rfl rfl rfl
  clear hF
  have hF := hq8
  refine po_i hF (fun hc hF => ?_) (fun hc hF => ?_)
  · refine pr_icF (tgt := 45) dX15_holds_29 (by decide) (pc_neF hc) ?_
    refine pr_iload_n dX15_holds_32 rfl ?_
    refine pr_iload_n dX15_holds_33 rfl ?_
    refine po_i hF (fun hc hF => ?_) (fun hc hF => ?_)
    · refine pr_icF (tgt := 41) dX15_holds_34 (by decide) (pc_geF hc) ?_
      refine pr_iconst (v := 1) dX15_holds_37 (kc_1) ?_
      refine pr_goto (tgt := 77) dX15_holds_38 (by decide) ?_
      cases hF
      exact J77
    · refine pr_icT (tgt := 41) dX15_holds_34 (by decide) (pc_geT hc) ?_
      refine pr_iconst (v := 0) dX15_holds_41 (kc_0) ?_
      refine pr_goto (tgt := 77) dX15_holds_42 (by decide) ?_
      cases hF
      exact J77
  · refine pr_icT (tgt := 45) dX15_holds_29 (by decide) (pc_neT hc) ?_
    refine pr_aload_n dX15_holds_45 rfl ?_
    obtain ⟨v7, hv7, hF⟩ := po_b hF
    refine pr_getI dX15_holds_46 tf_15_13 (hv7) ?_
    refine pr_bipush (v := 62) dX15_holds_49 (kb_62) ?_
    refine po_i hF (fun hc hF => ?_) (fun hc hF => ?_)
    · refine pr_icF (tgt := 67) dX15_holds_51 (by decide) (pc_neF hc) ?_
      refine pr_iload_n dX15_holds_54 rfl ?_
      refine pr_iload_n dX15_holds_55 rfl ?_
      refine po_i hF (fun hc hF => ?_) (fun hc hF => ?_)
      · refine pr_icF (tgt := 63) dX15_holds_56 (by decide) (pc_leF hc) ?_
        refine pr_iconst (v := 1) dX15_holds_59 (kc_1) ?_
        refine pr_goto (tgt := 77) dX15_holds_60 (by decide) ?_
        cases hF
        exact J77
      · refine pr_icT (tgt := 63) dX15_holds_56 (by decide) (pc_leT hc) ?_
        refine pr_iconst (v := 0) dX15_holds_63 (kc_0) ?_
        refine pr_goto (tgt := 77) dX15_holds_64 (by decide) ?_
        cases hF
        exact J77
    · refine pr_icT (tgt := 67) dX15_holds_51 (by decide) (pc_neT hc) ?_
      refine pr_iload_n dX15_holds_67 rfl ?_
      refine pr_iload_n dX15_holds_68 rfl ?_
      refine po_i hF (fun hc hF => ?_) (fun hc hF => ?_)
      · refine pr_icF (tgt := 76) dX15_holds_69 (by decide) (pc_neF hc) ?_
        refine pr_iconst (v := 1) dX15_holds_72 (kc_1) ?_
        refine pr_goto (tgt := 77) dX15_holds_73 (by decide) ?_
        cases hF
        exact J77
      · refine pr_icT (tgt := 76) dX15_holds_69 (by decide) (pc_neT hc) ?_
        refine pr_iconst (v := 0) dX15_holds_76 (kc_0) ?_
        cases hF
        exact J77
def K_holds : Nat → Nat → pm_H → Nat → Nat → Option (Int32 × pm_H)
  | 0, _, _, _, _ => none
  | k + 1, n, h, b, a =>
    if pm_cl_ h b = some 10 then F_X13_holds (K_holds k n) n h b a
    else if pm_cl_ h b = some 11 then F_X14_holds (K_holds k n) h b a
    else if pm_cl_ h b = some 12 then F_X15_holds (K_worth 40 n) h b a
    else none
theorem ok_K_holds {d n : Nat} : ∀ (k : Nat) {h : pm_H} {b a : Nat} {q : Int32 × pm_H}, K_holds k n h b a = some q → pm_Vok (d + 40 + 1 * k) pm_tgH h b [.ref a] (some (.int q.1)) q.2 := by
  intro k
  induction k with
  | zero => intro h b a q hF; rw [K_holds] at hF; cases hF
  | succ k ih =>
    intro h b a q hF
    rw [K_holds] at hF
    refine po_i hF (fun hc hF => ?_) (fun _ hF => po_i hF (fun hc hF => ?_) (fun _ hF => po_i hF (fun hc hF => ?_) (fun _ hF => nomatch hF)))
    · exact pm_vok 10 _ hc rfl (lb rfl) (lb rfl) (pm_E_up 0 (ok_F_X13_holds (d := d + 40 + 1 * k) (fun e => ih e) hF))
    · exact pm_vok 11 _ hc rfl (lb rfl) (lb rfl) (pm_E_up 0 (ok_F_X14_holds (d := d + 40 + 1 * k) (fun e => ih e) hF))
    · exact pm_vok 12 _ hc rfl (lb rfl) (lb rfl) (pm_E_up 0 (ok_F_X15_holds (d := d + 40 + 1 * k) (fun e => pm_Vok_up (1 * k) (ok_K_worth 40 e)) hF))

def F_X7_here (h : pm_H) (a0 : Nat) : Option (Int32) :=
  (pm_fI [(6, 2)] h a0).bind fun v1 =>
  (pm_fI [(6, 0)] h a0).bind fun v2 =>
  if v1 < v2 then
    (pm_fR [(6, 6)] h a0).bind fun v3 =>
    (pm_fR [(0, 6)] h v3).bind fun v4 =>
    (pm_fI [(6, 2)] h a0).bind fun v5 =>
    (pm_ai 1 h v4 v5).bind fun v6 =>
    some (v6 &&& 255)
  else
    some 0
theorem ok_F_X7_here {d : Nat} {h : pm_H} {a0 : Nat} {q : Int32} (hF : F_X7_here h a0 = some q) : pm_E (d + 0) 7 cX7_here (some .int) 0 [.ref a0] [] h (some (.int q), h) := by
  unfold F_X7_here at hF
  refine pr_aload_n dX7_here_0 rfl ?_
  obtain ⟨v1, hv1, hF⟩ := po_b hF
  refine pr_getI dX7_here_1 tf_7_26 (hv1) ?_
  refine pr_aload_n dX7_here_4 rfl ?_
  obtain ⟨v2, hv2, hF⟩ := po_b hF
  refine pr_getI dX7_here_5 tf_7_22 (hv2) ?_
  refine po_i hF (fun hc hF => ?_) (fun hc hF => ?_)
  · refine pr_icF (tgt := 30) dX7_here_8 (by decide) (pc_geF hc) ?_
    refine pr_aload_n dX7_here_11 rfl ?_
    obtain ⟨v3, hv3, hF⟩ := po_b hF
    refine pr_getR dX7_here_12 tf_7_3 (hv3) ?_
    obtain ⟨v4, hv4, hF⟩ := po_b hF
    refine pr_getR dX7_here_15 tf_7_29 (hv4) ?_
    refine pr_aload_n dX7_here_18 rfl ?_
    obtain ⟨v5, hv5, hF⟩ := po_b hF
    refine pr_getI dX7_here_19 tf_7_26 (hv5) ?_
    obtain ⟨v6, hv6, hF⟩ := po_b hF
    refine pr_bald dX7_here_22 (hv6) ?_
    refine pr_sipush (v := 255) dX7_here_23 (ks_255) ?_
    refine pr_iand dX7_here_26 ?_
    refine pr_goto (tgt := 31) dX7_here_27 (by decide) ?_
    cases hF
    exact pr_iret dX7_here_31 rfl rfl rfl
  · refine pr_icT (tgt := 30) dX7_here_8 (by decide) (pc_geT hc) ?_
    refine pr_iconst (v := 0) dX7_here_30 (kc_0) ?_
    cases hF
    exact pr_iret dX7_here_31 rfl rfl rfl

def F_X7_bad (h : pm_H) (a0 : Nat) (x1 : Int32) (x2 : Int32) : Option (pm_H) :=
  (pm_fI [(6, 4)] h a0).bind fun v1 =>
  if 0 < v1 then
    some h
  else
    (pm_put [(6, 4, 0)] h a0 (.int x1)).bind fun h2 =>
    (pm_put [(6, 5, 0)] h2 a0 (.int x2)).bind fun h3 =>
    some h3
theorem ok_F_X7_bad {d : Nat} {h : pm_H} {a0 : Nat} {x1 : Int32} {x2 : Int32} {q : pm_H} (hF : F_X7_bad h a0 x1 x2 = some q) : pm_E (d + 0) 7 cX7_bad (none) 0 [.ref a0, .int x1, .int x2] [] h (none, q) := by
  unfold F_X7_bad at hF
  refine pr_aload_n dX7_bad_0 rfl ?_
  obtain ⟨v1, hv1, hF⟩ := po_b hF
  refine pr_getI dX7_bad_1 tf_7_33 (hv1) ?_
  refine po_i hF (fun hc hF => ?_) (fun hc hF => ?_)
  · refine pr_ifF (tgt := 8) dX7_bad_4 (by decide) (pc_leF hc) ?_
    cases hF
    exact pr_vret dX7_bad_7 rfl rfl
  · refine pr_ifT (tgt := 8) dX7_bad_4 (by decide) (pc_leT hc) ?_
    refine pr_aload_n dX7_bad_8 rfl ?_
    refine pr_iload_n dX7_bad_9 rfl ?_
    obtain ⟨h2, hh2, hF⟩ := po_b hF
    refine pr_put dX7_bad_10 tp_7_33 (hh2) ?_
    refine pr_aload_n dX7_bad_13 rfl ?_
    refine pr_iload_n dX7_bad_14 rfl ?_
    obtain ⟨h3, hh3, hF⟩ := po_b hF
    refine pr_put dX7_bad_15 tp_7_36 (hh3) ?_
    cases hF
    exact pr_vret dX7_bad_18 rfl rfl

def F_X7_opens (h : pm_H) (a0 : Nat) : Option (pm_H) :=
  (pm_fI [(6, 3)] h a0).bind fun v1 =>
  ((
    if v1 = 6 then
      (pm_fI [(6, 2)] h a0).bind fun v2 =>
      (if pm_cl_ h a0 = some 6 then F_X7_bad h a0 5 v2 else none).bind fun q3 =>
      some q3
    else
      some h
  ) : Option (pm_H)).bind fun q4 =>
  (pm_fI [(6, 3)] q4 a0).bind fun v5 =>
  (pm_put [(6, 3, 0)] q4 a0 (.int (v5 + 1))).bind fun h6 =>
  (pm_fI [(6, 2)] h6 a0).bind fun v7 =>
  (pm_put [(6, 2, 0)] h6 a0 (.int (v7 + 1))).bind fun h8 =>
  some h8
theorem ok_F_X7_opens {d : Nat} {h : pm_H} {a0 : Nat} {q : pm_H} (hF : F_X7_opens h a0 = some q) : pm_E (d + 1) 7 cX7_opens (none) 0 [.ref a0] [] h (none, q) := by
  unfold F_X7_opens at hF
  refine pr_aload_n dX7_opens_0 rfl ?_
  obtain ⟨v1, hv1, hF⟩ := po_b hF
  refine pr_getI dX7_opens_1 tf_7_54 (hv1) ?_
  refine pr_bipush (v := 6) dX7_opens_4 (kb_6) ?_
  obtain ⟨q4, hq4, hF⟩ := po_b hF
  have J18 : pm_E (d + 1) 7 cX7_opens (none) 18 [.ref a0] [] q4 (none, q) := by
    refine pr_aload_n dX7_opens_18 rfl ?_
    refine pr_dup dX7_opens_19 rfl ?_
    obtain ⟨v5, hv5, hF⟩ := po_b hF
    refine pr_getI dX7_opens_20 tf_7_54 (hv5) ?_
    refine pr_iconst (v := 1) dX7_opens_23 (kc_1) ?_
    refine pr_iadd dX7_opens_24 ?_
    obtain ⟨h6, hh6, hF⟩ := po_b hF
    refine pr_put dX7_opens_25 tp_7_54 (hh6) ?_
    refine pr_aload_n dX7_opens_28 rfl ?_
    refine pr_dup dX7_opens_29 rfl ?_
    obtain ⟨v7, hv7, hF⟩ := po_b hF
    refine pr_getI dX7_opens_30 tf_7_26 (hv7) ?_
    refine pr_iconst (v := 1) dX7_opens_33 (kc_1) ?_
    refine pr_iadd dX7_opens_34 ?_
    obtain ⟨h8, hh8, hF⟩ := po_b hF
    refine pr_put dX7_opens_35 tp_7_26 (hh8) ?_
    cases hF
    exact pr_vret dX7_opens_38 rfl rfl
  clear hF
  have hF := hq4
  refine po_i hF (fun hc hF => ?_) (fun hc hF => ?_)
  · refine pr_icF (tgt := 18) dX7_opens_6 (by decide) (pc_neF hc) ?_
    refine pr_aload_n dX7_opens_9 rfl ?_
    refine pr_iconst (v := 5) dX7_opens_10 (kc_5) ?_
    refine pr_aload_n dX7_opens_11 rfl ?_
    obtain ⟨v2, hv2, hF⟩ := po_b hF
    refine pr_getI dX7_opens_12 tf_7_26 (hv2) ?_
    obtain ⟨q3, hq3, hF⟩ := po_b hF
    refine po_i hq3 (fun hcl hq => ?_) (fun _ hq => nomatch hq)
    refine pr_V (as := [.int 5, .int v2]) (rest := []) dX7_opens_15 cv_7_50 hcl rfl rfl rfl rfl (lb rfl) (lb rfl) (lb rfl) (ok_F_X7_bad hq) ?_
    cases hF
    exact J18
  · refine pr_icT (tgt := 18) dX7_opens_6 (by decide) (pc_neT hc) ?_
    cases hF
    exact J18

def F_X7_isGood (h : pm_H) (a0 : Nat) : Option (Int32) :=
  (pm_fI [(6, 4)] h a0).bind fun v1 =>
  if v1 = 0 then
    some 1
  else
    some 0
theorem ok_F_X7_isGood {d : Nat} {h : pm_H} {a0 : Nat} {q : Int32} (hF : F_X7_isGood h a0 = some q) : pm_E (d + 0) 7 cX7_isGood (some .boolean) 0 [.ref a0] [] h (some (.int q), h) := by
  unfold F_X7_isGood at hF
  refine pr_aload_n dX7_isGood_0 rfl ?_
  obtain ⟨v1, hv1, hF⟩ := po_b hF
  refine pr_getI dX7_isGood_1 tf_7_33 (hv1) ?_
  refine po_i hF (fun hc hF => ?_) (fun hc hF => ?_)
  · refine pr_ifF (tgt := 11) dX7_isGood_4 (by decide) (pc_neF hc) ?_
    refine pr_iconst (v := 1) dX7_isGood_7 (kc_1) ?_
    refine pr_goto (tgt := 12) dX7_isGood_8 (by decide) ?_
    cases hF
    exact pr_iret dX7_isGood_12 rfl nb_1 rfl
  · refine pr_ifT (tgt := 11) dX7_isGood_4 (by decide) (pc_neT hc) ?_
    refine pr_iconst (v := 0) dX7_isGood_11 (kc_0) ?_
    cases hF
    exact pr_iret dX7_isGood_12 rfl nb_0 rfl

def F_X12_init (a0 : Nat) : Option (Unit) :=
  some ()
theorem ok_F_X12_init {d : Nat} {h : pm_H} {a0 : Nat} {q : Unit} (hF : F_X12_init a0 = some q) : pm_E (d + 0) 62 cX12_init (none) 0 [.ref a0] [] h (none, h) := by
  unfold F_X12_init at hF
  refine pr_aload_n dX12_init_0 rfl ?_
  refine pr_objI dX12_init_1 rfl rfl (lb rfl) ?_
  cases hF
  exact pr_vret dX12_init_4 rfl rfl

def F_X14_init (h : pm_H) (a0 : Nat) (o1 : Option Nat) : Option (pm_H) :=
  (F_X12_init a0).bind fun q1 =>
  (pm_put [(11, 0, 2)] h a0 (va_rf o1)).bind fun h2 =>
  some h2
theorem ok_F_X14_init {d : Nat} {h : pm_H} {a0 : Nat} {o1 : Option Nat} {q : pm_H} (hF : F_X14_init h a0 o1 = some q) : pm_E (d + 1) 64 cX14_init (none) 0 [.ref a0, va_rf o1] [] h (none, q) := by
  unfold F_X14_init at hF
  refine pr_aload_n dX14_init_0 rfl ?_
  obtain ⟨q1, hq1, hF⟩ := po_b hF
  refine pr_I dX14_init_1 ci_64_1 (as := []) (rest := []) rfl rfl rfl (lb rfl) (lb rfl) (lb rfl) (ok_F_X12_init hq1) ?_
  refine pr_aload_n dX14_init_4 rfl ?_
  refine pr_aload_n (x := va_rf o1) dX14_init_5 (pv_la rfl) ?_
  obtain ⟨h2, hh2, hF⟩ := po_b hF
  refine pr_put dX14_init_6 tp_64_7 (hh2) ?_
  cases hF
  exact pr_vret dX14_init_9 rfl rfl

def F_X13_init (h : pm_H) (a0 : Nat) (o1 : Option Nat) (x2 : Int32) : Option (pm_H) :=
  (F_X12_init a0).bind fun q1 =>
  (pm_put [(10, 0, 2)] h a0 (va_rf o1)).bind fun h2 =>
  (pm_put [(10, 1, 0)] h2 a0 (.int x2)).bind fun h3 =>
  some h3
theorem ok_F_X13_init {d : Nat} {h : pm_H} {a0 : Nat} {o1 : Option Nat} {x2 : Int32} {q : pm_H} (hF : F_X13_init h a0 o1 x2 = some q) : pm_E (d + 1) 63 cX13_init (none) 0 [.ref a0, va_rf o1, .int x2] [] h (none, q) := by
  unfold F_X13_init at hF
  refine pr_aload_n dX13_init_0 rfl ?_
  obtain ⟨q1, hq1, hF⟩ := po_b hF
  refine pr_I dX13_init_1 ci_63_1 (as := []) (rest := []) rfl rfl rfl (lb rfl) (lb rfl) (lb rfl) (ok_F_X12_init hq1) ?_
  refine pr_aload_n dX13_init_4 rfl ?_
  refine pr_aload_n (x := va_rf o1) dX13_init_5 (pv_la rfl) ?_
  obtain ⟨h2, hh2, hF⟩ := po_b hF
  refine pr_put dX13_init_6 tp_63_7 (hh2) ?_
  refine pr_aload_n dX13_init_9 rfl ?_
  refine pr_iload_n dX13_init_10 rfl ?_
  obtain ⟨h3, hh3, hF⟩ := po_b hF
  refine pr_put dX13_init_11 tp_63_13 (hh3) ?_
  cases hF
  exact pr_vret dX13_init_14 rfl rfl

def L_X7_pieces_15 (fP : pm_H → Nat → Option ((Option Nat) × pm_H)) : Nat → Nat → (Option Nat) → pm_H → Option (pm_H)
  | 0, _, _, _ => none
  | n + 1, x0, x2, h =>
    (if pm_cl_ h x0 = some 6 then F_X7_isGood h x0 else none).bind fun q11 =>
    if q11 = 0 then
      some h
    else
      (if pm_cl_ h x0 = some 6 then F_X7_here h x0 else none).bind fun q12 =>
      if q12 = 38 then
        (pm_fI [(6, 2)] h x0).bind fun v13 =>
        (pm_put [(6, 2, 0)] h x0 (.int (v13 + 1))).bind fun h14 =>
        (if pm_cl_ (pm_nw h14 10) x0 = some 6 then fP (pm_nw h14 10) x0 else none).bind fun q15 =>
        (F_X13_init q15.2 h14.2.1 q15.1 0).bind fun q16 =>
        (x2).bind fun r17 =>
        (pm_put [(10, 2, 2)] q16 r17 (.ref h14.2.1)).bind fun h18 =>
        (pm_fV [(10, 2)] h18 r17).bind fun v19 =>
        L_X7_pieces_15 fP n x0 v19 h18
      else
        some h
theorem ok_L_X7_pieces_15 {d : Nat} {fP : pm_H → Nat → Option ((Option Nat) × pm_H)} (hfP : ∀ {h : pm_H} {a : Nat} {q : (Option Nat) × pm_H}, fP h a = some q → pm_E d 7 cX7_piece (some (.object "AnyKeyTown$Condition")) 0 (pm_en [.ref a] 4) [] h (some (va_rf q.1), q.2)) : ∀ (n : Nat) {x0 : Nat} {x2 : Option Nat} {w1 : Value} {h : pm_H} {q : pm_H} {res : Option Value × pm_H}, L_X7_pieces_15 fP n x0 x2 h = some q → pm_nolong w1 = true → (∀ z2 : Value, pm_nolong z2 = true → pm_E (d + 2) 7 cX7_pieces (some (.object "AnyKeyTown$Condition")) 65 [.ref x0, w1, z2] [] q res) → pm_E (d + 2) 7 cX7_pieces (some (.object "AnyKeyTown$Condition")) 15 [.ref x0, w1, va_rf x2] [] h res := by
  intro n
  induction n with
  | zero =>
    intro x0 x2 w1 h q res hF hw1 hk
    rw [L_X7_pieces_15] at hF
    cases hF
  | succ n ih =>
    intro x0 x2 w1 h q res hF hw1 hk
    rw [L_X7_pieces_15] at hF
    refine pr_aload_n dX7_pieces_15 rfl ?_
    obtain ⟨q11, hq11, hF⟩ := po_b hF
    refine po_i hq11 (fun hcl hq => ?_) (fun _ hq => nomatch hq)
    refine pr_V (as := []) (rest := []) dX7_pieces_16 cv_7_43 hcl rfl rfl rfl rfl (lb rfl) (lb rfl) (lb rfl) (ok_F_X7_isGood hq) ?_
    refine po_i hF (fun hc hF => ?_) (fun hc hF => ?_)
    · refine pr_ifT (tgt := 65) dX7_pieces_19 (by decide) (pc_eqT hc) ?_
      cases hF
      exact hk _ (pv_nl _)
    · refine pr_ifF (tgt := 65) dX7_pieces_19 (by decide) (pc_eqF hc) ?_
      refine pr_aload_n dX7_pieces_22 rfl ?_
      obtain ⟨q12, hq12, hF⟩ := po_b hF
      refine po_i hq12 (fun hcl hq => ?_) (fun _ hq => nomatch hq)
      refine pr_V (as := []) (rest := []) dX7_pieces_23 cv_7_39 hcl rfl rfl rfl rfl (lb rfl) (lb rfl) (lb rfl) (ok_F_X7_here hq) ?_
      refine pr_bipush (v := 38) dX7_pieces_26 (kb_38) ?_
      refine po_i hF (fun hc hF => ?_) (fun hc hF => ?_)
      · refine pr_icF (tgt := 65) dX7_pieces_28 (by decide) (pc_neF hc) ?_
        refine pr_aload_n dX7_pieces_31 rfl ?_
        refine pr_dup dX7_pieces_32 rfl ?_
        obtain ⟨v13, hv13, hF⟩ := po_b hF
        refine pr_getI dX7_pieces_33 tf_7_26 (hv13) ?_
        refine pr_iconst (v := 1) dX7_pieces_36 (kc_1) ?_
        refine pr_iadd dX7_pieces_37 ?_
        obtain ⟨h14, hh14, hF⟩ := po_b hF
        refine pr_put dX7_pieces_38 tp_7_26 (hh14) ?_
        refine pr_aload_n (x := va_rf x2) dX7_pieces_41 (pv_la rfl) ?_
        refine pr_new (c := 10) dX7_pieces_42 rfl ?_
        refine pr_dup dX7_pieces_45 rfl ?_
        refine pr_aload_n dX7_pieces_46 rfl ?_
        obtain ⟨q15, hq15, hF⟩ := po_b hF
        refine po_i hq15 (fun hcl hq => ?_) (fun _ hq => nomatch hq)
        refine pr_V (as := []) (rest := [.ref h14.2.1, .ref h14.2.1, va_rf x2]) dX7_pieces_47 cv_7_101 hcl rfl rfl rfl rfl (lb rfl) (Nat.le_trans (ps_c (lb rfl) (ps_c (lb rfl) (ps_c (Nat.le_of_eq (pv_c _)) ps_0))) (lb rfl)) (lb rfl) (pm_E_up 1 (hfP hq)) ?_
        refine pr_iconst (v := 0) dX7_pieces_50 (kc_0) ?_
        obtain ⟨q16, hq16, hF⟩ := po_b hF
        refine pr_I dX7_pieces_51 ci_7_120 (as := [va_rf q15.1, .int 0]) (rest := [.ref h14.2.1, va_rf x2]) rfl rfl (pa_c (pv_1 _) (pa_c rfl rfl)) (lb rfl) (Nat.le_trans (ps_c (lb rfl) (ps_c (Nat.le_of_eq (pv_c _)) ps_0)) (lb rfl)) (lb rfl) (ok_F_X13_init hq16) ?_
        obtain ⟨r17, hr17, hF⟩ := po_b hF
        rw [pv_s hr17]
        obtain ⟨h18, hh18, hF⟩ := po_b hF
        refine pr_put dX7_pieces_54 tp_7_123 (hh18) ?_
        refine pr_aload_n dX7_pieces_57 rfl ?_
        obtain ⟨v19, hv19, hF⟩ := po_b hF
        refine pr_getV dX7_pieces_58 tf_7_123 (pm_fV_v hv19) ?_
        refine pr_astore_n (L' := [.ref x0, w1, va_rf v19]) dX7_pieces_61 (pv_f _) (pm_st_w (i := 1) rfl rfl hw1 rfl) ?_
        refine pr_goto (tgt := 15) dX7_pieces_62 (by decide) ?_
        exact ih hF hw1 hk
      · refine pr_icT (tgt := 65) dX7_pieces_28 (by decide) (pc_neT hc) ?_
        cases hF
        exact hk _ (pv_nl _)
def F_X7_pieces (fP : pm_H → Nat → Option ((Option Nat) × pm_H)) (n : Nat) (h : pm_H) (a0 : Nat) : Option ((Option Nat) × pm_H) :=
  (if pm_cl_ (pm_nw h 10) a0 = some 6 then fP (pm_nw h 10) a0 else none).bind fun q1 =>
  (F_X13_init q1.2 h.2.1 q1.1 0).bind fun q2 =>
  (L_X7_pieces_15 fP n a0 (some h.2.1) q2).bind fun q20 =>
  some ((some h.2.1), q20)
theorem ok_F_X7_pieces {d n : Nat} {h : pm_H} {a0 : Nat} {q : (Option Nat) × pm_H} {fP : pm_H → Nat → Option ((Option Nat) × pm_H)} (hfP : ∀ {h : pm_H} {a : Nat} {q : (Option Nat) × pm_H}, fP h a = some q → pm_E d 7 cX7_piece (some (.object "AnyKeyTown$Condition")) 0 (pm_en [.ref a] 4) [] h (some (va_rf q.1), q.2)) (hF : F_X7_pieces fP n h a0 = some q) : pm_E (d + 2) 7 cX7_pieces (some (.object "AnyKeyTown$Condition")) 0 [.ref a0, pm_D, pm_D] [] h (some (va_rf q.1), q.2) := by
  unfold F_X7_pieces at hF
  refine pr_new (c := 10) dX7_pieces_0 rfl ?_
  refine pr_dup dX7_pieces_3 rfl ?_
  refine pr_aload_n dX7_pieces_4 rfl ?_
  obtain ⟨q1, hq1, hF⟩ := po_b hF
  refine po_i hq1 (fun hcl hq => ?_) (fun _ hq => nomatch hq)
  refine pr_V (as := []) (rest := [.ref h.2.1, .ref h.2.1]) dX7_pieces_5 cv_7_101 hcl rfl rfl rfl rfl (lb rfl) (lb rfl) (lb rfl) (pm_E_up 1 (hfP hq)) ?_
  refine pr_iconst (v := 0) dX7_pieces_8 (kc_0) ?_
  obtain ⟨q2, hq2, hF⟩ := po_b hF
  refine pr_I dX7_pieces_9 ci_7_120 (as := [va_rf q1.1, .int 0]) (rest := [.ref h.2.1]) rfl rfl (pa_c (pv_1 _) (pa_c rfl rfl)) (lb rfl) (lb rfl) (lb rfl) (ok_F_X13_init hq2) ?_
  refine pr_astore_n (L' := [.ref a0, .ref h.2.1, pm_D]) dX7_pieces_12 (Or.inr ⟨_, rfl⟩) rfl ?_
  refine pr_aload_n dX7_pieces_13 rfl ?_
  refine pr_astore_n (L' := [.ref a0, .ref h.2.1, .ref h.2.1]) dX7_pieces_14 (Or.inr ⟨_, rfl⟩) rfl ?_
  obtain ⟨q20, hq20, hF⟩ := po_b hF
  refine ok_L_X7_pieces_15 hfP n hq20 rfl (fun z2 hz2 => ?_)
  refine pr_aload_n dX7_pieces_65 rfl ?_
  cases hF
  exact pr_aret dX7_pieces_66 rfl (Or.inr ⟨_, rfl⟩) rfl

def F_X7_must (h : pm_H) (a0 : Nat) (x1 : Int32) : Option (pm_H) :=
  (if pm_cl_ h a0 = some 6 then F_X7_here h a0 else none).bind fun q1 =>
  if q1 = x1 then
    (pm_fI [(6, 2)] h a0).bind fun v2 =>
    (pm_put [(6, 2, 0)] h a0 (.int (v2 + 1))).bind fun h3 =>
    some h3
  else
    (pm_fI [(6, 2)] h a0).bind fun v4 =>
    (if pm_cl_ h a0 = some 6 then F_X7_bad h a0 1 v4 else none).bind fun q5 =>
    (pm_fI [(6, 2)] q5 a0).bind fun v6 =>
    (pm_put [(6, 2, 0)] q5 a0 (.int (v6 + 1))).bind fun h7 =>
    some h7
theorem ok_F_X7_must {d : Nat} {h : pm_H} {a0 : Nat} {x1 : Int32} {q : pm_H} (hF : F_X7_must h a0 x1 = some q) : pm_E (d + 1) 7 cX7_must (none) 0 [.ref a0, .int x1] [] h (none, q) := by
  unfold F_X7_must at hF
  refine pr_aload_n dX7_must_0 rfl ?_
  obtain ⟨q1, hq1, hF⟩ := po_b hF
  refine po_i hq1 (fun hcl hq => ?_) (fun _ hq => nomatch hq)
  refine pr_V (as := []) (rest := []) dX7_must_1 cv_7_39 hcl rfl rfl rfl rfl (lb rfl) (lb rfl) (lb rfl) (ok_F_X7_here hq) ?_
  refine pr_iload_n dX7_must_4 rfl ?_
  refine po_i hF (fun hc hF => ?_) (fun hc hF => ?_)
  · refine pr_icT (tgt := 17) dX7_must_5 (by decide) (pc_eqT hc) ?_
    refine pr_aload_n dX7_must_17 rfl ?_
    refine pr_dup dX7_must_18 rfl ?_
    obtain ⟨v2, hv2, hF⟩ := po_b hF
    refine pr_getI dX7_must_19 tf_7_26 (hv2) ?_
    refine pr_iconst (v := 1) dX7_must_22 (kc_1) ?_
    refine pr_iadd dX7_must_23 ?_
    obtain ⟨h3, hh3, hF⟩ := po_b hF
    refine pr_put dX7_must_24 tp_7_26 (hh3) ?_
    cases hF
    exact pr_vret dX7_must_27 rfl rfl
  · refine pr_icF (tgt := 17) dX7_must_5 (by decide) (pc_eqF hc) ?_
    refine pr_aload_n dX7_must_8 rfl ?_
    refine pr_iconst (v := 1) dX7_must_9 (kc_1) ?_
    refine pr_aload_n dX7_must_10 rfl ?_
    obtain ⟨v4, hv4, hF⟩ := po_b hF
    refine pr_getI dX7_must_11 tf_7_26 (hv4) ?_
    obtain ⟨q5, hq5, hF⟩ := po_b hF
    refine po_i hq5 (fun hcl hq => ?_) (fun _ hq => nomatch hq)
    refine pr_V (as := [.int 1, .int v4]) (rest := []) dX7_must_14 cv_7_50 hcl rfl rfl rfl rfl (lb rfl) (lb rfl) (lb rfl) (ok_F_X7_bad hq) ?_
    refine pr_aload_n dX7_must_17 rfl ?_
    refine pr_dup dX7_must_18 rfl ?_
    obtain ⟨v6, hv6, hF⟩ := po_b hF
    refine pr_getI dX7_must_19 tf_7_26 (hv6) ?_
    refine pr_iconst (v := 1) dX7_must_22 (kc_1) ?_
    refine pr_iadd dX7_must_23 ?_
    obtain ⟨h7, hh7, hF⟩ := po_b hF
    refine pr_put dX7_must_24 tp_7_26 (hh7) ?_
    cases hF
    exact pr_vret dX7_must_27 rfl rfl

def L_X7_condition_30 (fP : pm_H → Nat → Option ((Option Nat) × pm_H)) : Nat → Nat → (Option Nat) → pm_H → Option (pm_H)
  | 0, _, _, _ => none
  | n + 1, x0, x2, h =>
    (if pm_cl_ h x0 = some 6 then F_X7_isGood h x0 else none).bind fun q6 =>
    if q6 = 0 then
      some h
    else
      (if pm_cl_ h x0 = some 6 then F_X7_here h x0 else none).bind fun q7 =>
      if q7 = 124 then
        (pm_fI [(6, 2)] h x0).bind fun v8 =>
        (pm_put [(6, 2, 0)] h x0 (.int (v8 + 1))).bind fun h9 =>
        (if pm_cl_ (pm_nw h9 10) x0 = some 6 then F_X7_pieces fP n (pm_nw h9 10) x0 else none).bind fun q10 =>
        (F_X13_init q10.2 h9.2.1 q10.1 1).bind fun q11 =>
        (x2).bind fun r12 =>
        (pm_put [(10, 2, 2)] q11 r12 (.ref h9.2.1)).bind fun h13 =>
        (pm_fV [(10, 2)] h13 r12).bind fun v14 =>
        L_X7_condition_30 fP n x0 v14 h13
      else
        some h
theorem ok_L_X7_condition_30 {d : Nat} {fP : pm_H → Nat → Option ((Option Nat) × pm_H)} (hfP : ∀ {h : pm_H} {a : Nat} {q : (Option Nat) × pm_H}, fP h a = some q → pm_E d 7 cX7_piece (some (.object "AnyKeyTown$Condition")) 0 (pm_en [.ref a] 4) [] h (some (va_rf q.1), q.2)) : ∀ (n : Nat) {x0 : Nat} {x2 : Option Nat} {w1 : Value} {h : pm_H} {q : pm_H} {res : Option Value × pm_H}, L_X7_condition_30 fP n x0 x2 h = some q → pm_nolong w1 = true → (∀ z2 : Value, pm_nolong z2 = true → pm_E (d + 3) 7 cX7_condition (some (.object "AnyKeyTown$Condition")) 80 [.ref x0, w1, z2] [] q res) → pm_E (d + 3) 7 cX7_condition (some (.object "AnyKeyTown$Condition")) 30 [.ref x0, w1, va_rf x2] [] h res := by
  intro n
  induction n with
  | zero =>
    intro x0 x2 w1 h q res hF hw1 hk
    rw [L_X7_condition_30] at hF
    cases hF
  | succ n ih =>
    intro x0 x2 w1 h q res hF hw1 hk
    rw [L_X7_condition_30] at hF
    refine pr_aload_n dX7_condition_30 rfl ?_
    obtain ⟨q6, hq6, hF⟩ := po_b hF
    refine po_i hq6 (fun hcl hq => ?_) (fun _ hq => nomatch hq)
    refine pr_V (as := []) (rest := []) dX7_condition_31 cv_7_43 hcl rfl rfl rfl rfl (lb rfl) (lb rfl) (lb rfl) (ok_F_X7_isGood hq) ?_
    refine po_i hF (fun hc hF => ?_) (fun hc hF => ?_)
    · refine pr_ifT (tgt := 80) dX7_condition_34 (by decide) (pc_eqT hc) ?_
      cases hF
      exact hk _ (pv_nl _)
    · refine pr_ifF (tgt := 80) dX7_condition_34 (by decide) (pc_eqF hc) ?_
      refine pr_aload_n dX7_condition_37 rfl ?_
      obtain ⟨q7, hq7, hF⟩ := po_b hF
      refine po_i hq7 (fun hcl hq => ?_) (fun _ hq => nomatch hq)
      refine pr_V (as := []) (rest := []) dX7_condition_38 cv_7_39 hcl rfl rfl rfl rfl (lb rfl) (lb rfl) (lb rfl) (ok_F_X7_here hq) ?_
      refine pr_bipush (v := 124) dX7_condition_41 (kb_124) ?_
      refine po_i hF (fun hc hF => ?_) (fun hc hF => ?_)
      · refine pr_icF (tgt := 80) dX7_condition_43 (by decide) (pc_neF hc) ?_
        refine pr_aload_n dX7_condition_46 rfl ?_
        refine pr_dup dX7_condition_47 rfl ?_
        obtain ⟨v8, hv8, hF⟩ := po_b hF
        refine pr_getI dX7_condition_48 tf_7_26 (hv8) ?_
        refine pr_iconst (v := 1) dX7_condition_51 (kc_1) ?_
        refine pr_iadd dX7_condition_52 ?_
        obtain ⟨h9, hh9, hF⟩ := po_b hF
        refine pr_put dX7_condition_53 tp_7_26 (hh9) ?_
        refine pr_aload_n (x := va_rf x2) dX7_condition_56 (pv_la rfl) ?_
        refine pr_new (c := 10) dX7_condition_57 rfl ?_
        refine pr_dup dX7_condition_60 rfl ?_
        refine pr_aload_n dX7_condition_61 rfl ?_
        obtain ⟨q10, hq10, hF⟩ := po_b hF
        refine po_i hq10 (fun hcl hq => ?_) (fun _ hq => nomatch hq)
        refine pr_V (as := []) (rest := [.ref h9.2.1, .ref h9.2.1, va_rf x2]) dX7_condition_62 cv_7_126 hcl rfl rfl rfl rfl (lb rfl) (Nat.le_trans (ps_c (lb rfl) (ps_c (lb rfl) (ps_c (Nat.le_of_eq (pv_c _)) ps_0))) (lb rfl)) (lb rfl) (ok_F_X7_pieces (fun e => pm_E_up 0 (hfP e)) hq) ?_
        refine pr_iconst (v := 1) dX7_condition_65 (kc_1) ?_
        obtain ⟨q11, hq11, hF⟩ := po_b hF
        refine pr_I dX7_condition_66 ci_7_120 (as := [va_rf q10.1, .int 1]) (rest := [.ref h9.2.1, va_rf x2]) rfl rfl (pa_c (pv_1 _) (pa_c rfl rfl)) (lb rfl) (Nat.le_trans (ps_c (lb rfl) (ps_c (Nat.le_of_eq (pv_c _)) ps_0)) (lb rfl)) (lb rfl) (ok_F_X13_init hq11) ?_
        obtain ⟨r12, hr12, hF⟩ := po_b hF
        rw [pv_s hr12]
        obtain ⟨h13, hh13, hF⟩ := po_b hF
        refine pr_put dX7_condition_69 tp_7_123 (hh13) ?_
        refine pr_aload_n dX7_condition_72 rfl ?_
        obtain ⟨v14, hv14, hF⟩ := po_b hF
        refine pr_getV dX7_condition_73 tf_7_123 (pm_fV_v hv14) ?_
        refine pr_astore_n (L' := [.ref x0, w1, va_rf v14]) dX7_condition_76 (pv_f _) (pm_st_w (i := 1) rfl rfl hw1 rfl) ?_
        refine pr_goto (tgt := 30) dX7_condition_77 (by decide) ?_
        exact ih hF hw1 hk
      · refine pr_icT (tgt := 80) dX7_condition_43 (by decide) (pc_neT hc) ?_
        cases hF
        exact hk _ (pv_nl _)
def F_X7_condition (fP : pm_H → Nat → Option ((Option Nat) × pm_H)) (n : Nat) (h : pm_H) (a0 : Nat) : Option ((Option Nat) × pm_H) :=
  (if pm_cl_ h a0 = some 6 then F_X7_opens h a0 else none).bind fun q1 =>
  (if pm_cl_ q1 a0 = some 6 then F_X7_isGood q1 a0 else none).bind fun q2 =>
  ((
    if q2 = 0 then
      some (none, q1)
    else
      (if pm_cl_ (pm_nw q1 10) a0 = some 6 then F_X7_pieces fP n (pm_nw q1 10) a0 else none).bind fun q3 =>
      (F_X13_init q3.2 q1.2.1 q3.1 1).bind fun q4 =>
      some ((some q1.2.1), q4)
  ) : Option ((Option Nat) × pm_H)).bind fun q5 =>
  (L_X7_condition_30 fP n a0 q5.1 q5.2).bind fun q15 =>
  (if pm_cl_ q15 a0 = some 6 then F_X7_isGood q15 a0 else none).bind fun q16 =>
  if q16 = 0 then
    (pm_fI [(6, 3)] q15 a0).bind fun v17 =>
    (pm_put [(6, 3, 0)] q15 a0 (.int (v17 - 1))).bind fun h18 =>
    some (q5.1, h18)
  else
    (if pm_cl_ q15 a0 = some 6 then F_X7_must q15 a0 41 else none).bind fun q19 =>
    (pm_fI [(6, 3)] q19 a0).bind fun v20 =>
    (pm_put [(6, 3, 0)] q19 a0 (.int (v20 - 1))).bind fun h21 =>
    some (q5.1, h21)
theorem ok_F_X7_condition {d n : Nat} {h : pm_H} {a0 : Nat} {q : (Option Nat) × pm_H} {fP : pm_H → Nat → Option ((Option Nat) × pm_H)} (hfP : ∀ {h : pm_H} {a : Nat} {q : (Option Nat) × pm_H}, fP h a = some q → pm_E d 7 cX7_piece (some (.object "AnyKeyTown$Condition")) 0 (pm_en [.ref a] 4) [] h (some (va_rf q.1), q.2)) (hF : F_X7_condition fP n h a0 = some q) : pm_E (d + 3) 7 cX7_condition (some (.object "AnyKeyTown$Condition")) 0 [.ref a0, pm_D, pm_D] [] h (some (va_rf q.1), q.2) := by
  unfold F_X7_condition at hF
  refine pr_aload_n dX7_condition_0 rfl ?_
  obtain ⟨q1, hq1, hF⟩ := po_b hF
  refine po_i hq1 (fun hcl hq => ?_) (fun _ hq => nomatch hq)
  refine pr_V (as := []) (rest := []) dX7_condition_1 cv_7_57 hcl rfl rfl rfl rfl (lb rfl) (lb rfl) (lb rfl) (ok_F_X7_opens hq) ?_
  refine pr_aload_n dX7_condition_4 rfl ?_
  obtain ⟨q2, hq2, hF⟩ := po_b hF
  refine po_i hq2 (fun hcl hq => ?_) (fun _ hq => nomatch hq)
  refine pr_V (as := []) (rest := []) dX7_condition_5 cv_7_43 hcl rfl rfl rfl rfl (lb rfl) (lb rfl) (lb rfl) (ok_F_X7_isGood hq) ?_
  obtain ⟨q5, hq5, hF⟩ := po_b hF
  have J27 : pm_E (d + 3) 7 cX7_condition (some (.object "AnyKeyTown$Condition")) 27 [.ref a0, pm_D, pm_D] [va_rf q5.1] q5.2 (some (va_rf q.1), q.2) := by
    refine pr_astore_n (L' := [.ref a0, va_rf q5.1, pm_D]) dX7_condition_27 (pv_f _) rfl ?_
    refine pr_aload_n (x := va_rf q5.1) dX7_condition_28 (pv_la rfl) ?_
    refine pr_astore_n (L' := [.ref a0, va_rf q5.1, va_rf q5.1]) dX7_condition_29 (pv_f _) (pm_st_w (i := 1) rfl rfl (pv_nl _) rfl) ?_
    obtain ⟨q15, hq15, hF⟩ := po_b hF
    refine ok_L_X7_condition_30 hfP n hq15 (pv_nl _) (fun z2 hz2 => ?_)
    refine pr_aload_n dX7_condition_80 rfl ?_
    obtain ⟨q16, hq16, hF⟩ := po_b hF
    refine po_i hq16 (fun hcl hq => ?_) (fun _ hq => nomatch hq)
    refine pr_V (as := []) (rest := []) dX7_condition_81 cv_7_43 hcl rfl rfl rfl rfl (lb rfl) (lb rfl) (lb rfl) (ok_F_X7_isGood hq) ?_
    refine po_i hF (fun hc hF => ?_) (fun hc hF => ?_)
    · refine pr_ifT (tgt := 93) dX7_condition_84 (by decide) (pc_eqT hc) ?_
      refine pr_aload_n dX7_condition_93 rfl ?_
      refine pr_dup dX7_condition_94 rfl ?_
      obtain ⟨v17, hv17, hF⟩ := po_b hF
      refine pr_getI dX7_condition_95 tf_7_54 (hv17) ?_
      refine pr_iconst (v := 1) dX7_condition_98 (kc_1) ?_
      refine pr_isub dX7_condition_99 ?_
      obtain ⟨h18, hh18, hF⟩ := po_b hF
      refine pr_put dX7_condition_100 tp_7_54 (hh18) ?_
      refine pr_aload_n (x := va_rf q5.1) dX7_condition_103 (pv_la rfl) ?_
      cases hF
      exact pr_aret dX7_condition_104 rfl (pv_f _) rfl
    · refine pr_ifF (tgt := 93) dX7_condition_84 (by decide) (pc_eqF hc) ?_
      refine pr_aload_n dX7_condition_87 rfl ?_
      refine pr_bipush (v := 41) dX7_condition_88 (kb_41) ?_
      obtain ⟨q19, hq19, hF⟩ := po_b hF
      refine po_i hq19 (fun hcl hq => ?_) (fun _ hq => nomatch hq)
      refine pr_V (as := [.int 41]) (rest := []) dX7_condition_90 cv_7_64 hcl rfl rfl rfl rfl (lb rfl) (lb rfl) (lb rfl) (ok_F_X7_must hq) ?_
      refine pr_aload_n dX7_condition_93 rfl ?_
      refine pr_dup dX7_condition_94 rfl ?_
      obtain ⟨v20, hv20, hF⟩ := po_b hF
      refine pr_getI dX7_condition_95 tf_7_54 (hv20) ?_
      refine pr_iconst (v := 1) dX7_condition_98 (kc_1) ?_
      refine pr_isub dX7_condition_99 ?_
      obtain ⟨h21, hh21, hF⟩ := po_b hF
      refine pr_put dX7_condition_100 tp_7_54 (hh21) ?_
      refine pr_aload_n (x := va_rf q5.1) dX7_condition_103 (pv_la rfl) ?_
      cases hF
      exact pr_aret dX7_condition_104 rfl (pv_f _) rfl
  clear hF
  have hF := hq5
  refine po_i hF (fun hc hF => ?_) (fun hc hF => ?_)
  · refine pr_ifT (tgt := 26) dX7_condition_8 (by decide) (pc_eqT hc) ?_
    refine pr_null dX7_condition_26 ?_
    cases hF
    exact J27
  · refine pr_ifF (tgt := 26) dX7_condition_8 (by decide) (pc_eqF hc) ?_
    refine pr_new (c := 10) dX7_condition_11 rfl ?_
    refine pr_dup dX7_condition_14 rfl ?_
    refine pr_aload_n dX7_condition_15 rfl ?_
    obtain ⟨q3, hq3, hF⟩ := po_b hF
    refine po_i hq3 (fun hcl hq => ?_) (fun _ hq => nomatch hq)
    refine pr_V (as := []) (rest := [.ref q1.2.1, .ref q1.2.1]) dX7_condition_16 cv_7_126 hcl rfl rfl rfl rfl (lb rfl) (lb rfl) (lb rfl) (ok_F_X7_pieces (fun e => pm_E_up 0 (hfP e)) hq) ?_
    refine pr_iconst (v := 1) dX7_condition_19 (kc_1) ?_
    obtain ⟨q4, hq4, hF⟩ := po_b hF
    refine pr_I dX7_condition_20 ci_7_120 (as := [va_rf q3.1, .int 1]) (rest := [.ref q1.2.1]) rfl rfl (pa_c (pv_1 _) (pa_c rfl rfl)) (lb rfl) (lb rfl) (lb rfl) (ok_F_X13_init hq4) ?_
    refine pr_goto (tgt := 27) dX7_condition_23 (by decide) ?_
    cases hF
    exact J27

def F_X7_seesDigit (h : pm_H) (a0 : Nat) : Option (Int32) :=
  (if pm_cl_ h a0 = some 6 then F_X7_here h a0 else none).bind fun q1 =>
  if q1 < 48 then
    some 0
  else
    (if pm_cl_ h a0 = some 6 then F_X7_here h a0 else none).bind fun q2 =>
    if 57 < q2 then
      some 0
    else
      some 1
theorem ok_F_X7_seesDigit {d : Nat} {h : pm_H} {a0 : Nat} {q : Int32} (hF : F_X7_seesDigit h a0 = some q) : pm_E (d + 1) 7 cX7_seesDigit (some .boolean) 0 [.ref a0] [] h (some (.int q), h) := by
  unfold F_X7_seesDigit at hF
  refine pr_aload_n dX7_seesDigit_0 rfl ?_
  obtain ⟨q1, hq1, hF⟩ := po_b hF
  refine po_i hq1 (fun hcl hq => ?_) (fun _ hq => nomatch hq)
  refine pr_V (as := []) (rest := []) dX7_seesDigit_1 cv_7_39 hcl rfl rfl rfl rfl (lb rfl) (lb rfl) (lb rfl) (ok_F_X7_here hq) ?_
  refine pr_bipush (v := 48) dX7_seesDigit_4 (kb_48) ?_
  refine po_i hF (fun hc hF => ?_) (fun hc hF => ?_)
  · refine pr_icT (tgt := 22) dX7_seesDigit_6 (by decide) (pc_ltT hc) ?_
    refine pr_iconst (v := 0) dX7_seesDigit_22 (kc_0) ?_
    cases hF
    exact pr_iret dX7_seesDigit_23 rfl nb_0 rfl
  · refine pr_icF (tgt := 22) dX7_seesDigit_6 (by decide) (pc_ltF hc) ?_
    refine pr_aload_n dX7_seesDigit_9 rfl ?_
    obtain ⟨q2, hq2, hF⟩ := po_b hF
    refine po_i hq2 (fun hcl hq => ?_) (fun _ hq => nomatch hq)
    refine pr_V (as := []) (rest := []) dX7_seesDigit_10 cv_7_39 hcl rfl rfl rfl rfl (lb rfl) (lb rfl) (lb rfl) (ok_F_X7_here hq) ?_
    refine pr_bipush (v := 57) dX7_seesDigit_13 (kb_57) ?_
    refine po_i hF (fun hc hF => ?_) (fun hc hF => ?_)
    · refine pr_icT (tgt := 22) dX7_seesDigit_15 (by decide) (pc_gtT hc) ?_
      refine pr_iconst (v := 0) dX7_seesDigit_22 (kc_0) ?_
      cases hF
      exact pr_iret dX7_seesDigit_23 rfl nb_0 rfl
    · refine pr_icF (tgt := 22) dX7_seesDigit_15 (by decide) (pc_gtF hc) ?_
      refine pr_iconst (v := 1) dX7_seesDigit_18 (kc_1) ?_
      refine pr_goto (tgt := 23) dX7_seesDigit_19 (by decide) ?_
      cases hF
      exact pr_iret dX7_seesDigit_23 rfl nb_1 rfl

def L_X7_number_7 : Nat → Nat → Int32 → Int32 → pm_H → Option (Int32 × pm_H)
  | 0, _, _, _, _ => none
  | n + 1, x0, x1, x2, h =>
    (if pm_cl_ h x0 = some 6 then F_X7_isGood h x0 else none).bind fun q2 =>
    if q2 = 0 then
      some (x2, h)
    else
      (if pm_cl_ h x0 = some 6 then F_X7_seesDigit h x0 else none).bind fun q3 =>
      if q3 = 0 then
        some (x2, h)
      else
        (pm_fI [(6, 2)] h x0).bind fun v4 =>
        ((
          if v4 = (x1 + 5) then
            (pm_fI [(6, 2)] h x0).bind fun v5 =>
            (if pm_cl_ h x0 = some 6 then F_X7_bad h x0 2 v5 else none).bind fun q6 =>
            some q6
          else
            some h
        ) : Option (pm_H)).bind fun q7 =>
        (if pm_cl_ q7 x0 = some 6 then F_X7_here q7 x0 else none).bind fun q8 =>
        (pm_fI [(6, 2)] q7 x0).bind fun v9 =>
        (pm_put [(6, 2, 0)] q7 x0 (.int (v9 + 1))).bind fun h10 =>
        L_X7_number_7 n x0 x1 (((10 * x2) + q8) - 48) h10
theorem ok_L_X7_number_7 {d : Nat} : ∀ (n : Nat) {x0 : Nat} {x1 : Int32} {x2 : Int32} {h : pm_H} {q : Int32 × pm_H} {res : Option Value × pm_H}, L_X7_number_7 n x0 x1 x2 h = some q → (pm_E (d + 2) 7 cX7_number (some .int) 66 [.ref x0, .int x1, .int q.1] [] q.2 res) → pm_E (d + 2) 7 cX7_number (some .int) 7 [.ref x0, .int x1, .int x2] [] h res := by
  intro n
  induction n with
  | zero =>
    intro x0 x1 x2 h q res hF hk
    rw [L_X7_number_7] at hF
    cases hF
  | succ n ih =>
    intro x0 x1 x2 h q res hF hk
    rw [L_X7_number_7] at hF
    refine pr_aload_n dX7_number_7 rfl ?_
    obtain ⟨q2, hq2, hF⟩ := po_b hF
    refine po_i hq2 (fun hcl hq => ?_) (fun _ hq => nomatch hq)
    refine pr_V (as := []) (rest := []) dX7_number_8 cv_7_43 hcl rfl rfl rfl rfl (lb rfl) (lb rfl) (lb rfl) (ok_F_X7_isGood hq) ?_
    refine po_i hF (fun hc hF => ?_) (fun hc hF => ?_)
    · refine pr_ifT (tgt := 66) dX7_number_11 (by decide) (pc_eqT hc) ?_
      cases hF
      exact hk
    · refine pr_ifF (tgt := 66) dX7_number_11 (by decide) (pc_eqF hc) ?_
      refine pr_aload_n dX7_number_14 rfl ?_
      obtain ⟨q3, hq3, hF⟩ := po_b hF
      refine po_i hq3 (fun hcl hq => ?_) (fun _ hq => nomatch hq)
      refine pr_V (as := []) (rest := []) dX7_number_15 cv_7_47 hcl rfl rfl rfl rfl (lb rfl) (lb rfl) (lb rfl) (ok_F_X7_seesDigit hq) ?_
      refine po_i hF (fun hc hF => ?_) (fun hc hF => ?_)
      · refine pr_ifT (tgt := 66) dX7_number_18 (by decide) (pc_eqT hc) ?_
        cases hF
        exact hk
      · refine pr_ifF (tgt := 66) dX7_number_18 (by decide) (pc_eqF hc) ?_
        refine pr_aload_n dX7_number_21 rfl ?_
        obtain ⟨v4, hv4, hF⟩ := po_b hF
        refine pr_getI dX7_number_22 tf_7_26 (hv4) ?_
        refine pr_iload_n dX7_number_25 rfl ?_
        refine pr_iconst (v := 5) dX7_number_26 (kc_5) ?_
        refine pr_iadd dX7_number_27 ?_
        obtain ⟨q7, hq7, hF⟩ := po_b hF
        have J40 : pm_E (d + 2) 7 cX7_number (some .int) 40 [.ref x0, .int x1, .int x2] [] q7 res := by
          refine pr_bipush (v := 10) dX7_number_40 (kb_10) ?_
          refine pr_iload_n dX7_number_42 rfl ?_
          refine pr_imul dX7_number_43 ?_
          refine pr_aload_n dX7_number_44 rfl ?_
          obtain ⟨q8, hq8, hF⟩ := po_b hF
          refine po_i hq8 (fun hcl hq => ?_) (fun _ hq => nomatch hq)
          refine pr_V (as := []) (rest := [.int (10 * x2)]) dX7_number_45 cv_7_39 hcl rfl rfl rfl rfl (lb rfl) (lb rfl) (lb rfl) (ok_F_X7_here hq) ?_
          refine pr_iadd dX7_number_48 ?_
          refine pr_bipush (v := 48) dX7_number_49 (kb_48) ?_
          refine pr_isub dX7_number_51 ?_
          refine pr_istore_n (L' := [.ref x0, .int x1, .int (((10 * x2) + q8) - 48)]) dX7_number_52 rfl ?_
          refine pr_aload_n dX7_number_53 rfl ?_
          refine pr_dup dX7_number_54 rfl ?_
          obtain ⟨v9, hv9, hF⟩ := po_b hF
          refine pr_getI dX7_number_55 tf_7_26 (hv9) ?_
          refine pr_iconst (v := 1) dX7_number_58 (kc_1) ?_
          refine pr_iadd dX7_number_59 ?_
          obtain ⟨h10, hh10, hF⟩ := po_b hF
          refine pr_put dX7_number_60 tp_7_26 (hh10) ?_
          refine pr_goto (tgt := 7) dX7_number_63 (by decide) ?_
          exact ih hF hk
        clear hF
        have hF := hq7
        refine po_i hF (fun hc hF => ?_) (fun hc hF => ?_)
        · refine pr_icF (tgt := 40) dX7_number_28 (by decide) (pc_neF hc) ?_
          refine pr_aload_n dX7_number_31 rfl ?_
          refine pr_iconst (v := 2) dX7_number_32 (kc_2) ?_
          refine pr_aload_n dX7_number_33 rfl ?_
          obtain ⟨v5, hv5, hF⟩ := po_b hF
          refine pr_getI dX7_number_34 tf_7_26 (hv5) ?_
          obtain ⟨q6, hq6, hF⟩ := po_b hF
          refine po_i hq6 (fun hcl hq => ?_) (fun _ hq => nomatch hq)
          refine pr_V (as := [.int 2, .int v5]) (rest := []) dX7_number_37 cv_7_50 hcl rfl rfl rfl rfl (lb rfl) (lb rfl) (lb rfl) (ok_F_X7_bad hq) ?_
          cases hF
          exact J40
        · refine pr_icT (tgt := 40) dX7_number_28 (by decide) (pc_neT hc) ?_
          cases hF
          exact J40
def F_X7_number (n : Nat) (h : pm_H) (a0 : Nat) : Option (Int32 × pm_H) :=
  (pm_fI [(6, 2)] h a0).bind fun v1 =>
  (L_X7_number_7 n a0 v1 0 h).bind fun q11 =>
  some (q11.1, q11.2)
theorem ok_F_X7_number {d n : Nat} {h : pm_H} {a0 : Nat} {q : Int32 × pm_H} (hF : F_X7_number n h a0 = some q) : pm_E (d + 2) 7 cX7_number (some .int) 0 [.ref a0, pm_D, pm_D] [] h (some (.int q.1), q.2) := by
  unfold F_X7_number at hF
  refine pr_aload_n dX7_number_0 rfl ?_
  obtain ⟨v1, hv1, hF⟩ := po_b hF
  refine pr_getI dX7_number_1 tf_7_26 (hv1) ?_
  refine pr_istore_n (L' := [.ref a0, .int v1, pm_D]) dX7_number_4 rfl ?_
  refine pr_iconst (v := 0) dX7_number_5 (kc_0) ?_
  refine pr_istore_n (L' := [.ref a0, .int v1, .int 0]) dX7_number_6 rfl ?_
  obtain ⟨q11, hq11, hF⟩ := po_b hF
  refine ok_L_X7_number_7 n hq11 ?_
  refine pr_iload_n dX7_number_66 rfl ?_
  cases hF
  exact pr_iret dX7_number_67 rfl rfl rfl

def F_X8_init (a0 : Nat) : Option (Unit) :=
  some ()
theorem ok_F_X8_init {d : Nat} {h : pm_H} {a0 : Nat} {q : Unit} (hF : F_X8_init a0 = some q) : pm_E (d + 0) 58 cX8_init (none) 0 [.ref a0] [] h (none, h) := by
  unfold F_X8_init at hF
  refine pr_aload_n dX8_init_0 rfl ?_
  refine pr_objI dX8_init_1 rfl rfl (lb rfl) ?_
  cases hF
  exact pr_vret dX8_init_4 rfl rfl

def F_X10_init (h : pm_H) (a0 : Nat) (x1 : Int32) : Option (pm_H) :=
  (F_X8_init a0).bind fun q1 =>
  (pm_put [(8, 0, 0)] h a0 (.int x1)).bind fun h2 =>
  some h2
theorem ok_F_X10_init {d : Nat} {h : pm_H} {a0 : Nat} {x1 : Int32} {q : pm_H} (hF : F_X10_init h a0 x1 = some q) : pm_E (d + 1) 60 cX10_init (none) 0 [.ref a0, .int x1] [] h (none, q) := by
  unfold F_X10_init at hF
  refine pr_aload_n dX10_init_0 rfl ?_
  obtain ⟨q1, hq1, hF⟩ := po_b hF
  refine pr_I dX10_init_1 ci_60_1 (as := []) (rest := []) rfl rfl rfl (lb rfl) (lb rfl) (lb rfl) (ok_F_X8_init hq1) ?_
  refine pr_aload_n dX10_init_4 rfl ?_
  refine pr_iload_n dX10_init_5 rfl ?_
  obtain ⟨h2, hh2, hF⟩ := po_b hF
  refine pr_put dX10_init_6 tp_60_7 (hh2) ?_
  cases hF
  exact pr_vret dX10_init_9 rfl rfl

def F_J0_isLatin1 (h : pm_H) (a0 : Nat) : Option (Int32) :=
  if (1 : Int32) = 0 then
    some 0
  else
    (pm_fI [(30, 1)] h a0).bind fun v1 =>
    if v1 = 0 then
      some 1
    else
      some 0
theorem ok_F_J0_isLatin1 {d : Nat} {h : pm_H} {a0 : Nat} {q : Int32} (hF : F_J0_isLatin1 h a0 = some q) : pm_E (d + 0) 20 cJ0_isLatin1 (some .boolean) 0 [.ref a0] [] h (some (.int q), h) := by
  unfold F_J0_isLatin1 at hF
  refine pr_gets (v := 1) dJ0_isLatin1_0 rfl ?_
  refine po_i hF (fun hc hF => ?_) (fun hc hF => ?_)
  · refine pr_ifT (tgt := 17) dJ0_isLatin1_3 (by decide) (pc_eqT hc) ?_
    refine pr_iconst (v := 0) dJ0_isLatin1_17 (kc_0) ?_
    cases hF
    exact pr_iret dJ0_isLatin1_18 rfl nb_0 rfl
  · refine pr_ifF (tgt := 17) dJ0_isLatin1_3 (by decide) (pc_eqF hc) ?_
    refine pr_aload_n dJ0_isLatin1_6 rfl ?_
    obtain ⟨v1, hv1, hF⟩ := po_b hF
    refine pr_getI dJ0_isLatin1_7 tf_20_15 (hv1) ?_
    refine po_i hF (fun hc hF => ?_) (fun hc hF => ?_)
    · refine pr_ifF (tgt := 17) dJ0_isLatin1_10 (by decide) (pc_neF hc) ?_
      refine pr_iconst (v := 1) dJ0_isLatin1_13 (kc_1) ?_
      refine pr_goto (tgt := 18) dJ0_isLatin1_14 (by decide) ?_
      cases hF
      exact pr_iret dJ0_isLatin1_18 rfl nb_1 rfl
    · refine pr_ifT (tgt := 17) dJ0_isLatin1_10 (by decide) (pc_neT hc) ?_
      refine pr_iconst (v := 0) dJ0_isLatin1_17 (kc_0) ?_
      cases hF
      exact pr_iret dJ0_isLatin1_18 rfl nb_0 rfl

def F_J0_coder (h : pm_H) (a0 : Nat) : Option (Int32) :=
  if (1 : Int32) = 0 then
    if narrow .byte (.int 1) = .int 1 then
      some 1
    else none
  else
    (pm_fI [(30, 1)] h a0).bind fun v1 =>
    if narrow .byte (.int v1) = .int v1 then
      some v1
    else none
theorem ok_F_J0_coder {d : Nat} {h : pm_H} {a0 : Nat} {q : Int32} (hF : F_J0_coder h a0 = some q) : pm_E (d + 0) 20 cJ0_coder (some .byte) 0 [.ref a0] [] h (some (.int q), h) := by
  unfold F_J0_coder at hF
  refine pr_gets (v := 1) dJ0_coder_0 rfl ?_
  refine po_i hF (fun hc hF => ?_) (fun hc hF => ?_)
  · refine pr_ifT (tgt := 13) dJ0_coder_3 (by decide) (pc_eqT hc) ?_
    refine pr_iconst (v := 1) dJ0_coder_13 (kc_1) ?_
    refine po_i hF (fun hg hF => ?_) (fun _ hF => nomatch hF)
    cases hF
    exact pr_iret dJ0_coder_14 rfl hg rfl
  · refine pr_ifF (tgt := 13) dJ0_coder_3 (by decide) (pc_eqF hc) ?_
    refine pr_aload_n dJ0_coder_6 rfl ?_
    obtain ⟨v1, hv1, hF⟩ := po_b hF
    refine pr_getI dJ0_coder_7 tf_20_15 (hv1) ?_
    refine pr_goto (tgt := 14) dJ0_coder_10 (by decide) ?_
    refine po_i hF (fun hg hF => ?_) (fun _ hF => nomatch hF)
    cases hF
    exact pr_iret dJ0_coder_14 rfl hg rfl

def F_J0_length (h : pm_H) (a0 : Nat) : Option (Int32) :=
  (pm_fR [(30, 0)] h a0).bind fun v1 =>
  (pm_len h v1).bind fun v2 =>
  (if pm_cl_ h a0 = some 30 then F_J0_coder h a0 else none).bind fun q3 =>
  some (pm_shr v2 q3)
theorem ok_F_J0_length {d : Nat} {h : pm_H} {a0 : Nat} {q : Int32} (hF : F_J0_length h a0 = some q) : pm_E (d + 1) 20 cJ0_length (some .int) 0 [.ref a0] [] h (some (.int q), h) := by
  unfold F_J0_length at hF
  refine pr_aload_n dJ0_length_0 rfl ?_
  obtain ⟨v1, hv1, hF⟩ := po_b hF
  refine pr_getR dJ0_length_1 tf_20_9 (hv1) ?_
  obtain ⟨v2, hv2, hF⟩ := po_b hF
  refine pr_alen dJ0_length_4 (hv2) ?_
  refine pr_aload_n dJ0_length_5 rfl ?_
  obtain ⟨q3, hq3, hF⟩ := po_b hF
  refine po_i hq3 (fun hcl hq => ?_) (fun _ hq => nomatch hq)
  refine pr_V (as := []) (rest := [.int v2]) dJ0_length_6 cv_20_335 hcl rfl rfl rfl rfl (lb rfl) (lb rfl) (lb rfl) (ok_F_J0_coder hq) ?_
  refine pr_ishr dJ0_length_9 ?_
  cases hF
  exact pr_iret dJ0_length_10 rfl rfl rfl

def F_J1_canEncode (x0 : Int32) : Option (Int32) :=
  if x0 < 0 then
    some 0
  else
  if 255 < x0 then
    some 0
  else
    some 1
theorem ok_F_J1_canEncode {d : Nat} {h : pm_H} {x0 : Int32} {q : Int32} (hF : F_J1_canEncode x0 = some q) : pm_E (d + 0) 21 cJ1_canEncode (some .boolean) 0 [.int x0] [] h (some (.int q), h) := by
  unfold F_J1_canEncode at hF
  refine pr_iload_n dJ1_canEncode_0 rfl ?_
  refine po_i hF (fun hc hF => ?_) (fun hc hF => ?_)
  · refine pr_ifT (tgt := 15) dJ1_canEncode_1 (by decide) (pc_ltT hc) ?_
    refine pr_iconst (v := 0) dJ1_canEncode_15 (kc_0) ?_
    cases hF
    exact pr_iret dJ1_canEncode_16 rfl nb_0 rfl
  · refine pr_ifF (tgt := 15) dJ1_canEncode_1 (by decide) (pc_ltF hc) ?_
    refine pr_iload_n dJ1_canEncode_4 rfl ?_
    refine pr_sipush (v := 255) dJ1_canEncode_5 (ks_255) ?_
    refine po_i hF (fun hc hF => ?_) (fun hc hF => ?_)
    · refine pr_icT (tgt := 15) dJ1_canEncode_8 (by decide) (pc_gtT hc) ?_
      refine pr_iconst (v := 0) dJ1_canEncode_15 (kc_0) ?_
      cases hF
      exact pr_iret dJ1_canEncode_16 rfl nb_0 rfl
    · refine pr_icF (tgt := 15) dJ1_canEncode_8 (by decide) (pc_gtF hc) ?_
      refine pr_iconst (v := 1) dJ1_canEncode_11 (kc_1) ?_
      refine pr_goto (tgt := 16) dJ1_canEncode_12 (by decide) ?_
      cases hF
      exact pr_iret dJ1_canEncode_16 rfl nb_1 rfl

def F_J2_max (x0 : Int32) (x1 : Int32) : Option (Int32) :=
  if x0 < x1 then
    some x1
  else
    some x0
theorem ok_F_J2_max {d : Nat} {h : pm_H} {x0 : Int32} {x1 : Int32} {q : Int32} (hF : F_J2_max x0 x1 = some q) : pm_E (d + 0) 22 cJ2_max (some .int) 0 [.int x0, .int x1] [] h (some (.int q), h) := by
  unfold F_J2_max at hF
  refine pr_iload_n dJ2_max_0 rfl ?_
  refine pr_iload_n dJ2_max_1 rfl ?_
  refine po_i hF (fun hc hF => ?_) (fun hc hF => ?_)
  · refine pr_icT (tgt := 9) dJ2_max_2 (by decide) (pc_ltT hc) ?_
    refine pr_iload_n dJ2_max_9 rfl ?_
    cases hF
    exact pr_iret dJ2_max_10 rfl rfl rfl
  · refine pr_icF (tgt := 9) dJ2_max_2 (by decide) (pc_ltF hc) ?_
    refine pr_iload_n dJ2_max_5 rfl ?_
    refine pr_goto (tgt := 10) dJ2_max_6 (by decide) ?_
    cases hF
    exact pr_iret dJ2_max_10 rfl rfl rfl

def F_J2_min (x0 : Int32) (x1 : Int32) : Option (Int32) :=
  if x1 < x0 then
    some x1
  else
    some x0
theorem ok_F_J2_min {d : Nat} {h : pm_H} {x0 : Int32} {x1 : Int32} {q : Int32} (hF : F_J2_min x0 x1 = some q) : pm_E (d + 0) 22 cJ2_min (some .int) 0 [.int x0, .int x1] [] h (some (.int q), h) := by
  unfold F_J2_min at hF
  refine pr_iload_n dJ2_min_0 rfl ?_
  refine pr_iload_n dJ2_min_1 rfl ?_
  refine po_i hF (fun hc hF => ?_) (fun hc hF => ?_)
  · refine pr_icT (tgt := 9) dJ2_min_2 (by decide) (pc_gtT hc) ?_
    refine pr_iload_n dJ2_min_9 rfl ?_
    cases hF
    exact pr_iret dJ2_min_10 rfl rfl rfl
  · refine pr_icF (tgt := 9) dJ2_min_2 (by decide) (pc_gtF hc) ?_
    refine pr_iload_n dJ2_min_5 rfl ?_
    refine pr_goto (tgt := 10) dJ2_min_6 (by decide) ?_
    cases hF
    exact pr_iret dJ2_min_10 rfl rfl rfl

def L_J1_indexOfChar_7 : Nat → Nat → Int32 → Int32 → Int32 → pm_H → Option ((Int32) ⊕ (Unit))
  | 0, _, _, _, _, _ => none
  | n + 1, x0, x3, x4, x5, h =>
    if x5 < x3 then
      (pm_ai 1 h x0 x5).bind fun v1 =>
      if v1 = x4 then
        some (.inl x5)
      else
        L_J1_indexOfChar_7 n x0 x3 x4 (x5 + 1) h
    else
      some (.inr ())
theorem ok_L_J1_indexOfChar_7 {d : Nat} : ∀ (n : Nat) {x0 : Nat} {x3 : Int32} {x4 : Int32} {x5 : Int32} {w1 w2 : Value} {h : pm_H} {q : (Int32) ⊕ (Unit)} {res : Option Value × pm_H}, L_J1_indexOfChar_7 n x0 x3 x4 x5 h = some q → pm_nolong w1 = true → pm_nolong w2 = true → (∀ r, q = .inl r → res = (some (.int r), h)) → (∀ e, q = .inr e → ∀ z5 : Value, pm_nolong z5 = true → pm_E (d + 0) 21 cJ1_indexOfChar (some .int) 31 [.ref x0, w1, w2, .int x3, .int x4, z5] [] h res) → pm_E (d + 0) 21 cJ1_indexOfChar (some .int) 7 [.ref x0, w1, w2, .int x3, .int x4, .int x5] [] h res := by
  intro n
  induction n with
  | zero =>
    intro x0 x3 x4 x5 w1 w2 h q res hF hw1 hw2 hr hk
    rw [L_J1_indexOfChar_7] at hF
    cases hF
  | succ n ih =>
    intro x0 x3 x4 x5 w1 w2 h q res hF hw1 hw2 hr hk
    rw [L_J1_indexOfChar_7] at hF
    refine pr_iload dJ1_indexOfChar_7 rfl ?_
    refine pr_iload_n dJ1_indexOfChar_9 rfl ?_
    refine po_i hF (fun hc hF => ?_) (fun hc hF => ?_)
    · refine pr_icF (tgt := 31) dJ1_indexOfChar_10 (by decide) (pc_geF hc) ?_
      refine pr_aload_n dJ1_indexOfChar_13 rfl ?_
      refine pr_iload dJ1_indexOfChar_14 rfl ?_
      obtain ⟨v1, hv1, hF⟩ := po_b hF
      refine pr_bald dJ1_indexOfChar_16 (hv1) ?_
      refine pr_iload dJ1_indexOfChar_17 rfl ?_
      refine po_i hF (fun hc hF => ?_) (fun hc hF => ?_)
      · refine pr_icF (tgt := 25) dJ1_indexOfChar_19 (by decide) (pc_neF hc) ?_
        refine pr_iload dJ1_indexOfChar_22 rfl ?_
        cases hF
        exact pr_iret dJ1_indexOfChar_24 rfl rfl (hr _ rfl)
      · refine pr_icT (tgt := 25) dJ1_indexOfChar_19 (by decide) (pc_neT hc) ?_
        refine pr_iinc (v := 1) (L' := [.ref x0, w1, w2, .int x3, .int x4, .int (x5 + 1)]) dJ1_indexOfChar_25 rfl (kc_1) rfl ?_
        refine pr_goto (tgt := 7) dJ1_indexOfChar_28 (by decide) ?_
        exact ih hF hw1 hw2 hr hk
    · refine pr_icT (tgt := 31) dJ1_indexOfChar_10 (by decide) (pc_geT hc) ?_
      cases hF
      exact hk _ rfl _ rfl
def F_J1_indexOfChar (n : Nat) (h : pm_H) (a0 : Nat) (x1 : Int32) (x2 : Int32) (x3 : Int32) : Option (Int32) :=
  (L_J1_indexOfChar_7 n a0 x3 (pm_i2b x1) x2 h).bind fun q2 => po_s q2 (fun r => some r) fun e3 =>
  some (-1)
theorem ok_F_J1_indexOfChar {d n : Nat} {h : pm_H} {a0 : Nat} {x1 : Int32} {x2 : Int32} {x3 : Int32} {q : Int32} (hF : F_J1_indexOfChar n h a0 x1 x2 x3 = some q) : pm_E (d + 0) 21 cJ1_indexOfChar (some .int) 0 [.ref a0, .int x1, .int x2, .int x3, pm_D, pm_D] [] h (some (.int q), h) := by
  unfold F_J1_indexOfChar at hF
  refine pr_iload_n dJ1_indexOfChar_0 rfl ?_
  refine pr_i2b dJ1_indexOfChar_1 ?_
  refine pr_istore (L' := [.ref a0, .int x1, .int x2, .int x3, .int (pm_i2b x1), pm_D]) dJ1_indexOfChar_2 rfl ?_
  refine pr_iload_n dJ1_indexOfChar_4 rfl ?_
  refine pr_istore (L' := [.ref a0, .int x1, .int x2, .int x3, .int (pm_i2b x1), .int x2]) dJ1_indexOfChar_5 rfl ?_
  obtain ⟨q2, hq2, hF⟩ := po_b hF
  refine ok_L_J1_indexOfChar_7 n hq2 rfl rfl (fun r hq => ?_) (fun e3 hq z5 hz5 => ?_)
  · subst hq
    replace hF := po_sl hF
    cases hF
    exact rfl
  subst hq
  replace hF := po_sr hF
  refine pr_iconst (v := (-1)) dJ1_indexOfChar_31 (kc_m1) ?_
  cases hF
  exact pr_iret dJ1_indexOfChar_32 rfl rfl rfl

def F_J1_indexOf (n : Nat) (h : pm_H) (a0 : Nat) (x1 : Int32) (x2 : Int32) (x3 : Int32) : Option (Int32) :=
  (F_J1_canEncode x1).bind fun q1 =>
  if q1 = 0 then
    some (-1)
  else
    (F_J2_max x2 0).bind fun q2 =>
    (pm_len h a0).bind fun v3 =>
    (F_J2_min x3 v3).bind fun q4 =>
    if q2 < q4 then
      (F_J1_indexOfChar n h a0 x1 q2 q4).bind fun q5 =>
      some q5
    else
      some (-1)
theorem ok_F_J1_indexOf {d n : Nat} {h : pm_H} {a0 : Nat} {x1 : Int32} {x2 : Int32} {x3 : Int32} {q : Int32} (hF : F_J1_indexOf n h a0 x1 x2 x3 = some q) : pm_E (d + 1) 21 cJ1_indexOf (some .int) 0 [.ref a0, .int x1, .int x2, .int x3] [] h (some (.int q), h) := by
  unfold F_J1_indexOf at hF
  refine pr_iload_n dJ1_indexOf_0 rfl ?_
  obtain ⟨q1, hq1, hF⟩ := po_b hF
  refine pr_S dJ1_indexOf_1 cs_21_88 (as := [.int x1]) (rest := []) rfl rfl rfl (lb rfl) (lb rfl) (lb rfl) (ok_F_J1_canEncode hq1) ?_
  refine po_i hF (fun hc hF => ?_) (fun hc hF => ?_)
  · refine pr_ifF (tgt := 9) dJ1_indexOf_4 (by decide) (pc_neF hc) ?_
    refine pr_iconst (v := (-1)) dJ1_indexOf_7 (kc_m1) ?_
    cases hF
    exact pr_iret dJ1_indexOf_8 rfl rfl rfl
  · refine pr_ifT (tgt := 9) dJ1_indexOf_4 (by decide) (pc_neT hc) ?_
    refine pr_iload_n dJ1_indexOf_9 rfl ?_
    refine pr_iconst (v := 0) dJ1_indexOf_10 (kc_0) ?_
    obtain ⟨q2, hq2, hF⟩ := po_b hF
    refine pr_S dJ1_indexOf_11 cs_21_92 (as := [.int x2, .int 0]) (rest := []) rfl rfl rfl (lb rfl) (lb rfl) (lb rfl) (ok_F_J2_max hq2) ?_
    refine pr_istore_n (L' := [.ref a0, .int x1, .int q2, .int x3]) dJ1_indexOf_14 rfl ?_
    refine pr_iload_n dJ1_indexOf_15 rfl ?_
    refine pr_aload_n dJ1_indexOf_16 rfl ?_
    obtain ⟨v3, hv3, hF⟩ := po_b hF
    refine pr_alen dJ1_indexOf_17 (hv3) ?_
    obtain ⟨q4, hq4, hF⟩ := po_b hF
    refine pr_S dJ1_indexOf_18 cs_21_38 (as := [.int x3, .int v3]) (rest := []) rfl rfl rfl (lb rfl) (lb rfl) (lb rfl) (ok_F_J2_min hq4) ?_
    refine pr_istore_n (L' := [.ref a0, .int x1, .int q2, .int q4]) dJ1_indexOf_21 rfl ?_
    refine pr_iload_n dJ1_indexOf_22 rfl ?_
    refine pr_iload_n dJ1_indexOf_23 rfl ?_
    refine po_i hF (fun hc hF => ?_) (fun hc hF => ?_)
    · refine pr_icT (tgt := 29) dJ1_indexOf_24 (by decide) (pc_ltT hc) ?_
      refine pr_aload_n dJ1_indexOf_29 rfl ?_
      refine pr_iload_n dJ1_indexOf_30 rfl ?_
      refine pr_iload_n dJ1_indexOf_31 rfl ?_
      refine pr_iload_n dJ1_indexOf_32 rfl ?_
      obtain ⟨q5, hq5, hF⟩ := po_b hF
      refine pr_S dJ1_indexOf_33 cs_21_95 (as := [.ref a0, .int x1, .int q2, .int q4]) (rest := []) rfl rfl rfl (lb rfl) (lb rfl) (lb rfl) (ok_F_J1_indexOfChar hq5) ?_
      cases hF
      exact pr_iret dJ1_indexOf_36 rfl rfl rfl
    · refine pr_icF (tgt := 29) dJ1_indexOf_24 (by decide) (pc_ltF hc) ?_
      refine pr_iconst (v := (-1)) dJ1_indexOf_27 (kc_m1) ?_
      cases hF
      exact pr_iret dJ1_indexOf_28 rfl rfl rfl

def F_J0_indexOf_2 (n : Nat) (h : pm_H) (a0 : Nat) (x1 : Int32) (x2 : Int32) : Option (Int32) :=
  (if pm_cl_ h a0 = some 30 then F_J0_isLatin1 h a0 else none).bind fun q1 =>
  if q1 = 0 then
    (pm_fR [(30, 0)] h a0).bind fun v2 =>
    (if pm_cl_ h a0 = some 30 then F_J0_length h a0 else none).bind fun q3 =>
    none
  else
    (pm_fR [(30, 0)] h a0).bind fun v4 =>
    (if pm_cl_ h a0 = some 30 then F_J0_length h a0 else none).bind fun q5 =>
    (F_J1_indexOf n h v4 x1 x2 q5).bind fun q6 =>
    some q6
theorem ok_F_J0_indexOf_2 {d n : Nat} {h : pm_H} {a0 : Nat} {x1 : Int32} {x2 : Int32} {q : Int32} (hF : F_J0_indexOf_2 n h a0 x1 x2 = some q) : pm_E (d + 2) 20 cJ0_indexOf_2 (some .int) 0 [.ref a0, .int x1, .int x2] [] h (some (.int q), h) := by
  unfold F_J0_indexOf_2 at hF
  refine pr_aload_n dJ0_indexOf_2_0 rfl ?_
  obtain ⟨q1, hq1, hF⟩ := po_b hF
  refine po_i hq1 (fun hcl hq => ?_) (fun _ hq => nomatch hq)
  refine pr_V (as := []) (rest := []) dJ0_indexOf_2_1 cv_20_492 hcl rfl rfl rfl rfl (lb rfl) (lb rfl) (lb rfl) (ok_F_J0_isLatin1 hq) ?_
  refine po_i hF (fun hc hF => ?_) (fun hc hF => ?_)
  · refine pr_ifT (tgt := 23) dJ0_indexOf_2_4 (by decide) (pc_eqT hc) ?_
    refine pr_aload_n dJ0_indexOf_2_23 rfl ?_
    obtain ⟨v2, hv2, hF⟩ := po_b hF
    refine pr_getR dJ0_indexOf_2_24 tf_20_9 (hv2) ?_
    refine pr_iload_n dJ0_indexOf_2_27 rfl ?_
    refine pr_iload_n dJ0_indexOf_2_28 rfl ?_
    refine pr_aload_n dJ0_indexOf_2_29 rfl ?_
    obtain ⟨q3, hq3, hF⟩ := po_b hF
    refine po_i hq3 (fun hcl hq => ?_) (fun _ hq => nomatch hq)
    refine pr_V (as := []) (rest := [.int x2, .int x1, .ref v2]) dJ0_indexOf_2_30 cv_20_505 hcl rfl rfl rfl rfl (lb rfl) (lb rfl) (lb rfl) (ok_F_J0_length hq) ?_
    cases hF
  · refine pr_ifF (tgt := 23) dJ0_indexOf_2_4 (by decide) (pc_eqF hc) ?_
    refine pr_aload_n dJ0_indexOf_2_7 rfl ?_
    obtain ⟨v4, hv4, hF⟩ := po_b hF
    refine pr_getR dJ0_indexOf_2_8 tf_20_9 (hv4) ?_
    refine pr_iload_n dJ0_indexOf_2_11 rfl ?_
    refine pr_iload_n dJ0_indexOf_2_12 rfl ?_
    refine pr_aload_n dJ0_indexOf_2_13 rfl ?_
    obtain ⟨q5, hq5, hF⟩ := po_b hF
    refine po_i hq5 (fun hcl hq => ?_) (fun _ hq => nomatch hq)
    refine pr_V (as := []) (rest := [.int x2, .int x1, .ref v4]) dJ0_indexOf_2_14 cv_20_505 hcl rfl rfl rfl rfl (lb rfl) (lb rfl) (lb rfl) (ok_F_J0_length hq) ?_
    obtain ⟨q6, hq6, hF⟩ := po_b hF
    refine pr_S dJ0_indexOf_2_17 cs_20_637 (as := [.ref v4, .int x1, .int x2, .int q5]) (rest := []) rfl rfl rfl (lb rfl) (lb rfl) (lb rfl) (ok_F_J1_indexOf hq6) ?_
    refine pr_goto (tgt := 36) dJ0_indexOf_2_20 (by decide) ?_
    cases hF
    exact pr_iret dJ0_indexOf_2_36 rfl rfl rfl

def F_J0_indexOf (n : Nat) (h : pm_H) (a0 : Nat) (x1 : Int32) : Option (Int32) :=
  (if pm_cl_ h a0 = some 30 then F_J0_indexOf_2 n h a0 x1 0 else none).bind fun q1 =>
  some q1
theorem ok_F_J0_indexOf {d n : Nat} {h : pm_H} {a0 : Nat} {x1 : Int32} {q : Int32} (hF : F_J0_indexOf n h a0 x1 = some q) : pm_E (d + 3) 20 cJ0_indexOf (some .int) 0 [.ref a0, .int x1] [] h (some (.int q), h) := by
  unfold F_J0_indexOf at hF
  refine pr_aload_n dJ0_indexOf_0 rfl ?_
  refine pr_iload_n dJ0_indexOf_1 rfl ?_
  refine pr_iconst (v := 0) dJ0_indexOf_2 (kc_0) ?_
  obtain ⟨q1, hq1, hF⟩ := po_b hF
  refine po_i hq1 (fun hcl hq => ?_) (fun _ hq => nomatch hq)
  refine pr_V (as := [.int x1, .int 0]) (rest := []) dJ0_indexOf_3 cv_20_633 hcl rfl rfl rfl rfl (lb rfl) (lb rfl) (lb rfl) (ok_F_J0_indexOf_2 hq) ?_
  cases hF
  exact pr_iret dJ0_indexOf_6 rfl rfl rfl

def F_X11_init (h : pm_H) (a0 : Nat) (x1 : Int32) : Option (pm_H) :=
  (F_X8_init a0).bind fun q1 =>
  (pm_put [(9, 0, 0)] h a0 (.int x1)).bind fun h2 =>
  some h2
theorem ok_F_X11_init {d : Nat} {h : pm_H} {a0 : Nat} {x1 : Int32} {q : pm_H} (hF : F_X11_init h a0 x1 = some q) : pm_E (d + 1) 61 cX11_init (none) 0 [.ref a0, .int x1] [] h (none, q) := by
  unfold F_X11_init at hF
  refine pr_aload_n dX11_init_0 rfl ?_
  obtain ⟨q1, hq1, hF⟩ := po_b hF
  refine pr_I dX11_init_1 ci_61_1 (as := []) (rest := []) rfl rfl rfl (lb rfl) (lb rfl) (lb rfl) (ok_F_X8_init hq1) ?_
  refine pr_aload_n dX11_init_4 rfl ?_
  refine pr_iload_n dX11_init_5 rfl ?_
  obtain ⟨h2, hh2, hF⟩ := po_b hF
  refine pr_put dX11_init_6 tp_61_7 (hh2) ?_
  cases hF
  exact pr_vret dX11_init_9 rfl rfl

def F_X7_factor (fU : pm_H → Nat → Option ((Option Nat) × pm_H)) (n : Nat) (h : pm_H) (a0 : Nat) : Option ((Option Nat) × pm_H) :=
  (if pm_cl_ h a0 = some 6 then F_X7_here h a0 else none).bind fun q1 =>
  if q1 = 91 then
    (if pm_cl_ h a0 = some 6 then F_X7_opens h a0 else none).bind fun q14 =>
    (if pm_cl_ q14 a0 = some 6 then F_X7_isGood q14 a0 else none).bind fun q15 =>
    ((
      if q15 = 0 then
        some (none, q14)
      else
        (if pm_cl_ q14 a0 = some 6 then fU q14 a0 else none).bind fun q16 =>
        some (q16.1, q16.2)
    ) : Option ((Option Nat) × pm_H)).bind fun q17 =>
    (if pm_cl_ q17.2 a0 = some 6 then F_X7_isGood q17.2 a0 else none).bind fun q18 =>
    if q18 = 0 then
      (pm_fI [(6, 3)] q17.2 a0).bind fun v19 =>
      (pm_put [(6, 3, 0)] q17.2 a0 (.int (v19 - 1))).bind fun h20 =>
      some (q17.1, h20)
    else
      (if pm_cl_ q17.2 a0 = some 6 then F_X7_must q17.2 a0 93 else none).bind fun q21 =>
      (pm_fI [(6, 3)] q21 a0).bind fun v22 =>
      (pm_put [(6, 3, 0)] q21 a0 (.int (v22 - 1))).bind fun h23 =>
      some (q17.1, h23)
  else
    (if pm_cl_ h a0 = some 6 then F_X7_seesDigit h a0 else none).bind fun q2 =>
    if q2 = 0 then
      ((
        if q1 = 0 then
          (pm_fI [(6, 2)] h a0).bind fun v3 =>
          (if pm_cl_ h a0 = some 6 then F_X7_bad h a0 1 v3 else none).bind fun q4 =>
          some q4
        else
          (if pm_cl_ h 1 = some 30 then F_J0_indexOf n h 1 q1 else none).bind fun q5 =>
          if q5 < 0 then
            (pm_fI [(6, 2)] h a0).bind fun v6 =>
            (if pm_cl_ h a0 = some 6 then F_X7_bad h a0 1 v6 else none).bind fun q7 =>
            some q7
          else
            some h
      ) : Option (pm_H)).bind fun q8 =>
      (pm_fI [(6, 2)] q8 a0).bind fun v9 =>
      (pm_put [(6, 2, 0)] q8 a0 (.int (v9 + 1))).bind fun h10 =>
      (F_X11_init (pm_nw h10 9) h10.2.1 q1).bind fun q11 =>
      some ((some h10.2.1), q11)
    else
      (if pm_cl_ (pm_nw h 8) a0 = some 6 then F_X7_number n (pm_nw h 8) a0 else none).bind fun q12 =>
      (F_X10_init q12.2 h.2.1 q12.1).bind fun q13 =>
      some ((some h.2.1), q13)
theorem ok_F_X7_factor {d n : Nat} {h : pm_H} {a0 : Nat} {q : (Option Nat) × pm_H} {fU : pm_H → Nat → Option ((Option Nat) × pm_H)} (hfU : ∀ {h : pm_H} {a : Nat} {q : (Option Nat) × pm_H}, fU h a = some q → pm_E d 7 cX7_sum (some (.object "AnyKeyTown$Sum")) 0 (pm_en [.ref a] 4) [] h (some (va_rf q.1), q.2)) (hF : F_X7_factor fU n h a0 = some q) : pm_E (d + 4) 7 cX7_factor (some (.object "AnyKeyTown$Sum")) 0 [.ref a0, pm_D, pm_D] [] h (some (va_rf q.1), q.2) := by
  unfold F_X7_factor at hF
  refine pr_aload_n dX7_factor_0 rfl ?_
  obtain ⟨q1, hq1, hF⟩ := po_b hF
  refine po_i hq1 (fun hcl hq => ?_) (fun _ hq => nomatch hq)
  refine pr_V (as := []) (rest := []) dX7_factor_1 cv_7_39 hcl rfl rfl rfl rfl (lb rfl) (lb rfl) (lb rfl) (ok_F_X7_here hq) ?_
  refine pr_istore_n (L' := [.ref a0, .int q1, pm_D]) dX7_factor_4 rfl ?_
  refine pr_iload_n dX7_factor_5 rfl ?_
  refine pr_bipush (v := 91) dX7_factor_6 (kb_91) ?_
  refine po_i hF (fun hc hF => ?_) (fun hc hF => ?_)
  · refine pr_icF (tgt := 56) dX7_factor_8 (by decide) (pc_neF hc) ?_
    refine pr_aload_n dX7_factor_11 rfl ?_
    obtain ⟨q14, hq14, hF⟩ := po_b hF
    refine po_i hq14 (fun hcl hq => ?_) (fun _ hq => nomatch hq)
    refine pr_V (as := []) (rest := []) dX7_factor_12 cv_7_57 hcl rfl rfl rfl rfl (lb rfl) (lb rfl) (lb rfl) (ok_F_X7_opens hq) ?_
    refine pr_aload_n dX7_factor_15 rfl ?_
    obtain ⟨q15, hq15, hF⟩ := po_b hF
    refine po_i hq15 (fun hcl hq => ?_) (fun _ hq => nomatch hq)
    refine pr_V (as := []) (rest := []) dX7_factor_16 cv_7_43 hcl rfl rfl rfl rfl (lb rfl) (lb rfl) (lb rfl) (ok_F_X7_isGood hq) ?_
    obtain ⟨q17, hq17, hF⟩ := po_b hF
    have J30 : pm_E (d + 4) 7 cX7_factor (some (.object "AnyKeyTown$Sum")) 30 [.ref a0, .int q1, pm_D] [va_rf q17.1] q17.2 (some (va_rf q.1), q.2) := by
      refine pr_astore_n (L' := [.ref a0, .int q1, va_rf q17.1]) dX7_factor_30 (pv_f _) rfl ?_
      refine pr_aload_n dX7_factor_31 rfl ?_
      obtain ⟨q18, hq18, hF⟩ := po_b hF
      refine po_i hq18 (fun hcl hq => ?_) (fun _ hq => nomatch hq)
      refine pr_V (as := []) (rest := []) dX7_factor_32 cv_7_43 hcl rfl rfl rfl rfl (lb rfl) (lb rfl) (lb rfl) (ok_F_X7_isGood hq) ?_
      refine po_i hF (fun hc hF => ?_) (fun hc hF => ?_)
      · refine pr_ifT (tgt := 44) dX7_factor_35 (by decide) (pc_eqT hc) ?_
        refine pr_aload_n dX7_factor_44 rfl ?_
        refine pr_dup dX7_factor_45 rfl ?_
        obtain ⟨v19, hv19, hF⟩ := po_b hF
        refine pr_getI dX7_factor_46 tf_7_54 (hv19) ?_
        refine pr_iconst (v := 1) dX7_factor_49 (kc_1) ?_
        refine pr_isub dX7_factor_50 ?_
        obtain ⟨h20, hh20, hF⟩ := po_b hF
        refine pr_put dX7_factor_51 tp_7_54 (hh20) ?_
        refine pr_aload_n (x := va_rf q17.1) dX7_factor_54 (pv_la rfl) ?_
        cases hF
        exact pr_aret dX7_factor_55 rfl (pv_f _) rfl
      · refine pr_ifF (tgt := 44) dX7_factor_35 (by decide) (pc_eqF hc) ?_
        refine pr_aload_n dX7_factor_38 rfl ?_
        refine pr_bipush (v := 93) dX7_factor_39 (kb_93) ?_
        obtain ⟨q21, hq21, hF⟩ := po_b hF
        refine po_i hq21 (fun hcl hq => ?_) (fun _ hq => nomatch hq)
        refine pr_V (as := [.int 93]) (rest := []) dX7_factor_41 cv_7_64 hcl rfl rfl rfl rfl (lb rfl) (lb rfl) (lb rfl) (ok_F_X7_must hq) ?_
        refine pr_aload_n dX7_factor_44 rfl ?_
        refine pr_dup dX7_factor_45 rfl ?_
        obtain ⟨v22, hv22, hF⟩ := po_b hF
        refine pr_getI dX7_factor_46 tf_7_54 (hv22) ?_
        refine pr_iconst (v := 1) dX7_factor_49 (kc_1) ?_
        refine pr_isub dX7_factor_50 ?_
        obtain ⟨h23, hh23, hF⟩ := po_b hF
        refine pr_put dX7_factor_51 tp_7_54 (hh23) ?_
        refine pr_aload_n (x := va_rf q17.1) dX7_factor_54 (pv_la rfl) ?_
        cases hF
        exact pr_aret dX7_factor_55 rfl (pv_f _) rfl
    clear hF
    have hF := hq17
    refine po_i hF (fun hc hF => ?_) (fun hc hF => ?_)
    · refine pr_ifT (tgt := 29) dX7_factor_19 (by decide) (pc_eqT hc) ?_
      refine pr_null dX7_factor_29 ?_
      cases hF
      exact J30
    · refine pr_ifF (tgt := 29) dX7_factor_19 (by decide) (pc_eqF hc) ?_
      refine pr_aload_n dX7_factor_22 rfl ?_
      obtain ⟨q16, hq16, hF⟩ := po_b hF
      refine po_i hq16 (fun hcl hq => ?_) (fun _ hq => nomatch hq)
      refine pr_V (as := []) (rest := []) dX7_factor_23 cv_7_60 hcl rfl rfl rfl rfl (lb rfl) (lb rfl) (lb rfl) (pm_E_up 3 (hfU hq)) ?_
      refine pr_goto (tgt := 30) dX7_factor_26 (by decide) ?_
      cases hF
      exact J30
  · refine pr_icT (tgt := 56) dX7_factor_8 (by decide) (pc_neT hc) ?_
    refine pr_aload_n dX7_factor_56 rfl ?_
    obtain ⟨q2, hq2, hF⟩ := po_b hF
    refine po_i hq2 (fun hcl hq => ?_) (fun _ hq => nomatch hq)
    refine pr_V (as := []) (rest := []) dX7_factor_57 cv_7_47 hcl rfl rfl rfl rfl (lb rfl) (lb rfl) (lb rfl) (ok_F_X7_seesDigit hq) ?_
    refine po_i hF (fun hc hF => ?_) (fun hc hF => ?_)
    · refine pr_ifT (tgt := 75) dX7_factor_60 (by decide) (pc_eqT hc) ?_
      refine pr_iload_n dX7_factor_75 rfl ?_
      obtain ⟨q8, hq8, hF⟩ := po_b hF
      have J97 : pm_E (d + 4) 7 cX7_factor (some (.object "AnyKeyTown$Sum")) 97 [.ref a0, .int q1, pm_D] [] q8 (some (va_rf q.1), q.2) := by
        refine pr_aload_n dX7_factor_97 rfl ?_
        refine pr_dup dX7_factor_98 rfl ?_
        obtain ⟨v9, hv9, hF⟩ := po_b hF
        refine pr_getI dX7_factor_99 tf_7_26 (hv9) ?_
        refine pr_iconst (v := 1) dX7_factor_102 (kc_1) ?_
        refine pr_iadd dX7_factor_103 ?_
        obtain ⟨h10, hh10, hF⟩ := po_b hF
        refine pr_put dX7_factor_104 tp_7_26 (hh10) ?_
        refine pr_new (c := 9) dX7_factor_107 rfl ?_
        refine pr_dup dX7_factor_110 rfl ?_
        refine pr_iload_n dX7_factor_111 rfl ?_
        obtain ⟨q11, hq11, hF⟩ := po_b hF
        refine pr_I dX7_factor_112 ci_7_85 (as := [.int q1]) (rest := [.ref h10.2.1]) rfl rfl rfl (lb rfl) (lb rfl) (lb rfl) (ok_F_X11_init hq11) ?_
        cases hF
        exact pr_aret dX7_factor_115 rfl (Or.inr ⟨_, rfl⟩) rfl
      clear hF
      have hF := hq8
      refine po_i hF (fun hc hF => ?_) (fun hc hF => ?_)
      · refine pr_ifT (tgt := 88) dX7_factor_76 (by decide) (pc_eqT hc) ?_
        refine pr_aload_n dX7_factor_88 rfl ?_
        refine pr_iconst (v := 1) dX7_factor_89 (kc_1) ?_
        refine pr_aload_n dX7_factor_90 rfl ?_
        obtain ⟨v3, hv3, hF⟩ := po_b hF
        refine pr_getI dX7_factor_91 tf_7_26 (hv3) ?_
        obtain ⟨q4, hq4, hF⟩ := po_b hF
        refine po_i hq4 (fun hcl hq => ?_) (fun _ hq => nomatch hq)
        refine pr_V (as := [.int 1, .int v3]) (rest := []) dX7_factor_94 cv_7_50 hcl rfl rfl rfl rfl (lb rfl) (lb rfl) (lb rfl) (ok_F_X7_bad hq) ?_
        cases hF
        exact J97
      · refine pr_ifF (tgt := 88) dX7_factor_76 (by decide) (pc_eqF hc) ?_
        refine pr_ldcr (v := 1) dX7_factor_79 rfl rfl ?_
        refine pr_iload_n dX7_factor_81 rfl ?_
        obtain ⟨q5, hq5, hF⟩ := po_b hF
        refine po_i hq5 (fun hcl hq => ?_) (fun _ hq => nomatch hq)
        refine pr_V (as := [.int q1]) (rest := []) dX7_factor_82 cv_7_77 hcl rfl rfl rfl rfl (lb rfl) (lb rfl) (lb rfl) (ok_F_J0_indexOf hq) ?_
        refine po_i hF (fun hc hF => ?_) (fun hc hF => ?_)
        · refine pr_ifF (tgt := 97) dX7_factor_85 (by decide) (pc_geF hc) ?_
          refine pr_aload_n dX7_factor_88 rfl ?_
          refine pr_iconst (v := 1) dX7_factor_89 (kc_1) ?_
          refine pr_aload_n dX7_factor_90 rfl ?_
          obtain ⟨v6, hv6, hF⟩ := po_b hF
          refine pr_getI dX7_factor_91 tf_7_26 (hv6) ?_
          obtain ⟨q7, hq7, hF⟩ := po_b hF
          refine po_i hq7 (fun hcl hq => ?_) (fun _ hq => nomatch hq)
          refine pr_V (as := [.int 1, .int v6]) (rest := []) dX7_factor_94 cv_7_50 hcl rfl rfl rfl rfl (lb rfl) (lb rfl) (lb rfl) (ok_F_X7_bad hq) ?_
          cases hF
          exact J97
        · refine pr_ifT (tgt := 97) dX7_factor_85 (by decide) (pc_geT hc) ?_
          cases hF
          exact J97
    · refine pr_ifF (tgt := 75) dX7_factor_60 (by decide) (pc_eqF hc) ?_
      refine pr_new (c := 8) dX7_factor_63 rfl ?_
      refine pr_dup dX7_factor_66 rfl ?_
      refine pr_aload_n dX7_factor_67 rfl ?_
      obtain ⟨q12, hq12, hF⟩ := po_b hF
      refine po_i hq12 (fun hcl hq => ?_) (fun _ hq => nomatch hq)
      refine pr_V (as := []) (rest := [.ref h.2.1, .ref h.2.1]) dX7_factor_68 cv_7_70 hcl rfl rfl rfl rfl (lb rfl) (lb rfl) (lb rfl) (ok_F_X7_number hq) ?_
      obtain ⟨q13, hq13, hF⟩ := po_b hF
      refine pr_I dX7_factor_71 ci_7_73 (as := [.int q12.1]) (rest := [.ref h.2.1]) rfl rfl rfl (lb rfl) (lb rfl) (lb rfl) (ok_F_X10_init hq13) ?_
      cases hF
      exact pr_aret dX7_factor_74 rfl (Or.inr ⟨_, rfl⟩) rfl

def F_X9_init (h : pm_H) (a0 : Nat) (x1 : Int32) (o2 : Option Nat) : Option (pm_H) :=
  (F_X8_init a0).bind fun q1 =>
  (pm_put [(7, 0, 0)] h a0 (.int x1)).bind fun h2 =>
  (pm_put [(7, 1, 2)] h2 a0 (va_rf o2)).bind fun h3 =>
  some h3
theorem ok_F_X9_init {d : Nat} {h : pm_H} {a0 : Nat} {x1 : Int32} {o2 : Option Nat} {q : pm_H} (hF : F_X9_init h a0 x1 o2 = some q) : pm_E (d + 1) 59 cX9_init (none) 0 [.ref a0, .int x1, va_rf o2] [] h (none, q) := by
  unfold F_X9_init at hF
  refine pr_aload_n dX9_init_0 rfl ?_
  obtain ⟨q1, hq1, hF⟩ := po_b hF
  refine pr_I dX9_init_1 ci_59_1 (as := []) (rest := []) rfl rfl rfl (lb rfl) (lb rfl) (lb rfl) (ok_F_X8_init hq1) ?_
  refine pr_aload_n dX9_init_4 rfl ?_
  refine pr_iload_n dX9_init_5 rfl ?_
  obtain ⟨h2, hh2, hF⟩ := po_b hF
  refine pr_put dX9_init_6 tp_59_7 (hh2) ?_
  refine pr_aload_n dX9_init_9 rfl ?_
  refine pr_aload_n (x := va_rf o2) dX9_init_10 (pv_la rfl) ?_
  obtain ⟨h3, hh3, hF⟩ := po_b hF
  refine pr_put dX9_init_11 tp_59_13 (hh3) ?_
  cases hF
  exact pr_vret dX9_init_14 rfl rfl

def L_X7_product_15 (fU : pm_H → Nat → Option ((Option Nat) × pm_H)) : Nat → Nat → (Option Nat) → pm_H → Option (pm_H)
  | 0, _, _, _ => none
  | n + 1, x0, x2, h =>
    (if pm_cl_ h x0 = some 6 then F_X7_isGood h x0 else none).bind fun q28 =>
    if q28 = 0 then
      some h
    else
      (if pm_cl_ h x0 = some 6 then F_X7_here h x0 else none).bind fun q29 =>
      if q29 = 42 then
        (if pm_cl_ h x0 = some 6 then F_X7_here h x0 else none).bind fun q30 =>
        (pm_fI [(6, 2)] h x0).bind fun v31 =>
        (pm_put [(6, 2, 0)] h x0 (.int (v31 + 1))).bind fun h32 =>
        (if pm_cl_ (pm_nw h32 7) x0 = some 6 then F_X7_factor fU n (pm_nw h32 7) x0 else none).bind fun q33 =>
        (F_X9_init q33.2 h32.2.1 q30 q33.1).bind fun q34 =>
        (x2).bind fun r35 =>
        (pm_put [(7, 2, 2)] q34 r35 (.ref h32.2.1)).bind fun h36 =>
        (pm_fV [(7, 2)] h36 r35).bind fun v37 =>
        L_X7_product_15 fU n x0 v37 h36
      else
        (if pm_cl_ h x0 = some 6 then F_X7_here h x0 else none).bind fun q38 =>
        if q38 = 47 then
          (if pm_cl_ h x0 = some 6 then F_X7_here h x0 else none).bind fun q39 =>
          (pm_fI [(6, 2)] h x0).bind fun v40 =>
          (pm_put [(6, 2, 0)] h x0 (.int (v40 + 1))).bind fun h41 =>
          (if pm_cl_ (pm_nw h41 7) x0 = some 6 then F_X7_factor fU n (pm_nw h41 7) x0 else none).bind fun q42 =>
          (F_X9_init q42.2 h41.2.1 q39 q42.1).bind fun q43 =>
          (x2).bind fun r44 =>
          (pm_put [(7, 2, 2)] q43 r44 (.ref h41.2.1)).bind fun h45 =>
          (pm_fV [(7, 2)] h45 r44).bind fun v46 =>
          L_X7_product_15 fU n x0 v46 h45
        else
          (if pm_cl_ h x0 = some 6 then F_X7_here h x0 else none).bind fun q47 =>
          if q47 = 37 then
            (if pm_cl_ h x0 = some 6 then F_X7_here h x0 else none).bind fun q48 =>
            (pm_fI [(6, 2)] h x0).bind fun v49 =>
            (pm_put [(6, 2, 0)] h x0 (.int (v49 + 1))).bind fun h50 =>
            (if pm_cl_ (pm_nw h50 7) x0 = some 6 then F_X7_factor fU n (pm_nw h50 7) x0 else none).bind fun q51 =>
            (F_X9_init q51.2 h50.2.1 q48 q51.1).bind fun q52 =>
            (x2).bind fun r53 =>
            (pm_put [(7, 2, 2)] q52 r53 (.ref h50.2.1)).bind fun h54 =>
            (pm_fV [(7, 2)] h54 r53).bind fun v55 =>
            L_X7_product_15 fU n x0 v55 h54
          else
            some h
theorem ok_L_X7_product_15 {d : Nat} {fU : pm_H → Nat → Option ((Option Nat) × pm_H)} (hfU : ∀ {h : pm_H} {a : Nat} {q : (Option Nat) × pm_H}, fU h a = some q → pm_E d 7 cX7_sum (some (.object "AnyKeyTown$Sum")) 0 (pm_en [.ref a] 4) [] h (some (va_rf q.1), q.2)) : ∀ (n : Nat) {x0 : Nat} {x2 : Option Nat} {w1 w3 : Value} {h : pm_H} {q : pm_H} {res : Option Value × pm_H}, L_X7_product_15 fU n x0 x2 h = some q → pm_nolong w1 = true → pm_nolong w3 = true → (∀ z2 : Value, pm_nolong z2 = true → ∀ z3 : Value, pm_nolong z3 = true → pm_E (d + 5) 7 cX7_product (some (.object "AnyKeyTown$Sum")) 88 [.ref x0, w1, z2, z3] [] q res) → pm_E (d + 5) 7 cX7_product (some (.object "AnyKeyTown$Sum")) 15 [.ref x0, w1, va_rf x2, w3] [] h res := by
  intro n
  induction n with
  | zero =>
    intro x0 x2 w1 w3 h q res hF hw1 hw3 hk
    rw [L_X7_product_15] at hF
    cases hF
  | succ n ih =>
    intro x0 x2 w1 w3 h q res hF hw1 hw3 hk
    rw [L_X7_product_15] at hF
    refine pr_aload_n dX7_product_15 rfl ?_
    obtain ⟨q28, hq28, hF⟩ := po_b hF
    refine po_i hq28 (fun hcl hq => ?_) (fun _ hq => nomatch hq)
    refine pr_V (as := []) (rest := []) dX7_product_16 cv_7_43 hcl rfl rfl rfl rfl (lb rfl) (lb rfl) (lb rfl) (ok_F_X7_isGood hq) ?_
    refine po_i hF (fun hc hF => ?_) (fun hc hF => ?_)
    · refine pr_ifT (tgt := 88) dX7_product_19 (by decide) (pc_eqT hc) ?_
      cases hF
      exact hk _ (pv_nl _) _ hw3
    · refine pr_ifF (tgt := 88) dX7_product_19 (by decide) (pc_eqF hc) ?_
      refine pr_aload_n dX7_product_22 rfl ?_
      obtain ⟨q29, hq29, hF⟩ := po_b hF
      refine po_i hq29 (fun hcl hq => ?_) (fun _ hq => nomatch hq)
      refine pr_V (as := []) (rest := []) dX7_product_23 cv_7_39 hcl rfl rfl rfl rfl (lb rfl) (lb rfl) (lb rfl) (ok_F_X7_here hq) ?_
      refine pr_bipush (v := 42) dX7_product_26 (kb_42) ?_
      refine po_i hF (fun hc hF => ?_) (fun hc hF => ?_)
      · refine pr_icT (tgt := 49) dX7_product_28 (by decide) (pc_eqT hc) ?_
        refine pr_aload_n dX7_product_49 rfl ?_
        obtain ⟨q30, hq30, hF⟩ := po_b hF
        refine po_i hq30 (fun hcl hq => ?_) (fun _ hq => nomatch hq)
        refine pr_V (as := []) (rest := []) dX7_product_50 cv_7_39 hcl rfl rfl rfl rfl (lb rfl) (lb rfl) (lb rfl) (ok_F_X7_here hq) ?_
        refine pr_istore_n (L' := [.ref x0, w1, va_rf x2, .int q30]) dX7_product_53 (pm_st_w (i := 2) rfl rfl (pv_nl _) rfl) ?_
        refine pr_aload_n dX7_product_54 rfl ?_
        refine pr_dup dX7_product_55 rfl ?_
        obtain ⟨v31, hv31, hF⟩ := po_b hF
        refine pr_getI dX7_product_56 tf_7_26 (hv31) ?_
        refine pr_iconst (v := 1) dX7_product_59 (kc_1) ?_
        refine pr_iadd dX7_product_60 ?_
        obtain ⟨h32, hh32, hF⟩ := po_b hF
        refine pr_put dX7_product_61 tp_7_26 (hh32) ?_
        refine pr_aload_n (x := va_rf x2) dX7_product_64 (pv_la rfl) ?_
        refine pr_new (c := 7) dX7_product_65 rfl ?_
        refine pr_dup dX7_product_68 rfl ?_
        refine pr_iload_n dX7_product_69 rfl ?_
        refine pr_aload_n dX7_product_70 rfl ?_
        obtain ⟨q33, hq33, hF⟩ := po_b hF
        refine po_i hq33 (fun hcl hq => ?_) (fun _ hq => nomatch hq)
        refine pr_V (as := []) (rest := [.int q30, .ref h32.2.1, .ref h32.2.1, va_rf x2]) dX7_product_71 cv_7_88 hcl rfl rfl rfl rfl (lb rfl) (Nat.le_trans (ps_c (lb rfl) (ps_c (lb rfl) (ps_c (lb rfl) (ps_c (Nat.le_of_eq (pv_c _)) ps_0)))) (lb rfl)) (lb rfl) (ok_F_X7_factor (fun e => pm_E_up 0 (hfU e)) hq) ?_
        obtain ⟨q34, hq34, hF⟩ := po_b hF
        refine pr_I dX7_product_74 ci_7_91 (as := [.int q30, va_rf q33.1]) (rest := [.ref h32.2.1, va_rf x2]) rfl rfl (pa_c rfl (pa_c (pv_1 _) rfl)) (lb rfl) (Nat.le_trans (ps_c (lb rfl) (ps_c (Nat.le_of_eq (pv_c _)) ps_0)) (lb rfl)) (lb rfl) (ok_F_X9_init hq34) ?_
        obtain ⟨r35, hr35, hF⟩ := po_b hF
        rw [pv_s hr35]
        obtain ⟨h36, hh36, hF⟩ := po_b hF
        refine pr_put dX7_product_77 tp_7_94 (hh36) ?_
        refine pr_aload_n dX7_product_80 rfl ?_
        obtain ⟨v37, hv37, hF⟩ := po_b hF
        refine pr_getV dX7_product_81 tf_7_94 (pm_fV_v hv37) ?_
        refine pr_astore_n (L' := [.ref x0, w1, va_rf v37, .int q30]) dX7_product_84 (pv_f _) (pm_st_w (i := 1) rfl rfl hw1 rfl) ?_
        refine pr_goto (tgt := 15) dX7_product_85 (by decide) ?_
        exact ih hF hw1 rfl hk
      · refine pr_icF (tgt := 49) dX7_product_28 (by decide) (pc_eqF hc) ?_
        refine pr_aload_n dX7_product_31 rfl ?_
        obtain ⟨q38, hq38, hF⟩ := po_b hF
        refine po_i hq38 (fun hcl hq => ?_) (fun _ hq => nomatch hq)
        refine pr_V (as := []) (rest := []) dX7_product_32 cv_7_39 hcl rfl rfl rfl rfl (lb rfl) (lb rfl) (lb rfl) (ok_F_X7_here hq) ?_
        refine pr_bipush (v := 47) dX7_product_35 (kb_47) ?_
        refine po_i hF (fun hc hF => ?_) (fun hc hF => ?_)
        · refine pr_icT (tgt := 49) dX7_product_37 (by decide) (pc_eqT hc) ?_
          refine pr_aload_n dX7_product_49 rfl ?_
          obtain ⟨q39, hq39, hF⟩ := po_b hF
          refine po_i hq39 (fun hcl hq => ?_) (fun _ hq => nomatch hq)
          refine pr_V (as := []) (rest := []) dX7_product_50 cv_7_39 hcl rfl rfl rfl rfl (lb rfl) (lb rfl) (lb rfl) (ok_F_X7_here hq) ?_
          refine pr_istore_n (L' := [.ref x0, w1, va_rf x2, .int q39]) dX7_product_53 (pm_st_w (i := 2) rfl rfl (pv_nl _) rfl) ?_
          refine pr_aload_n dX7_product_54 rfl ?_
          refine pr_dup dX7_product_55 rfl ?_
          obtain ⟨v40, hv40, hF⟩ := po_b hF
          refine pr_getI dX7_product_56 tf_7_26 (hv40) ?_
          refine pr_iconst (v := 1) dX7_product_59 (kc_1) ?_
          refine pr_iadd dX7_product_60 ?_
          obtain ⟨h41, hh41, hF⟩ := po_b hF
          refine pr_put dX7_product_61 tp_7_26 (hh41) ?_
          refine pr_aload_n (x := va_rf x2) dX7_product_64 (pv_la rfl) ?_
          refine pr_new (c := 7) dX7_product_65 rfl ?_
          refine pr_dup dX7_product_68 rfl ?_
          refine pr_iload_n dX7_product_69 rfl ?_
          refine pr_aload_n dX7_product_70 rfl ?_
          obtain ⟨q42, hq42, hF⟩ := po_b hF
          refine po_i hq42 (fun hcl hq => ?_) (fun _ hq => nomatch hq)
          refine pr_V (as := []) (rest := [.int q39, .ref h41.2.1, .ref h41.2.1, va_rf x2]) dX7_product_71 cv_7_88 hcl rfl rfl rfl rfl (lb rfl) (Nat.le_trans (ps_c (lb rfl) (ps_c (lb rfl) (ps_c (lb rfl) (ps_c (Nat.le_of_eq (pv_c _)) ps_0)))) (lb rfl)) (lb rfl) (ok_F_X7_factor (fun e => pm_E_up 0 (hfU e)) hq) ?_
          obtain ⟨q43, hq43, hF⟩ := po_b hF
          refine pr_I dX7_product_74 ci_7_91 (as := [.int q39, va_rf q42.1]) (rest := [.ref h41.2.1, va_rf x2]) rfl rfl (pa_c rfl (pa_c (pv_1 _) rfl)) (lb rfl) (Nat.le_trans (ps_c (lb rfl) (ps_c (Nat.le_of_eq (pv_c _)) ps_0)) (lb rfl)) (lb rfl) (ok_F_X9_init hq43) ?_
          obtain ⟨r44, hr44, hF⟩ := po_b hF
          rw [pv_s hr44]
          obtain ⟨h45, hh45, hF⟩ := po_b hF
          refine pr_put dX7_product_77 tp_7_94 (hh45) ?_
          refine pr_aload_n dX7_product_80 rfl ?_
          obtain ⟨v46, hv46, hF⟩ := po_b hF
          refine pr_getV dX7_product_81 tf_7_94 (pm_fV_v hv46) ?_
          refine pr_astore_n (L' := [.ref x0, w1, va_rf v46, .int q39]) dX7_product_84 (pv_f _) (pm_st_w (i := 1) rfl rfl hw1 rfl) ?_
          refine pr_goto (tgt := 15) dX7_product_85 (by decide) ?_
          exact ih hF hw1 rfl hk
        · refine pr_icF (tgt := 49) dX7_product_37 (by decide) (pc_eqF hc) ?_
          refine pr_aload_n dX7_product_40 rfl ?_
          obtain ⟨q47, hq47, hF⟩ := po_b hF
          refine po_i hq47 (fun hcl hq => ?_) (fun _ hq => nomatch hq)
          refine pr_V (as := []) (rest := []) dX7_product_41 cv_7_39 hcl rfl rfl rfl rfl (lb rfl) (lb rfl) (lb rfl) (ok_F_X7_here hq) ?_
          refine pr_bipush (v := 37) dX7_product_44 (kb_37) ?_
          refine po_i hF (fun hc hF => ?_) (fun hc hF => ?_)
          · refine pr_icF (tgt := 88) dX7_product_46 (by decide) (pc_neF hc) ?_
            refine pr_aload_n dX7_product_49 rfl ?_
            obtain ⟨q48, hq48, hF⟩ := po_b hF
            refine po_i hq48 (fun hcl hq => ?_) (fun _ hq => nomatch hq)
            refine pr_V (as := []) (rest := []) dX7_product_50 cv_7_39 hcl rfl rfl rfl rfl (lb rfl) (lb rfl) (lb rfl) (ok_F_X7_here hq) ?_
            refine pr_istore_n (L' := [.ref x0, w1, va_rf x2, .int q48]) dX7_product_53 (pm_st_w (i := 2) rfl rfl (pv_nl _) rfl) ?_
            refine pr_aload_n dX7_product_54 rfl ?_
            refine pr_dup dX7_product_55 rfl ?_
            obtain ⟨v49, hv49, hF⟩ := po_b hF
            refine pr_getI dX7_product_56 tf_7_26 (hv49) ?_
            refine pr_iconst (v := 1) dX7_product_59 (kc_1) ?_
            refine pr_iadd dX7_product_60 ?_
            obtain ⟨h50, hh50, hF⟩ := po_b hF
            refine pr_put dX7_product_61 tp_7_26 (hh50) ?_
            refine pr_aload_n (x := va_rf x2) dX7_product_64 (pv_la rfl) ?_
            refine pr_new (c := 7) dX7_product_65 rfl ?_
            refine pr_dup dX7_product_68 rfl ?_
            refine pr_iload_n dX7_product_69 rfl ?_
            refine pr_aload_n dX7_product_70 rfl ?_
            obtain ⟨q51, hq51, hF⟩ := po_b hF
            refine po_i hq51 (fun hcl hq => ?_) (fun _ hq => nomatch hq)
            refine pr_V (as := []) (rest := [.int q48, .ref h50.2.1, .ref h50.2.1, va_rf x2]) dX7_product_71 cv_7_88 hcl rfl rfl rfl rfl (lb rfl) (Nat.le_trans (ps_c (lb rfl) (ps_c (lb rfl) (ps_c (lb rfl) (ps_c (Nat.le_of_eq (pv_c _)) ps_0)))) (lb rfl)) (lb rfl) (ok_F_X7_factor (fun e => pm_E_up 0 (hfU e)) hq) ?_
            obtain ⟨q52, hq52, hF⟩ := po_b hF
            refine pr_I dX7_product_74 ci_7_91 (as := [.int q48, va_rf q51.1]) (rest := [.ref h50.2.1, va_rf x2]) rfl rfl (pa_c rfl (pa_c (pv_1 _) rfl)) (lb rfl) (Nat.le_trans (ps_c (lb rfl) (ps_c (Nat.le_of_eq (pv_c _)) ps_0)) (lb rfl)) (lb rfl) (ok_F_X9_init hq52) ?_
            obtain ⟨r53, hr53, hF⟩ := po_b hF
            rw [pv_s hr53]
            obtain ⟨h54, hh54, hF⟩ := po_b hF
            refine pr_put dX7_product_77 tp_7_94 (hh54) ?_
            refine pr_aload_n dX7_product_80 rfl ?_
            obtain ⟨v55, hv55, hF⟩ := po_b hF
            refine pr_getV dX7_product_81 tf_7_94 (pm_fV_v hv55) ?_
            refine pr_astore_n (L' := [.ref x0, w1, va_rf v55, .int q48]) dX7_product_84 (pv_f _) (pm_st_w (i := 1) rfl rfl hw1 rfl) ?_
            refine pr_goto (tgt := 15) dX7_product_85 (by decide) ?_
            exact ih hF hw1 rfl hk
          · refine pr_icT (tgt := 88) dX7_product_46 (by decide) (pc_neT hc) ?_
            cases hF
            exact hk _ (pv_nl _) _ hw3
def F_X7_product (fU : pm_H → Nat → Option ((Option Nat) × pm_H)) (n : Nat) (h : pm_H) (a0 : Nat) : Option ((Option Nat) × pm_H) :=
  (if pm_cl_ (pm_nw h 7) a0 = some 6 then F_X7_factor fU n (pm_nw h 7) a0 else none).bind fun q1 =>
  (F_X9_init q1.2 h.2.1 0 q1.1).bind fun q2 =>
  (L_X7_product_15 fU n a0 (some h.2.1) q2).bind fun q56 =>
  some ((some h.2.1), q56)
theorem ok_F_X7_product {d n : Nat} {h : pm_H} {a0 : Nat} {q : (Option Nat) × pm_H} {fU : pm_H → Nat → Option ((Option Nat) × pm_H)} (hfU : ∀ {h : pm_H} {a : Nat} {q : (Option Nat) × pm_H}, fU h a = some q → pm_E d 7 cX7_sum (some (.object "AnyKeyTown$Sum")) 0 (pm_en [.ref a] 4) [] h (some (va_rf q.1), q.2)) (hF : F_X7_product fU n h a0 = some q) : pm_E (d + 5) 7 cX7_product (some (.object "AnyKeyTown$Sum")) 0 [.ref a0, pm_D, pm_D, pm_D] [] h (some (va_rf q.1), q.2) := by
  unfold F_X7_product at hF
  refine pr_new (c := 7) dX7_product_0 rfl ?_
  refine pr_dup dX7_product_3 rfl ?_
  refine pr_iconst (v := 0) dX7_product_4 (kc_0) ?_
  refine pr_aload_n dX7_product_5 rfl ?_
  obtain ⟨q1, hq1, hF⟩ := po_b hF
  refine po_i hq1 (fun hcl hq => ?_) (fun _ hq => nomatch hq)
  refine pr_V (as := []) (rest := [.int 0, .ref h.2.1, .ref h.2.1]) dX7_product_6 cv_7_88 hcl rfl rfl rfl rfl (lb rfl) (lb rfl) (lb rfl) (ok_F_X7_factor (fun e => pm_E_up 0 (hfU e)) hq) ?_
  obtain ⟨q2, hq2, hF⟩ := po_b hF
  refine pr_I dX7_product_9 ci_7_91 (as := [.int 0, va_rf q1.1]) (rest := [.ref h.2.1]) rfl rfl (pa_c rfl (pa_c (pv_1 _) rfl)) (lb rfl) (lb rfl) (lb rfl) (ok_F_X9_init hq2) ?_
  refine pr_astore_n (L' := [.ref a0, .ref h.2.1, pm_D, pm_D]) dX7_product_12 (Or.inr ⟨_, rfl⟩) rfl ?_
  refine pr_aload_n dX7_product_13 rfl ?_
  refine pr_astore_n (L' := [.ref a0, .ref h.2.1, .ref h.2.1, pm_D]) dX7_product_14 (Or.inr ⟨_, rfl⟩) rfl ?_
  obtain ⟨q56, hq56, hF⟩ := po_b hF
  refine ok_L_X7_product_15 hfU n hq56 rfl rfl (fun z2 hz2 z3 hz3 => ?_)
  refine pr_aload_n dX7_product_88 rfl ?_
  cases hF
  exact pr_aret dX7_product_89 rfl (Or.inr ⟨_, rfl⟩) rfl

def L_X7_sum_15 (fU : pm_H → Nat → Option ((Option Nat) × pm_H)) : Nat → Nat → (Option Nat) → pm_H → Option (pm_H)
  | 0, _, _, _ => none
  | n + 1, x0, x2, h =>
    (if pm_cl_ h x0 = some 6 then F_X7_isGood h x0 else none).bind fun q20 =>
    if q20 = 0 then
      some h
    else
      (if pm_cl_ h x0 = some 6 then F_X7_here h x0 else none).bind fun q21 =>
      if q21 = 43 then
        (if pm_cl_ h x0 = some 6 then F_X7_here h x0 else none).bind fun q22 =>
        (pm_fI [(6, 2)] h x0).bind fun v23 =>
        (pm_put [(6, 2, 0)] h x0 (.int (v23 + 1))).bind fun h24 =>
        (if pm_cl_ (pm_nw h24 7) x0 = some 6 then F_X7_product fU n (pm_nw h24 7) x0 else none).bind fun q25 =>
        (F_X9_init q25.2 h24.2.1 q22 q25.1).bind fun q26 =>
        (x2).bind fun r27 =>
        (pm_put [(7, 2, 2)] q26 r27 (.ref h24.2.1)).bind fun h28 =>
        (pm_fV [(7, 2)] h28 r27).bind fun v29 =>
        L_X7_sum_15 fU n x0 v29 h28
      else
        (if pm_cl_ h x0 = some 6 then F_X7_here h x0 else none).bind fun q30 =>
        if q30 = 45 then
          (if pm_cl_ h x0 = some 6 then F_X7_here h x0 else none).bind fun q31 =>
          (pm_fI [(6, 2)] h x0).bind fun v32 =>
          (pm_put [(6, 2, 0)] h x0 (.int (v32 + 1))).bind fun h33 =>
          (if pm_cl_ (pm_nw h33 7) x0 = some 6 then F_X7_product fU n (pm_nw h33 7) x0 else none).bind fun q34 =>
          (F_X9_init q34.2 h33.2.1 q31 q34.1).bind fun q35 =>
          (x2).bind fun r36 =>
          (pm_put [(7, 2, 2)] q35 r36 (.ref h33.2.1)).bind fun h37 =>
          (pm_fV [(7, 2)] h37 r36).bind fun v38 =>
          L_X7_sum_15 fU n x0 v38 h37
        else
          some h
theorem ok_L_X7_sum_15 {d : Nat} {fU : pm_H → Nat → Option ((Option Nat) × pm_H)} (hfU : ∀ {h : pm_H} {a : Nat} {q : (Option Nat) × pm_H}, fU h a = some q → pm_E d 7 cX7_sum (some (.object "AnyKeyTown$Sum")) 0 (pm_en [.ref a] 4) [] h (some (va_rf q.1), q.2)) : ∀ (n : Nat) {x0 : Nat} {x2 : Option Nat} {w1 w3 : Value} {h : pm_H} {q : pm_H} {res : Option Value × pm_H}, L_X7_sum_15 fU n x0 x2 h = some q → pm_nolong w1 = true → pm_nolong w3 = true → (∀ z2 : Value, pm_nolong z2 = true → ∀ z3 : Value, pm_nolong z3 = true → pm_E (d + 6) 7 cX7_sum (some (.object "AnyKeyTown$Sum")) 79 [.ref x0, w1, z2, z3] [] q res) → pm_E (d + 6) 7 cX7_sum (some (.object "AnyKeyTown$Sum")) 15 [.ref x0, w1, va_rf x2, w3] [] h res := by
  intro n
  induction n with
  | zero =>
    intro x0 x2 w1 w3 h q res hF hw1 hw3 hk
    rw [L_X7_sum_15] at hF
    cases hF
  | succ n ih =>
    intro x0 x2 w1 w3 h q res hF hw1 hw3 hk
    rw [L_X7_sum_15] at hF
    refine pr_aload_n dX7_sum_15 rfl ?_
    obtain ⟨q20, hq20, hF⟩ := po_b hF
    refine po_i hq20 (fun hcl hq => ?_) (fun _ hq => nomatch hq)
    refine pr_V (as := []) (rest := []) dX7_sum_16 cv_7_43 hcl rfl rfl rfl rfl (lb rfl) (lb rfl) (lb rfl) (ok_F_X7_isGood hq) ?_
    refine po_i hF (fun hc hF => ?_) (fun hc hF => ?_)
    · refine pr_ifT (tgt := 79) dX7_sum_19 (by decide) (pc_eqT hc) ?_
      cases hF
      exact hk _ (pv_nl _) _ hw3
    · refine pr_ifF (tgt := 79) dX7_sum_19 (by decide) (pc_eqF hc) ?_
      refine pr_aload_n dX7_sum_22 rfl ?_
      obtain ⟨q21, hq21, hF⟩ := po_b hF
      refine po_i hq21 (fun hcl hq => ?_) (fun _ hq => nomatch hq)
      refine pr_V (as := []) (rest := []) dX7_sum_23 cv_7_39 hcl rfl rfl rfl rfl (lb rfl) (lb rfl) (lb rfl) (ok_F_X7_here hq) ?_
      refine pr_bipush (v := 43) dX7_sum_26 (kb_43) ?_
      refine po_i hF (fun hc hF => ?_) (fun hc hF => ?_)
      · refine pr_icT (tgt := 40) dX7_sum_28 (by decide) (pc_eqT hc) ?_
        refine pr_aload_n dX7_sum_40 rfl ?_
        obtain ⟨q22, hq22, hF⟩ := po_b hF
        refine po_i hq22 (fun hcl hq => ?_) (fun _ hq => nomatch hq)
        refine pr_V (as := []) (rest := []) dX7_sum_41 cv_7_39 hcl rfl rfl rfl rfl (lb rfl) (lb rfl) (lb rfl) (ok_F_X7_here hq) ?_
        refine pr_istore_n (L' := [.ref x0, w1, va_rf x2, .int q22]) dX7_sum_44 (pm_st_w (i := 2) rfl rfl (pv_nl _) rfl) ?_
        refine pr_aload_n dX7_sum_45 rfl ?_
        refine pr_dup dX7_sum_46 rfl ?_
        obtain ⟨v23, hv23, hF⟩ := po_b hF
        refine pr_getI dX7_sum_47 tf_7_26 (hv23) ?_
        refine pr_iconst (v := 1) dX7_sum_50 (kc_1) ?_
        refine pr_iadd dX7_sum_51 ?_
        obtain ⟨h24, hh24, hF⟩ := po_b hF
        refine pr_put dX7_sum_52 tp_7_26 (hh24) ?_
        refine pr_aload_n (x := va_rf x2) dX7_sum_55 (pv_la rfl) ?_
        refine pr_new (c := 7) dX7_sum_56 rfl ?_
        refine pr_dup dX7_sum_59 rfl ?_
        refine pr_iload_n dX7_sum_60 rfl ?_
        refine pr_aload_n dX7_sum_61 rfl ?_
        obtain ⟨q25, hq25, hF⟩ := po_b hF
        refine po_i hq25 (fun hcl hq => ?_) (fun _ hq => nomatch hq)
        refine pr_V (as := []) (rest := [.int q22, .ref h24.2.1, .ref h24.2.1, va_rf x2]) dX7_sum_62 cv_7_98 hcl rfl rfl rfl rfl (lb rfl) (Nat.le_trans (ps_c (lb rfl) (ps_c (lb rfl) (ps_c (lb rfl) (ps_c (Nat.le_of_eq (pv_c _)) ps_0)))) (lb rfl)) (lb rfl) (ok_F_X7_product (fun e => pm_E_up 0 (hfU e)) hq) ?_
        obtain ⟨q26, hq26, hF⟩ := po_b hF
        refine pr_I dX7_sum_65 ci_7_91 (as := [.int q22, va_rf q25.1]) (rest := [.ref h24.2.1, va_rf x2]) rfl rfl (pa_c rfl (pa_c (pv_1 _) rfl)) (lb rfl) (Nat.le_trans (ps_c (lb rfl) (ps_c (Nat.le_of_eq (pv_c _)) ps_0)) (lb rfl)) (lb rfl) (ok_F_X9_init hq26) ?_
        obtain ⟨r27, hr27, hF⟩ := po_b hF
        rw [pv_s hr27]
        obtain ⟨h28, hh28, hF⟩ := po_b hF
        refine pr_put dX7_sum_68 tp_7_94 (hh28) ?_
        refine pr_aload_n dX7_sum_71 rfl ?_
        obtain ⟨v29, hv29, hF⟩ := po_b hF
        refine pr_getV dX7_sum_72 tf_7_94 (pm_fV_v hv29) ?_
        refine pr_astore_n (L' := [.ref x0, w1, va_rf v29, .int q22]) dX7_sum_75 (pv_f _) (pm_st_w (i := 1) rfl rfl hw1 rfl) ?_
        refine pr_goto (tgt := 15) dX7_sum_76 (by decide) ?_
        exact ih hF hw1 rfl hk
      · refine pr_icF (tgt := 40) dX7_sum_28 (by decide) (pc_eqF hc) ?_
        refine pr_aload_n dX7_sum_31 rfl ?_
        obtain ⟨q30, hq30, hF⟩ := po_b hF
        refine po_i hq30 (fun hcl hq => ?_) (fun _ hq => nomatch hq)
        refine pr_V (as := []) (rest := []) dX7_sum_32 cv_7_39 hcl rfl rfl rfl rfl (lb rfl) (lb rfl) (lb rfl) (ok_F_X7_here hq) ?_
        refine pr_bipush (v := 45) dX7_sum_35 (kb_45) ?_
        refine po_i hF (fun hc hF => ?_) (fun hc hF => ?_)
        · refine pr_icF (tgt := 79) dX7_sum_37 (by decide) (pc_neF hc) ?_
          refine pr_aload_n dX7_sum_40 rfl ?_
          obtain ⟨q31, hq31, hF⟩ := po_b hF
          refine po_i hq31 (fun hcl hq => ?_) (fun _ hq => nomatch hq)
          refine pr_V (as := []) (rest := []) dX7_sum_41 cv_7_39 hcl rfl rfl rfl rfl (lb rfl) (lb rfl) (lb rfl) (ok_F_X7_here hq) ?_
          refine pr_istore_n (L' := [.ref x0, w1, va_rf x2, .int q31]) dX7_sum_44 (pm_st_w (i := 2) rfl rfl (pv_nl _) rfl) ?_
          refine pr_aload_n dX7_sum_45 rfl ?_
          refine pr_dup dX7_sum_46 rfl ?_
          obtain ⟨v32, hv32, hF⟩ := po_b hF
          refine pr_getI dX7_sum_47 tf_7_26 (hv32) ?_
          refine pr_iconst (v := 1) dX7_sum_50 (kc_1) ?_
          refine pr_iadd dX7_sum_51 ?_
          obtain ⟨h33, hh33, hF⟩ := po_b hF
          refine pr_put dX7_sum_52 tp_7_26 (hh33) ?_
          refine pr_aload_n (x := va_rf x2) dX7_sum_55 (pv_la rfl) ?_
          refine pr_new (c := 7) dX7_sum_56 rfl ?_
          refine pr_dup dX7_sum_59 rfl ?_
          refine pr_iload_n dX7_sum_60 rfl ?_
          refine pr_aload_n dX7_sum_61 rfl ?_
          obtain ⟨q34, hq34, hF⟩ := po_b hF
          refine po_i hq34 (fun hcl hq => ?_) (fun _ hq => nomatch hq)
          refine pr_V (as := []) (rest := [.int q31, .ref h33.2.1, .ref h33.2.1, va_rf x2]) dX7_sum_62 cv_7_98 hcl rfl rfl rfl rfl (lb rfl) (Nat.le_trans (ps_c (lb rfl) (ps_c (lb rfl) (ps_c (lb rfl) (ps_c (Nat.le_of_eq (pv_c _)) ps_0)))) (lb rfl)) (lb rfl) (ok_F_X7_product (fun e => pm_E_up 0 (hfU e)) hq) ?_
          obtain ⟨q35, hq35, hF⟩ := po_b hF
          refine pr_I dX7_sum_65 ci_7_91 (as := [.int q31, va_rf q34.1]) (rest := [.ref h33.2.1, va_rf x2]) rfl rfl (pa_c rfl (pa_c (pv_1 _) rfl)) (lb rfl) (Nat.le_trans (ps_c (lb rfl) (ps_c (Nat.le_of_eq (pv_c _)) ps_0)) (lb rfl)) (lb rfl) (ok_F_X9_init hq35) ?_
          obtain ⟨r36, hr36, hF⟩ := po_b hF
          rw [pv_s hr36]
          obtain ⟨h37, hh37, hF⟩ := po_b hF
          refine pr_put dX7_sum_68 tp_7_94 (hh37) ?_
          refine pr_aload_n dX7_sum_71 rfl ?_
          obtain ⟨v38, hv38, hF⟩ := po_b hF
          refine pr_getV dX7_sum_72 tf_7_94 (pm_fV_v hv38) ?_
          refine pr_astore_n (L' := [.ref x0, w1, va_rf v38, .int q31]) dX7_sum_75 (pv_f _) (pm_st_w (i := 1) rfl rfl hw1 rfl) ?_
          refine pr_goto (tgt := 15) dX7_sum_76 (by decide) ?_
          exact ih hF hw1 rfl hk
        · refine pr_icT (tgt := 79) dX7_sum_37 (by decide) (pc_neT hc) ?_
          cases hF
          exact hk _ (pv_nl _) _ hw3
def F_X7_sum (fU : pm_H → Nat → Option ((Option Nat) × pm_H)) (n : Nat) (h : pm_H) (a0 : Nat) : Option ((Option Nat) × pm_H) :=
  (if pm_cl_ (pm_nw h 7) a0 = some 6 then F_X7_product fU n (pm_nw h 7) a0 else none).bind fun q1 =>
  (F_X9_init q1.2 h.2.1 0 q1.1).bind fun q2 =>
  (L_X7_sum_15 fU n a0 (some h.2.1) q2).bind fun q39 =>
  some ((some h.2.1), q39)
theorem ok_F_X7_sum {d n : Nat} {h : pm_H} {a0 : Nat} {q : (Option Nat) × pm_H} {fU : pm_H → Nat → Option ((Option Nat) × pm_H)} (hfU : ∀ {h : pm_H} {a : Nat} {q : (Option Nat) × pm_H}, fU h a = some q → pm_E d 7 cX7_sum (some (.object "AnyKeyTown$Sum")) 0 (pm_en [.ref a] 4) [] h (some (va_rf q.1), q.2)) (hF : F_X7_sum fU n h a0 = some q) : pm_E (d + 6) 7 cX7_sum (some (.object "AnyKeyTown$Sum")) 0 [.ref a0, pm_D, pm_D, pm_D] [] h (some (va_rf q.1), q.2) := by
  unfold F_X7_sum at hF
  refine pr_new (c := 7) dX7_sum_0 rfl ?_
  refine pr_dup dX7_sum_3 rfl ?_
  refine pr_iconst (v := 0) dX7_sum_4 (kc_0) ?_
  refine pr_aload_n dX7_sum_5 rfl ?_
  obtain ⟨q1, hq1, hF⟩ := po_b hF
  refine po_i hq1 (fun hcl hq => ?_) (fun _ hq => nomatch hq)
  refine pr_V (as := []) (rest := [.int 0, .ref h.2.1, .ref h.2.1]) dX7_sum_6 cv_7_98 hcl rfl rfl rfl rfl (lb rfl) (lb rfl) (lb rfl) (ok_F_X7_product (fun e => pm_E_up 0 (hfU e)) hq) ?_
  obtain ⟨q2, hq2, hF⟩ := po_b hF
  refine pr_I dX7_sum_9 ci_7_91 (as := [.int 0, va_rf q1.1]) (rest := [.ref h.2.1]) rfl rfl (pa_c rfl (pa_c (pv_1 _) rfl)) (lb rfl) (lb rfl) (lb rfl) (ok_F_X9_init hq2) ?_
  refine pr_astore_n (L' := [.ref a0, .ref h.2.1, pm_D, pm_D]) dX7_sum_12 (Or.inr ⟨_, rfl⟩) rfl ?_
  refine pr_aload_n dX7_sum_13 rfl ?_
  refine pr_astore_n (L' := [.ref a0, .ref h.2.1, .ref h.2.1, pm_D]) dX7_sum_14 (Or.inr ⟨_, rfl⟩) rfl ?_
  obtain ⟨q39, hq39, hF⟩ := po_b hF
  refine ok_L_X7_sum_15 hfU n hq39 rfl rfl (fun z2 hz2 z3 hz3 => ?_)
  refine pr_aload_n dX7_sum_79 rfl ?_
  cases hF
  exact pr_aret dX7_sum_80 rfl (Or.inr ⟨_, rfl⟩) rfl
def K_X7_sum : Nat → Nat → pm_H → Nat → Option ((Option Nat) × pm_H)
  | 0, _, _, _ => none
  | k + 1, n, h, a => F_X7_sum (K_X7_sum k n) n h a
theorem ok_K_X7_sum_ {d n : Nat} : ∀ (k : Nat) {h : pm_H} {a : Nat} {q : (Option Nat) × pm_H}, K_X7_sum k n h a = some q → pm_E (d + 6 * k) 7 cX7_sum (some (.object "AnyKeyTown$Sum")) 0 (pm_en [.ref a] 4) [] h (some (va_rf q.1), q.2) := by
  intro k
  induction k with
  | zero => intro h a q hF; rw [K_X7_sum] at hF; cases hF
  | succ k ih =>
    intro h a q hF
    rw [K_X7_sum] at hF
    exact ok_F_X7_sum (d := d + 6 * k) (fun e => ih e) hF
def G_X7_sum (n : Nat) (h : pm_H) (a : Nat) : Option ((Option Nat) × pm_H) := K_X7_sum 10 n h a
theorem ok_G_X7_sum {d n : Nat} {h : pm_H} {a : Nat} {q : (Option Nat) × pm_H} (hF : G_X7_sum n h a = some q) : pm_E (d + 60) 7 cX7_sum (some (.object "AnyKeyTown$Sum")) 0 [.ref a, pm_D, pm_D, pm_D] [] h (some (va_rf q.1), q.2) := ok_K_X7_sum_ 10 hF

def F_X15_init (h : pm_H) (a0 : Nat) (o1 : Option Nat) (x2 : Int32) (o3 : Option Nat) : Option (pm_H) :=
  (F_X12_init a0).bind fun q1 =>
  (pm_put [(12, 0, 2)] h a0 (va_rf o1)).bind fun h2 =>
  (pm_put [(12, 2, 0)] h2 a0 (.int x2)).bind fun h3 =>
  (pm_put [(12, 1, 2)] h3 a0 (va_rf o3)).bind fun h4 =>
  some h4
theorem ok_F_X15_init {d : Nat} {h : pm_H} {a0 : Nat} {o1 : Option Nat} {x2 : Int32} {o3 : Option Nat} {q : pm_H} (hF : F_X15_init h a0 o1 x2 o3 = some q) : pm_E (d + 1) 65 cX15_init (none) 0 [.ref a0, va_rf o1, .int x2, va_rf o3] [] h (none, q) := by
  unfold F_X15_init at hF
  refine pr_aload_n dX15_init_0 rfl ?_
  obtain ⟨q1, hq1, hF⟩ := po_b hF
  refine pr_I dX15_init_1 ci_65_1 (as := []) (rest := []) rfl rfl rfl (lb rfl) (lb rfl) (lb rfl) (ok_F_X12_init hq1) ?_
  refine pr_aload_n dX15_init_4 rfl ?_
  refine pr_aload_n (x := va_rf o1) dX15_init_5 (pv_la rfl) ?_
  obtain ⟨h2, hh2, hF⟩ := po_b hF
  refine pr_put dX15_init_6 tp_65_7 (hh2) ?_
  refine pr_aload_n dX15_init_9 rfl ?_
  refine pr_iload_n dX15_init_10 rfl ?_
  obtain ⟨h3, hh3, hF⟩ := po_b hF
  refine pr_put dX15_init_11 tp_65_13 (hh3) ?_
  refine pr_aload_n dX15_init_14 rfl ?_
  refine pr_aload_n (x := va_rf o3) dX15_init_15 (pv_la rfl) ?_
  obtain ⟨h4, hh4, hF⟩ := po_b hF
  refine pr_put dX15_init_16 tp_65_17 (hh4) ?_
  cases hF
  exact pr_vret dX15_init_19 rfl rfl

def F_X7_piece (fP : pm_H → Nat → Option ((Option Nat) × pm_H)) (n : Nat) (h : pm_H) (a0 : Nat) : Option ((Option Nat) × pm_H) :=
  (if pm_cl_ h a0 = some 6 then F_X7_here h a0 else none).bind fun q1 =>
  if q1 = 33 then
    (if pm_cl_ h a0 = some 6 then F_X7_opens h a0 else none).bind fun q14 =>
    (if pm_cl_ q14 a0 = some 6 then F_X7_isGood q14 a0 else none).bind fun q15 =>
    ((
      if q15 = 0 then
        some (none, q14)
      else
        (if pm_cl_ q14 a0 = some 6 then fP q14 a0 else none).bind fun q16 =>
        some (q16.1, q16.2)
    ) : Option ((Option Nat) × pm_H)).bind fun q17 =>
    (pm_fI [(6, 3)] q17.2 a0).bind fun v18 =>
    (pm_put [(6, 3, 0)] q17.2 a0 (.int (v18 - 1))).bind fun h19 =>
    (F_X14_init (pm_nw h19 11) h19.2.1 q17.1).bind fun q20 =>
    some ((some h19.2.1), q20)
  else
  if q1 = 40 then
    (if pm_cl_ h a0 = some 6 then F_X7_condition fP n h a0 else none).bind fun q13 =>
    some (q13.1, q13.2)
  else
    (if pm_cl_ h a0 = some 6 then G_X7_sum n h a0 else none).bind fun q2 =>
    (if pm_cl_ q2.2 a0 = some 6 then F_X7_here q2.2 a0 else none).bind fun q3 =>
    ((
      if q3 = 60 then
        some q2.2
      else
      if q3 = 62 then
        some q2.2
      else
      if q3 = 61 then
        some q2.2
      else
        (pm_fI [(6, 2)] q2.2 a0).bind fun v4 =>
        (if pm_cl_ q2.2 a0 = some 6 then F_X7_bad q2.2 a0 1 v4 else none).bind fun q5 =>
        some q5
    ) : Option (pm_H)).bind fun q6 =>
    (pm_fI [(6, 2)] q6 a0).bind fun v7 =>
    (pm_put [(6, 2, 0)] q6 a0 (.int (v7 + 1))).bind fun h8 =>
    (if pm_cl_ (pm_nw h8 12) a0 = some 6 then F_X7_isGood (pm_nw h8 12) a0 else none).bind fun q9 =>
    if q9 = 0 then
      (F_X15_init (pm_nw h8 12) h8.2.1 q2.1 q3 none).bind fun q10 =>
      some ((some h8.2.1), q10)
    else
      (if pm_cl_ (pm_nw h8 12) a0 = some 6 then G_X7_sum n (pm_nw h8 12) a0 else none).bind fun q11 =>
      (F_X15_init q11.2 h8.2.1 q2.1 q3 q11.1).bind fun q12 =>
      some ((some h8.2.1), q12)
theorem ok_F_X7_piece {d n : Nat} {h : pm_H} {a0 : Nat} {q : (Option Nat) × pm_H} {fP : pm_H → Nat → Option ((Option Nat) × pm_H)} (hfP : ∀ {h : pm_H} {a : Nat} {q : (Option Nat) × pm_H}, fP h a = some q → pm_E d 7 cX7_piece (some (.object "AnyKeyTown$Condition")) 0 (pm_en [.ref a] 4) [] h (some (va_rf q.1), q.2)) (hF : F_X7_piece fP n h a0 = some q) : pm_E (d + 61) 7 cX7_piece (some (.object "AnyKeyTown$Condition")) 0 [.ref a0, pm_D, pm_D, pm_D] [] h (some (va_rf q.1), q.2) := by
  unfold F_X7_piece at hF
  refine pr_aload_n dX7_piece_0 rfl ?_
  obtain ⟨q1, hq1, hF⟩ := po_b hF
  refine po_i hq1 (fun hcl hq => ?_) (fun _ hq => nomatch hq)
  refine pr_V (as := []) (rest := []) dX7_piece_1 cv_7_39 hcl rfl rfl rfl rfl (lb rfl) (lb rfl) (lb rfl) (ok_F_X7_here hq) ?_
  refine pr_istore_n (L' := [.ref a0, .int q1, pm_D, pm_D]) dX7_piece_4 rfl ?_
  refine pr_iload_n dX7_piece_5 rfl ?_
  refine pr_bipush (v := 33) dX7_piece_6 (kb_33) ?_
  refine po_i hF (fun hc hF => ?_) (fun hc hF => ?_)
  · refine pr_icF (tgt := 50) dX7_piece_8 (by decide) (pc_neF hc) ?_
    refine pr_aload_n dX7_piece_11 rfl ?_
    obtain ⟨q14, hq14, hF⟩ := po_b hF
    refine po_i hq14 (fun hcl hq => ?_) (fun _ hq => nomatch hq)
    refine pr_V (as := []) (rest := []) dX7_piece_12 cv_7_57 hcl rfl rfl rfl rfl (lb rfl) (lb rfl) (lb rfl) (ok_F_X7_opens hq) ?_
    refine pr_aload_n dX7_piece_15 rfl ?_
    obtain ⟨q15, hq15, hF⟩ := po_b hF
    refine po_i hq15 (fun hcl hq => ?_) (fun _ hq => nomatch hq)
    refine pr_V (as := []) (rest := []) dX7_piece_16 cv_7_43 hcl rfl rfl rfl rfl (lb rfl) (lb rfl) (lb rfl) (ok_F_X7_isGood hq) ?_
    obtain ⟨q17, hq17, hF⟩ := po_b hF
    have J30 : pm_E (d + 61) 7 cX7_piece (some (.object "AnyKeyTown$Condition")) 30 [.ref a0, .int q1, pm_D, pm_D] [va_rf q17.1] q17.2 (some (va_rf q.1), q.2) := by
      refine pr_astore_n (L' := [.ref a0, .int q1, va_rf q17.1, pm_D]) dX7_piece_30 (pv_f _) rfl ?_
      refine pr_aload_n dX7_piece_31 rfl ?_
      refine pr_dup dX7_piece_32 rfl ?_
      obtain ⟨v18, hv18, hF⟩ := po_b hF
      refine pr_getI dX7_piece_33 tf_7_54 (hv18) ?_
      refine pr_iconst (v := 1) dX7_piece_36 (kc_1) ?_
      refine pr_isub dX7_piece_37 ?_
      obtain ⟨h19, hh19, hF⟩ := po_b hF
      refine pr_put dX7_piece_38 tp_7_54 (hh19) ?_
      refine pr_new (c := 11) dX7_piece_41 rfl ?_
      refine pr_dup dX7_piece_44 rfl ?_
      refine pr_aload_n (x := va_rf q17.1) dX7_piece_45 (pv_la rfl) ?_
      obtain ⟨q20, hq20, hF⟩ := po_b hF
      refine pr_I dX7_piece_46 ci_7_107 (as := [va_rf q17.1]) (rest := [.ref h19.2.1]) rfl rfl (pa_c (pv_1 _) rfl) (lb rfl) (lb rfl) (lb rfl) (ok_F_X14_init hq20) ?_
      cases hF
      exact pr_aret dX7_piece_49 rfl (Or.inr ⟨_, rfl⟩) rfl
    clear hF
    have hF := hq17
    refine po_i hF (fun hc hF => ?_) (fun hc hF => ?_)
    · refine pr_ifT (tgt := 29) dX7_piece_19 (by decide) (pc_eqT hc) ?_
      refine pr_null dX7_piece_29 ?_
      cases hF
      exact J30
    · refine pr_ifF (tgt := 29) dX7_piece_19 (by decide) (pc_eqF hc) ?_
      refine pr_aload_n dX7_piece_22 rfl ?_
      obtain ⟨q16, hq16, hF⟩ := po_b hF
      refine po_i hq16 (fun hcl hq => ?_) (fun _ hq => nomatch hq)
      refine pr_V (as := []) (rest := []) dX7_piece_23 cv_7_101 hcl rfl rfl rfl rfl (lb rfl) (lb rfl) (lb rfl) (pm_E_up 60 (hfP hq)) ?_
      refine pr_goto (tgt := 30) dX7_piece_26 (by decide) ?_
      cases hF
      exact J30
  · refine pr_icT (tgt := 50) dX7_piece_8 (by decide) (pc_neT hc) ?_
    refine pr_iload_n dX7_piece_50 rfl ?_
    refine pr_bipush (v := 40) dX7_piece_51 (kb_40) ?_
    refine po_i hF (fun hc hF => ?_) (fun hc hF => ?_)
    · refine pr_icF (tgt := 61) dX7_piece_53 (by decide) (pc_neF hc) ?_
      refine pr_aload_n dX7_piece_56 rfl ?_
      obtain ⟨q13, hq13, hF⟩ := po_b hF
      refine po_i hq13 (fun hcl hq => ?_) (fun _ hq => nomatch hq)
      refine pr_V (as := []) (rest := []) dX7_piece_57 cv_7_110 hcl rfl rfl rfl rfl (lb rfl) (lb rfl) (lb rfl) (ok_F_X7_condition (fun e => pm_E_up 57 (hfP e)) hq) ?_
      cases hF
      exact pr_aret dX7_piece_60 rfl (pv_f _) rfl
    · refine pr_icT (tgt := 61) dX7_piece_53 (by decide) (pc_neT hc) ?_
      refine pr_aload_n dX7_piece_61 rfl ?_
      obtain ⟨q2, hq2, hF⟩ := po_b hF
      refine po_i hq2 (fun hcl hq => ?_) (fun _ hq => nomatch hq)
      refine pr_V (as := []) (rest := []) dX7_piece_62 cv_7_60 hcl rfl rfl rfl rfl (lb rfl) (lb rfl) (lb rfl) (ok_G_X7_sum hq) ?_
      refine pr_astore_n (L' := [.ref a0, .int q1, va_rf q2.1, pm_D]) dX7_piece_65 (pv_f _) rfl ?_
      refine pr_aload_n dX7_piece_66 rfl ?_
      obtain ⟨q3, hq3, hF⟩ := po_b hF
      refine po_i hq3 (fun hcl hq => ?_) (fun _ hq => nomatch hq)
      refine pr_V (as := []) (rest := []) dX7_piece_67 cv_7_39 hcl rfl rfl rfl rfl (lb rfl) (lb rfl) (lb rfl) (ok_F_X7_here hq) ?_
      refine pr_istore_n (L' := [.ref a0, .int q1, va_rf q2.1, .int q3]) dX7_piece_70 (pm_st_w (i := 2) rfl rfl (pv_nl _) rfl) ?_
      refine pr_iload_n dX7_piece_71 rfl ?_
      refine pr_bipush (v := 60) dX7_piece_72 (kb_60) ?_
      obtain ⟨q6, hq6, hF⟩ := po_b hF
      have J98 : pm_E (d + 61) 7 cX7_piece (some (.object "AnyKeyTown$Condition")) 98 [.ref a0, .int q1, va_rf q2.1, .int q3] [] q6 (some (va_rf q.1), q.2) := by
        refine pr_aload_n dX7_piece_98 rfl ?_
        refine pr_dup dX7_piece_99 rfl ?_
        obtain ⟨v7, hv7, hF⟩ := po_b hF
        refine pr_getI dX7_piece_100 tf_7_26 (hv7) ?_
        refine pr_iconst (v := 1) dX7_piece_103 (kc_1) ?_
        refine pr_iadd dX7_piece_104 ?_
        obtain ⟨h8, hh8, hF⟩ := po_b hF
        refine pr_put dX7_piece_105 tp_7_26 (hh8) ?_
        refine pr_new (c := 12) dX7_piece_108 rfl ?_
        refine pr_dup dX7_piece_111 rfl ?_
        refine pr_aload_n (x := va_rf q2.1) dX7_piece_112 (pv_la rfl) ?_
        refine pr_iload_n dX7_piece_113 rfl ?_
        refine pr_aload_n dX7_piece_114 rfl ?_
        obtain ⟨q9, hq9, hF⟩ := po_b hF
        refine po_i hq9 (fun hcl hq => ?_) (fun _ hq => nomatch hq)
        refine pr_V (as := []) (rest := [.int q3, va_rf q2.1, .ref h8.2.1, .ref h8.2.1]) dX7_piece_115 cv_7_43 hcl rfl rfl rfl rfl (lb rfl) (Nat.le_trans (ps_c (lb rfl) (ps_c (Nat.le_of_eq (pv_c _)) (ps_c (lb rfl) (ps_c (lb rfl) ps_0)))) (lb rfl)) (lb rfl) (ok_F_X7_isGood hq) ?_
        refine po_i hF (fun hc hF => ?_) (fun hc hF => ?_)
        · refine pr_ifT (tgt := 128) dX7_piece_118 (by decide) (pc_eqT hc) ?_
          refine pr_null dX7_piece_128 ?_
          obtain ⟨q10, hq10, hF⟩ := po_b hF
          refine pr_I dX7_piece_129 ci_7_115 (as := [va_rf q2.1, .int q3, .null]) (rest := [.ref h8.2.1]) rfl rfl (pa_c (pv_1 _) (pa_c rfl (pa_c rfl rfl))) (lb rfl) (lb rfl) (lb rfl) (ok_F_X15_init hq10) ?_
          cases hF
          exact pr_aret dX7_piece_132 rfl (Or.inr ⟨_, rfl⟩) rfl
        · refine pr_ifF (tgt := 128) dX7_piece_118 (by decide) (pc_eqF hc) ?_
          refine pr_aload_n dX7_piece_121 rfl ?_
          obtain ⟨q11, hq11, hF⟩ := po_b hF
          refine po_i hq11 (fun hcl hq => ?_) (fun _ hq => nomatch hq)
          refine pr_V (as := []) (rest := [.int q3, va_rf q2.1, .ref h8.2.1, .ref h8.2.1]) dX7_piece_122 cv_7_60 hcl rfl rfl rfl rfl (lb rfl) (Nat.le_trans (ps_c (lb rfl) (ps_c (Nat.le_of_eq (pv_c _)) (ps_c (lb rfl) (ps_c (lb rfl) ps_0)))) (lb rfl)) (lb rfl) (ok_G_X7_sum hq) ?_
          refine pr_goto (tgt := 129) dX7_piece_125 (by decide) ?_
          obtain ⟨q12, hq12, hF⟩ := po_b hF
          refine pr_I dX7_piece_129 ci_7_115 (as := [va_rf q2.1, .int q3, va_rf q11.1]) (rest := [.ref h8.2.1]) rfl rfl (pa_c (pv_1 _) (pa_c rfl (pa_c (pv_1 _) rfl))) (lb rfl) (lb rfl) (lb rfl) (ok_F_X15_init hq12) ?_
          cases hF
          exact pr_aret dX7_piece_132 rfl (Or.inr ⟨_, rfl⟩) rfl
      clear hF
      have hF := hq6
      refine po_i hF (fun hc hF => ?_) (fun hc hF => ?_)
      · refine pr_icT (tgt := 98) dX7_piece_74 (by decide) (pc_eqT hc) ?_
        cases hF
        exact J98
      · refine pr_icF (tgt := 98) dX7_piece_74 (by decide) (pc_eqF hc) ?_
        refine pr_iload_n dX7_piece_77 rfl ?_
        refine pr_bipush (v := 62) dX7_piece_78 (kb_62) ?_
        refine po_i hF (fun hc hF => ?_) (fun hc hF => ?_)
        · refine pr_icT (tgt := 98) dX7_piece_80 (by decide) (pc_eqT hc) ?_
          cases hF
          exact J98
        · refine pr_icF (tgt := 98) dX7_piece_80 (by decide) (pc_eqF hc) ?_
          refine pr_iload_n dX7_piece_83 rfl ?_
          refine pr_bipush (v := 61) dX7_piece_84 (kb_61) ?_
          refine po_i hF (fun hc hF => ?_) (fun hc hF => ?_)
          · refine pr_icT (tgt := 98) dX7_piece_86 (by decide) (pc_eqT hc) ?_
            cases hF
            exact J98
          · refine pr_icF (tgt := 98) dX7_piece_86 (by decide) (pc_eqF hc) ?_
            refine pr_aload_n dX7_piece_89 rfl ?_
            refine pr_iconst (v := 1) dX7_piece_90 (kc_1) ?_
            refine pr_aload_n dX7_piece_91 rfl ?_
            obtain ⟨v4, hv4, hF⟩ := po_b hF
            refine pr_getI dX7_piece_92 tf_7_26 (hv4) ?_
            obtain ⟨q5, hq5, hF⟩ := po_b hF
            refine po_i hq5 (fun hcl hq => ?_) (fun _ hq => nomatch hq)
            refine pr_V (as := [.int 1, .int v4]) (rest := []) dX7_piece_95 cv_7_50 hcl rfl rfl rfl rfl (lb rfl) (lb rfl) (lb rfl) (ok_F_X7_bad hq) ?_
            cases hF
            exact J98
def K_X7_piece : Nat → Nat → pm_H → Nat → Option ((Option Nat) × pm_H)
  | 0, _, _, _ => none
  | k + 1, n, h, a => F_X7_piece (K_X7_piece k n) n h a
theorem ok_K_X7_piece_ {d n : Nat} : ∀ (k : Nat) {h : pm_H} {a : Nat} {q : (Option Nat) × pm_H}, K_X7_piece k n h a = some q → pm_E (d + 61 * k) 7 cX7_piece (some (.object "AnyKeyTown$Condition")) 0 (pm_en [.ref a] 4) [] h (some (va_rf q.1), q.2) := by
  intro k
  induction k with
  | zero => intro h a q hF; rw [K_X7_piece] at hF; cases hF
  | succ k ih =>
    intro h a q hF
    rw [K_X7_piece] at hF
    exact ok_F_X7_piece (d := d + 61 * k) (fun e => ih e) hF
def G_X7_piece (n : Nat) (h : pm_H) (a : Nat) : Option ((Option Nat) × pm_H) := K_X7_piece 10 n h a
theorem ok_G_X7_piece {d n : Nat} {h : pm_H} {a : Nat} {q : (Option Nat) × pm_H} (hF : G_X7_piece n h a = some q) : pm_E (d + 610) 7 cX7_piece (some (.object "AnyKeyTown$Condition")) 0 [.ref a, pm_D, pm_D, pm_D] [] h (some (va_rf q.1), q.2) := ok_K_X7_piece_ 10 hF
def G_X7_condition (n : Nat) (h : pm_H) (a : Nat) : Option ((Option Nat) × pm_H) := F_X7_condition (K_X7_piece 10 n) n h a
theorem ok_G_X7_condition {d n : Nat} {h : pm_H} {a : Nat} {q : (Option Nat) × pm_H} (hF : G_X7_condition n h a = some q) : pm_E (d + 613) 7 cX7_condition (some (.object "AnyKeyTown$Condition")) 0 [.ref a, pm_D, pm_D] [] h (some (va_rf q.1), q.2) := ok_F_X7_condition (d := d + 610) (fun e => ok_K_X7_piece_ 10 e) hF

def F_J2_abs (x0 : Int32) : Option (Int32) :=
  if x0 < 0 then
    some (-x0)
  else
    some x0
theorem ok_F_J2_abs {d : Nat} {h : pm_H} {x0 : Int32} {q : Int32} (hF : F_J2_abs x0 = some q) : pm_E (d + 0) 22 cJ2_abs (some .int) 0 [.int x0] [] h (some (.int q), h) := by
  unfold F_J2_abs at hF
  refine pr_iload_n dJ2_abs_0 rfl ?_
  refine po_i hF (fun hc hF => ?_) (fun hc hF => ?_)
  · refine pr_ifF (tgt := 9) dJ2_abs_1 (by decide) (pc_geF hc) ?_
    refine pr_iload_n dJ2_abs_4 rfl ?_
    refine pr_ineg dJ2_abs_5 ?_
    refine pr_goto (tgt := 10) dJ2_abs_6 (by decide) ?_
    cases hF
    exact pr_iret dJ2_abs_10 rfl rfl rfl
  · refine pr_ifT (tgt := 9) dJ2_abs_1 (by decide) (pc_geT hc) ?_
    refine pr_iload_n dJ2_abs_9 rfl ?_
    cases hF
    exact pr_iret dJ2_abs_10 rfl rfl rfl

def F_J6_bitCount (x0 : Int32) : Option (Int32) :=
  (some (((x0 - ((pm_ushr x0 1) &&& 1431655765)) &&& 858993459) + ((pm_ushr (x0 - ((pm_ushr x0 1) &&& 1431655765)) 2) &&& 858993459))).bind fun x1 =>
  (some (((x1 + (pm_ushr x1 4)) &&& 252645135) + (pm_ushr ((x1 + (pm_ushr x1 4)) &&& 252645135) 8))).bind fun x2 =>
  some ((x2 + (pm_ushr x2 16)) &&& 63)
theorem ok_F_J6_bitCount {d : Nat} {h : pm_H} {x0 : Int32} {q : Int32} (hF : F_J6_bitCount x0 = some q) : pm_E (d + 0) 26 cJ6_bitCount (some .int) 0 [.int x0] [] h (some (.int q), h) := by
  unfold F_J6_bitCount at hF
  refine pr_iload_n dJ6_bitCount_0 rfl ?_
  refine pr_iload_n dJ6_bitCount_1 rfl ?_
  refine pr_iconst (v := 1) dJ6_bitCount_2 (kc_1) ?_
  refine pr_iushr dJ6_bitCount_3 ?_
  refine pr_ldc_w (v := 1431655765) dJ6_bitCount_4 rfl ?_
  refine pr_iand dJ6_bitCount_7 ?_
  refine pr_isub dJ6_bitCount_8 ?_
  refine pr_istore_n (L' := [.int (x0 - ((pm_ushr x0 1) &&& 1431655765))]) dJ6_bitCount_9 rfl ?_
  refine pr_iload_n dJ6_bitCount_10 rfl ?_
  refine pr_ldc_w (v := 858993459) dJ6_bitCount_11 rfl ?_
  refine pr_iand dJ6_bitCount_14 ?_
  refine pr_iload_n dJ6_bitCount_15 rfl ?_
  refine pr_iconst (v := 2) dJ6_bitCount_16 (kc_2) ?_
  refine pr_iushr dJ6_bitCount_17 ?_
  refine pr_ldc_w (v := 858993459) dJ6_bitCount_18 rfl ?_
  refine pr_iand dJ6_bitCount_21 ?_
  refine pr_iadd dJ6_bitCount_22 ?_
  obtain ⟨x1, hx1, hF⟩ := po_b hF
  refine pr_nm hx1 ?_
  refine pr_istore_n (L' := [.int x1]) dJ6_bitCount_23 rfl ?_
  refine pr_iload_n dJ6_bitCount_24 rfl ?_
  refine pr_iload_n dJ6_bitCount_25 rfl ?_
  refine pr_iconst (v := 4) dJ6_bitCount_26 (kc_4) ?_
  refine pr_iushr dJ6_bitCount_27 ?_
  refine pr_iadd dJ6_bitCount_28 ?_
  refine pr_ldc_w (v := 252645135) dJ6_bitCount_29 rfl ?_
  refine pr_iand dJ6_bitCount_32 ?_
  refine pr_istore_n (L' := [.int ((x1 + (pm_ushr x1 4)) &&& 252645135)]) dJ6_bitCount_33 rfl ?_
  refine pr_iload_n dJ6_bitCount_34 rfl ?_
  refine pr_iload_n dJ6_bitCount_35 rfl ?_
  refine pr_bipush (v := 8) dJ6_bitCount_36 (kb_8) ?_
  refine pr_iushr dJ6_bitCount_38 ?_
  refine pr_iadd dJ6_bitCount_39 ?_
  obtain ⟨x2, hx2, hF⟩ := po_b hF
  refine pr_nm hx2 ?_
  refine pr_istore_n (L' := [.int x2]) dJ6_bitCount_40 rfl ?_
  refine pr_iload_n dJ6_bitCount_41 rfl ?_
  refine pr_iload_n dJ6_bitCount_42 rfl ?_
  refine pr_bipush (v := 16) dJ6_bitCount_43 (kb_16) ?_
  refine pr_iushr dJ6_bitCount_45 ?_
  refine pr_iadd dJ6_bitCount_46 ?_
  refine pr_istore_n (L' := [.int (x2 + (pm_ushr x2 16))]) dJ6_bitCount_47 rfl ?_
  refine pr_iload_n dJ6_bitCount_48 rfl ?_
  refine pr_bipush (v := 63) dJ6_bitCount_49 (kb_63) ?_
  refine pr_iand dJ6_bitCount_51 ?_
  cases hF
  exact pr_iret dJ6_bitCount_52 rfl rfl rfl

def F_J6_numberOfTrailingZeros (x0 : Int32) : Option (Int32) :=
  if 0 < ((x0 ^^^ (-1)) &&& (x0 - 1)) then
    ((
      if 65536 < ((x0 ^^^ (-1)) &&& (x0 - 1)) then
        some (pm_ushr ((x0 ^^^ (-1)) &&& (x0 - 1)) 16, 1 + 16)
      else
        some ((x0 ^^^ (-1)) &&& (x0 - 1), 1)
    ) : Option (Int32 × Int32)).bind fun q1 =>
    ((
      if 256 < q1.1 then
        some (pm_ushr q1.1 8, q1.2 + 8)
      else
        some (q1.1, q1.2)
    ) : Option (Int32 × Int32)).bind fun q2 =>
    ((
      if 16 < q2.1 then
        some (pm_ushr q2.1 4, q2.2 + 4)
      else
        some (q2.1, q2.2)
    ) : Option (Int32 × Int32)).bind fun q3 =>
    if 4 < q3.1 then
      some ((q3.2 + 2) + (pm_ushr (pm_ushr q3.1 2) 1))
    else
      some (q3.2 + (pm_ushr q3.1 1))
  else
    some (((x0 ^^^ (-1)) &&& (x0 - 1)) &&& 32)
theorem ok_F_J6_numberOfTrailingZeros {d : Nat} {h : pm_H} {x0 : Int32} {q : Int32} (hF : F_J6_numberOfTrailingZeros x0 = some q) : pm_E (d + 0) 26 cJ6_numberOfTrailingZeros (some .int) 0 [.int x0, pm_D] [] h (some (.int q), h) := by
  unfold F_J6_numberOfTrailingZeros at hF
  refine pr_iload_n dJ6_numberOfTrailingZeros_0 rfl ?_
  refine pr_iconst (v := (-1)) dJ6_numberOfTrailingZeros_1 (kc_m1) ?_
  refine pr_ixor dJ6_numberOfTrailingZeros_2 ?_
  refine pr_iload_n dJ6_numberOfTrailingZeros_3 rfl ?_
  refine pr_iconst (v := 1) dJ6_numberOfTrailingZeros_4 (kc_1) ?_
  refine pr_isub dJ6_numberOfTrailingZeros_5 ?_
  refine pr_iand dJ6_numberOfTrailingZeros_6 ?_
  refine pr_istore_n (L' := [.int ((x0 ^^^ (-1)) &&& (x0 - 1)), pm_D]) dJ6_numberOfTrailingZeros_7 rfl ?_
  refine pr_iload_n dJ6_numberOfTrailingZeros_8 rfl ?_
  refine po_i hF (fun hc hF => ?_) (fun hc hF => ?_)
  · refine pr_ifT (tgt := 17) dJ6_numberOfTrailingZeros_9 (by decide) (pc_gtT hc) ?_
    refine pr_iconst (v := 1) dJ6_numberOfTrailingZeros_17 (kc_1) ?_
    refine pr_istore_n (L' := [.int ((x0 ^^^ (-1)) &&& (x0 - 1)), .int 1]) dJ6_numberOfTrailingZeros_18 rfl ?_
    refine pr_iload_n dJ6_numberOfTrailingZeros_19 rfl ?_
    refine pr_ldc_w (v := 65536) dJ6_numberOfTrailingZeros_20 rfl ?_
    obtain ⟨q1, hq1, hF⟩ := po_b hF
    have J34 : pm_E (d + 0) 26 cJ6_numberOfTrailingZeros (some .int) 34 [.int q1.1, .int q1.2] [] h (some (.int q), h) := by
      refine pr_iload_n dJ6_numberOfTrailingZeros_34 rfl ?_
      refine pr_sipush (v := 256) dJ6_numberOfTrailingZeros_35 (ks_256) ?_
      obtain ⟨q2, hq2, hF⟩ := po_b hF
      have J49 : pm_E (d + 0) 26 cJ6_numberOfTrailingZeros (some .int) 49 [.int q2.1, .int q2.2] [] h (some (.int q), h) := by
        refine pr_iload_n dJ6_numberOfTrailingZeros_49 rfl ?_
        refine pr_bipush (v := 16) dJ6_numberOfTrailingZeros_50 (kb_16) ?_
        obtain ⟨q3, hq3, hF⟩ := po_b hF
        have J62 : pm_E (d + 0) 26 cJ6_numberOfTrailingZeros (some .int) 62 [.int q3.1, .int q3.2] [] h (some (.int q), h) := by
          refine pr_iload_n dJ6_numberOfTrailingZeros_62 rfl ?_
          refine pr_iconst (v := 4) dJ6_numberOfTrailingZeros_63 (kc_4) ?_
          refine po_i hF (fun hc hF => ?_) (fun hc hF => ?_)
          · refine pr_icF (tgt := 74) dJ6_numberOfTrailingZeros_64 (by decide) (pc_leF hc) ?_
            refine pr_iinc (v := 2) (L' := [.int q3.1, .int (q3.2 + 2)]) dJ6_numberOfTrailingZeros_67 rfl (kc_2) rfl ?_
            refine pr_iload_n dJ6_numberOfTrailingZeros_70 rfl ?_
            refine pr_iconst (v := 2) dJ6_numberOfTrailingZeros_71 (kc_2) ?_
            refine pr_iushr dJ6_numberOfTrailingZeros_72 ?_
            refine pr_istore_n (L' := [.int (pm_ushr q3.1 2), .int (q3.2 + 2)]) dJ6_numberOfTrailingZeros_73 rfl ?_
            refine pr_iload_n dJ6_numberOfTrailingZeros_74 rfl ?_
            refine pr_iload_n dJ6_numberOfTrailingZeros_75 rfl ?_
            refine pr_iconst (v := 1) dJ6_numberOfTrailingZeros_76 (kc_1) ?_
            refine pr_iushr dJ6_numberOfTrailingZeros_77 ?_
            refine pr_iadd dJ6_numberOfTrailingZeros_78 ?_
            cases hF
            exact pr_iret dJ6_numberOfTrailingZeros_79 rfl rfl rfl
          · refine pr_icT (tgt := 74) dJ6_numberOfTrailingZeros_64 (by decide) (pc_leT hc) ?_
            refine pr_iload_n dJ6_numberOfTrailingZeros_74 rfl ?_
            refine pr_iload_n dJ6_numberOfTrailingZeros_75 rfl ?_
            refine pr_iconst (v := 1) dJ6_numberOfTrailingZeros_76 (kc_1) ?_
            refine pr_iushr dJ6_numberOfTrailingZeros_77 ?_
            refine pr_iadd dJ6_numberOfTrailingZeros_78 ?_
            cases hF
            exact pr_iret dJ6_numberOfTrailingZeros_79 rfl rfl rfl
        clear hF
        have hF := hq3
        refine po_i hF (fun hc hF => ?_) (fun hc hF => ?_)
        · refine pr_icF (tgt := 62) dJ6_numberOfTrailingZeros_52 (by decide) (pc_leF hc) ?_
          refine pr_iinc (v := 4) (L' := [.int q2.1, .int (q2.2 + 4)]) dJ6_numberOfTrailingZeros_55 rfl (kc_4) rfl ?_
          refine pr_iload_n dJ6_numberOfTrailingZeros_58 rfl ?_
          refine pr_iconst (v := 4) dJ6_numberOfTrailingZeros_59 (kc_4) ?_
          refine pr_iushr dJ6_numberOfTrailingZeros_60 ?_
          refine pr_istore_n (L' := [.int (pm_ushr q2.1 4), .int (q2.2 + 4)]) dJ6_numberOfTrailingZeros_61 rfl ?_
          cases hF
          exact J62
        · refine pr_icT (tgt := 62) dJ6_numberOfTrailingZeros_52 (by decide) (pc_leT hc) ?_
          cases hF
          exact J62
      clear hF
      have hF := hq2
      refine po_i hF (fun hc hF => ?_) (fun hc hF => ?_)
      · refine pr_icF (tgt := 49) dJ6_numberOfTrailingZeros_38 (by decide) (pc_leF hc) ?_
        refine pr_iinc (v := 8) (L' := [.int q1.1, .int (q1.2 + 8)]) dJ6_numberOfTrailingZeros_41 rfl (kc_8) rfl ?_
        refine pr_iload_n dJ6_numberOfTrailingZeros_44 rfl ?_
        refine pr_bipush (v := 8) dJ6_numberOfTrailingZeros_45 (kb_8) ?_
        refine pr_iushr dJ6_numberOfTrailingZeros_47 ?_
        refine pr_istore_n (L' := [.int (pm_ushr q1.1 8), .int (q1.2 + 8)]) dJ6_numberOfTrailingZeros_48 rfl ?_
        cases hF
        exact J49
      · refine pr_icT (tgt := 49) dJ6_numberOfTrailingZeros_38 (by decide) (pc_leT hc) ?_
        cases hF
        exact J49
    clear hF
    have hF := hq1
    refine po_i hF (fun hc hF => ?_) (fun hc hF => ?_)
    · refine pr_icF (tgt := 34) dJ6_numberOfTrailingZeros_23 (by decide) (pc_leF hc) ?_
      refine pr_iinc (v := 16) (L' := [.int ((x0 ^^^ (-1)) &&& (x0 - 1)), .int (1 + 16)]) dJ6_numberOfTrailingZeros_26 rfl (kc_16) rfl ?_
      refine pr_iload_n dJ6_numberOfTrailingZeros_29 rfl ?_
      refine pr_bipush (v := 16) dJ6_numberOfTrailingZeros_30 (kb_16) ?_
      refine pr_iushr dJ6_numberOfTrailingZeros_32 ?_
      refine pr_istore_n (L' := [.int (pm_ushr ((x0 ^^^ (-1)) &&& (x0 - 1)) 16), .int (1 + 16)]) dJ6_numberOfTrailingZeros_33 rfl ?_
      cases hF
      exact J34
    · refine pr_icT (tgt := 34) dJ6_numberOfTrailingZeros_23 (by decide) (pc_leT hc) ?_
      cases hF
      exact J34
  · refine pr_ifF (tgt := 17) dJ6_numberOfTrailingZeros_9 (by decide) (pc_gtF hc) ?_
    refine pr_iload_n dJ6_numberOfTrailingZeros_12 rfl ?_
    refine pr_bipush (v := 32) dJ6_numberOfTrailingZeros_13 (kb_32) ?_
    refine pr_iand dJ6_numberOfTrailingZeros_15 ?_
    cases hF
    exact pr_iret dJ6_numberOfTrailingZeros_16 rfl rfl rfl
