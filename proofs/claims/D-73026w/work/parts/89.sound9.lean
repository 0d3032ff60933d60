/-! THE PURE MACHINE IS SOUND (9): calls, and the whole -/
set_option maxRecDepth 100000
section SDC
variable {p : Program} {l : Launch} {e : Env} {R : Room} {s : State} {m : MethodId} {args : Array Value} {below : List Frame} {meth : Method} {c : Code} {H : Heap} {locs : List Loc} {cells slots : Nat} {Q : State → Prop}
variable {g : sd_G} {own pc d n : Nat} {cc : ByteArray} {st : List Value} {h h1 : pm_H} {ls : Array Slot} {tg : pm_T} {as rest : List Value} {r : Option Value}
theorem sd_pre (X : sd_X p s m args meth c g own cc) (hS : va_S (sd_A g) s.heap H locs) (as : List Value) : ∀ U : State, U.heap = H → s.WarmedH U.vm → sd_Pc g H as ((as.map (sd_v (sd_ρ g))).toArray) U := by
  intro U hU hW
  exact ⟨rfl, hU, sd_Kn.warm hW X.2.2.2.2.2.1, sd_Im.go hW.alike hU hS X.2.2.2.2.2.2⟩
theorem sd_callS (ih : sd_Sound l g n) (X : sd_X p s m args meth c g own cc) (hR : sd_R g h H) (hS : va_S (sd_A g) s.heap H locs) (hsz : ls.size = c.maxLocals) {k : Nat} (hd : decode cc pc = .ok (.invokestatic k, 3)) (hcall : pm_call own (.invokestatic k) st h = some (tg, as, rest)) (hrun : pm_run n d tg.1 tg.2.2.1 tg.2.2.2.2 0 (pm_en as tg.2.2.2.1) [] h = some (r, h1))
    (hfr : d + 2 ≤ R.frames) (hlo : 40 * d + 100 ≤ R.locals) (hc : cells + (h1.2.1 - h.2.1) ≤ R.cells) (hsl : slots + (h1.2.2 - h.2.2) ≤ R.slots) :
    va_Run p l e R s m args below meth c H locs cells slots (h1.2.1 - h.2.1) (h1.2.2 - h.2.2) (F0 m pc ls (st.map (sd_v (sd_ρ g)))) (rest.map (sd_v (sd_ρ g))) (sd_Qc g r h1 (as.map (sd_v (sd_ρ g))).toArray) (sd_A g) := by
  unfold pm_call at hcall
  obtain ⟨⟨na, tg'⟩, hlk, hq⟩ := Option.bind_eq_some_iff.mp hcall
  dsimp only at hq
  split at hq
  next hle =>
    obtain ⟨rfl, rfl, rfl, h1v, h2v, h3v, h4v⟩ := pm_as_inv hq
    obtain ⟨TG, har, hst, hml⟩ := sd_ts_ok own _ (pm_lk_mem hlk)
    dsimp only at TG har hst hml
    have hM := sd_met ih TG hrun h1v h2v hR
    have hlen : ((st.take na).reverse.map (sd_v (sd_ρ g))).length = na := by rw [List.length_map, List.length_reverse, List.length_take]; omega
    have hstack : st.map (sd_v (sd_ρ g)) = ((st.take na).reverse.map (sd_v (sd_ρ g))).reverse ++ (st.drop na).map (sd_v (sd_ρ g)) := by rw [← List.map_reverse, List.reverse_reverse, ← List.map_append, List.take_append_drop]
    have hW : 2 * (F0 m pc ls (st.map (sd_v (sd_ρ g)))).monitorRoom + (((st.drop na).map (sd_v (sd_ρ g))).map fun v => v.category).sum ≤ 8 := by
      show 2 * 0 + _ ≤ 8
      rw [sd_sum]
      have : pm_sum (st.drop na) ≤ 8 := h3v
      unfold pm_sum at this
      omega
    have hts := X.2.2.2.1
    have hroom : (sd_rm d (h1.2.1 - h.2.1) (h1.2.2 - h.2.2)).frames + 1 ≤ R.frames ∧ 8 + (tg.2.2.2.1 + 11) + (sd_rm d (h1.2.1 - h.2.1) (h1.2.2 - h.2.2)).locals ≤ R.locals := ⟨by show d + 1 + 1 ≤ _; omega, by show 8 + (tg.2.2.2.1 + 11) + (40 * d + 60) ≤ _; omega⟩
    rcases hml with hml | ⟨host, hml⟩
    · exact va_runS (As := (st.take na).reverse.map (sd_v (sd_ρ g))) ⟨X.1, X.2.1, rfl, X.2.2.1, hts⟩ hM (va_cwS na hts (lw_S hml hst TG.2.2.2.2.1 TG.2.2.2.1) rfl rfl rfl ⟨TG.2.2.2.2.2.1, TG.2.2.2.2.2.2, har⟩ hroom) ⟨sd_blind, sd_pre X hS _⟩ rfl hlen hsz hstack hW hd ⟨hc, hsl⟩
    · exact va_runSN (As := (st.take na).reverse.map (sd_v (sd_ρ g))) ⟨X.1, X.2.1, rfl, X.2.2.1, hts⟩ hM ⟨va_cnB na hts (lw_meth TG.2.2.2.1) rfl rfl rfl (X.2.2.2.2.2.1.2.1 _ hml) (hts _ TG.2.2.2.2.1) ⟨TG.2.2.2.2.2.1, TG.2.2.2.2.2.2, har⟩ hroom, hts _ hst, trivial⟩ ⟨sd_blind, sd_pre X hS _⟩ rfl hlen hsz hstack hW hd ⟨hc, hsl⟩
  next => cases hq
theorem sd_callI (ih : sd_Sound l g n) (X : sd_X p s m args meth c g own cc) (hR : sd_R g h H) (hS : va_S (sd_A g) s.heap H locs) (hsz : ls.size = c.maxLocals) {k : Nat} (hd : decode cc pc = .ok (.invokespecial k, 3)) (hcall : pm_call own (.invokespecial k) st h = some (tg, as, rest)) (hrun : pm_run n d tg.1 tg.2.2.1 tg.2.2.2.2 0 (pm_en as tg.2.2.2.1) [] h = some (r, h1))
    (hfr : d + 2 ≤ R.frames) (hlo : 40 * d + 100 ≤ R.locals) (hc : cells + (h1.2.1 - h.2.1) ≤ R.cells) (hsl : slots + (h1.2.2 - h.2.2) ≤ R.slots) :
    va_Run p l e R s m args below meth c H locs cells slots (h1.2.1 - h.2.1) (h1.2.2 - h.2.2) (F0 m pc ls (st.map (sd_v (sd_ρ g)))) (rest.map (sd_v (sd_ρ g))) (sd_Qc g r h1 (as.map (sd_v (sd_ρ g))).toArray) (sd_A g) := by
  unfold pm_call at hcall
  obtain ⟨⟨na, tg'⟩, hlk, hq⟩ := Option.bind_eq_some_iff.mp hcall
  dsimp only at hq
  split at hq
  next b rs hdr =>
    obtain ⟨rfl, rfl, rfl, h1v, h2v, h3v, h4v⟩ := pm_as_inv hq
    obtain ⟨TG, har, hnm, hrt, hin, hml⟩ := sd_ti_ok own _ (pm_lk_mem hlk)
    dsimp only at TG har hnm hrt hin hml
    have hM := sd_met ih TG hrun h1v h2v hR
    have hle : na ≤ st.length := by
      have := congrArg List.length hdr
      rw [List.length_drop, List.length_cons] at this
      omega
    have hlen : ((st.take na).reverse.map (sd_v (sd_ρ g))).length = na := by rw [List.length_map, List.length_reverse, List.length_take]; omega
    have hstack : st.map (sd_v (sd_ρ g)) = ((st.take na).reverse.map (sd_v (sd_ρ g))).reverse ++ .ref (sd_ρ g b) :: rest.map (sd_v (sd_ρ g)) := by
      have e1 : (.ref (sd_ρ g b) :: rest.map (sd_v (sd_ρ g)) : List Value) = (st.drop na).map (sd_v (sd_ρ g)) := by rw [hdr]; rfl
      rw [e1, ← List.map_reverse, List.reverse_reverse, ← List.map_append, List.take_append_drop]
    have hW : 2 * (F0 m pc ls (st.map (sd_v (sd_ρ g)))).monitorRoom + ((rest.map (sd_v (sd_ρ g))).map fun v => v.category).sum ≤ 8 := by
      show 2 * 0 + _ ≤ 8
      rw [sd_sum]
      have : pm_sum rest ≤ 8 := h3v
      unfold pm_sum at this
      omega
    have hts := X.2.2.2.1
    have hroom : (sd_rm d (h1.2.1 - h.2.1) (h1.2.2 - h.2.2)).frames + 1 ≤ R.frames ∧ 8 + (tg.2.2.2.1 + 11) + (sd_rm d (h1.2.1 - h.2.1) (h1.2.2 - h.2.2)).locals ≤ R.locals := ⟨by show d + 1 + 1 ≤ _; omega, by show 8 + (tg.2.2.2.1 + 11) + (40 * d + 60) ≤ _; omega⟩
    rw [hrt] at hM
    have hcw : Cond.code tg.2.1 tg.2.2.1 tg.2.2.2.1 none ∈ lw_all := by have := TG.2.2.2.1; rw [hrt] at this; exact this
    rcases hml with hml | ⟨host, hml⟩
    · exact va_runI (b := sd_ρ g b) (As := (st.take na).reverse.map (sd_v (sd_ρ g))) ⟨X.1, X.2.1, rfl, X.2.2.1, hts⟩ hM (cwI na hts (lw_meth hcw) rfl rfl rfl (hts _ TG.2.2.2.2.1) (hts _ hml) (hts _ hin) hnm ⟨TG.2.2.2.2.2.1, TG.2.2.2.2.2.2, har⟩ hroom) ⟨sd_blind, sd_pre X hS (.ref b :: (st.take na).reverse)⟩ rfl hlen hsz hstack hW hd ⟨hc, hsl⟩
    · exact va_runIN (b := sd_ρ g b) (As := (st.take na).reverse.map (sd_v (sd_ρ g))) ⟨X.1, X.2.1, rfl, X.2.2.1, hts⟩ hM ⟨va_cnB na hts (lw_meth hcw) rfl rfl rfl (X.2.2.2.2.2.1.2.1 _ hml) (hts _ TG.2.2.2.2.1) ⟨TG.2.2.2.2.2.1, TG.2.2.2.2.2.2, har⟩ hroom, hnm, hts _ hin⟩ ⟨sd_blind, sd_pre X hS (.ref b :: (st.take na).reverse)⟩ rfl hlen hsz hstack hW hd ⟨hc, hsl⟩
  next => cases hq
/-- the receiver's class -/
theorem sd_recv (X : sd_X p s m args meth c g own cc) (hR : sd_R g h H) (hS : va_S (sd_A g) s.heap H locs) {b cn : Nat} {fs : List Value} (hg : pm_g h b = some (.inr (cn, fs))) {C : String} (hC : (cn = 30 ∧ C = "java/lang/String") ∨ ∃ r : vw_C, pm_cl[cn]? = some r ∧ r.1 = C) :
    ∃ cellB : Cell, H[sd_ρ g b]? = some cellB ∧ cellB.vm.isStatics = false ∧ s.vm.findClass C = some cellB.cls := by
  by_cases h7 : 7 ≤ b
  · rcases hC with ⟨h30, -⟩ | ⟨r, hr, hrC⟩
    · subst h30
      obtain ⟨r, q1, -⟩ := sd_at hR hg h7
      simp [pm_cl] at q1
    · rw [← hrC]
      exact va_recv X.2.2.2.2.2.1.1 (sd_P1 hR hg h7) hr (q0 := 0) rfl
  · have hc := sd_old hR hg h7
    have hI := X.2.2.2.2.2.2.2.2.1
    have key : ∀ j, j < 3 → b = j + 1 → cn = 30 → ∃ cellB : Cell, H[sd_ρ g b]? = some cellB ∧ cellB.vm.isStatics = false ∧ s.vm.findClass C = some cellB.cls := by
      intro j hj hb h30
      subst hb; subst h30
      have hC : C = "java/lang/String" := by
        rcases hC with ⟨-, h⟩ | ⟨r, hr, -⟩
        · exact h
        · simp [pm_cl] at hr
      subst hC
      rw [sd_ρK hj]
      obtain ⟨cell, q1, q2, q3, q4⟩ := (hI.1 j hj).1
      exact ⟨cell, by rw [hS.2.1 _ (Array.getElem?_eq_some_iff.mp q1).1 q4]; exact q1, q2, q3⟩
    match b, hc with
    | 0, hc => cases hc
    | 1, hc => cases hc; exact key 0 (by decide) rfl rfl
    | 2, hc => cases hc; exact key 1 (by decide) rfl rfl
    | 3, hc => cases hc; exact key 2 (by decide) rfl rfl
    | b + 4, hc => cases hc
theorem sd_callV (ih : sd_Sound l g n) (X : sd_X p s m args meth c g own cc) (hR : sd_R g h H) (hS : va_S (sd_A g) s.heap H locs) (hsz : ls.size = c.maxLocals) {k : Nat} (hd : decode cc pc = .ok (.invokevirtual k, 3)) (hcall : pm_call own (.invokevirtual k) st h = some (tg, as, rest)) (hrun : pm_run n d tg.1 tg.2.2.1 tg.2.2.2.2 0 (pm_en as tg.2.2.2.1) [] h = some (r, h1))
    (hfr : d + 2 ≤ R.frames) (hlo : 40 * d + 100 ≤ R.locals) (hc : cells + (h1.2.1 - h.2.1) ≤ R.cells) (hsl : slots + (h1.2.2 - h.2.2) ≤ R.slots) :
    va_Run p l e R s m args below meth c H locs cells slots (h1.2.1 - h.2.1) (h1.2.2 - h.2.2) (F0 m pc ls (st.map (sd_v (sd_ρ g)))) (rest.map (sd_v (sd_ρ g))) (sd_Qc g r h1 (as.map (sd_v (sd_ρ g))).toArray) (sd_A g) := by
  unfold pm_call at hcall
  obtain ⟨⟨na, tgs⟩, hlk, hq⟩ := Option.bind_eq_some_iff.mp hcall
  dsimp only at hq
  split at hq
  next b rs hdr =>
    split at hq
    next cn fs hg =>
      obtain ⟨tg', hlt, hq⟩ := Option.bind_eq_some_iff.mp hq
      obtain ⟨rfl, rfl, rfl, h1v, h2v, h3v, h4v⟩ := pm_as_inv hq
      obtain ⟨TG, C, hC, hin, hkind⟩ := sd_tv_ok own _ (pm_lk_mem hlk) _ (pm_lk_mem hlt)
      dsimp only at TG hC hin hkind
      have hM := sd_met ih TG hrun h1v h2v hR
      have hle : na ≤ st.length := by
        have := congrArg List.length hdr
        rw [List.length_drop, List.length_cons] at this
        omega
      have hlen : ((st.take na).reverse.map (sd_v (sd_ρ g))).length = na := by rw [List.length_map, List.length_reverse, List.length_take]; omega
      have hstack : st.map (sd_v (sd_ρ g)) = ((st.take na).reverse.map (sd_v (sd_ρ g))).reverse ++ .ref (sd_ρ g b) :: rest.map (sd_v (sd_ρ g)) := by
        have e1 : (.ref (sd_ρ g b) :: rest.map (sd_v (sd_ρ g)) : List Value) = (st.drop na).map (sd_v (sd_ρ g)) := by rw [hdr]; rfl
        rw [e1, ← List.map_reverse, List.reverse_reverse, ← List.map_append, List.take_append_drop]
      have hW : 2 * (F0 m pc ls (st.map (sd_v (sd_ρ g)))).monitorRoom + ((rest.map (sd_v (sd_ρ g))).map fun v => v.category).sum ≤ 8 := by
        show 2 * 0 + _ ≤ 8
        rw [sd_sum]
        have : pm_sum rest ≤ 8 := h3v
        unfold pm_sum at this
        omega
      have hts := X.2.2.2.1
      have hroom : (sd_rm d (h1.2.1 - h.2.1) (h1.2.2 - h.2.2)).frames + 1 ≤ R.frames ∧ 8 + (tg.2.2.2.1 + 11) + (sd_rm d (h1.2.1 - h.2.1) (h1.2.2 - h.2.2)).locals ≤ R.locals := ⟨by show d + 1 + 1 ≤ _; omega, by show 8 + (tg.2.2.2.1 + 11) + (40 * d + 60) ≤ _; omega⟩
      have hpre : PreV s H C (sd_ρ g b) (sd_Pc g H (.ref b :: (st.take na).reverse)) ((st.take na).reverse.map (sd_v (sd_ρ g))) := ⟨sd_blind, sd_recv X hR hS hg hC, sd_pre X hS (.ref b :: (st.take na).reverse)⟩
      rcases hkind with ⟨hyC, har, hml, hsel, hini⟩ | ⟨owner, x, hmh, har, hml, hsm, hsel, hdecl⟩
      · rcases hml with hml | ⟨host, hml⟩
        · exact va_runV ⟨X.1, X.2.1, rfl, X.2.2.1, hts⟩ hM (cwV na hts (lw_V hml hin hsel hini TG.2.2.2.1) rfl rfl rfl ⟨hyC, TG.2.2.2.2.2.1, TG.2.2.2.2.2.2, har⟩ hroom) hpre rfl hlen hsz hstack hW hd ⟨hc, hsl⟩
        · exact va_runVN ⟨X.1, X.2.1, rfl, X.2.2.1, hts⟩ hM ⟨va_cnB na hts (lw_meth TG.2.2.2.1) rfl rfl rfl (X.2.2.2.2.2.1.2.1 _ hml) (hts _ TG.2.2.2.2.1) ⟨TG.2.2.2.2.2.1, TG.2.2.2.2.2.2, har⟩ hroom, hts _ hin, hts _ hsel⟩ hpre rfl hlen hsz hstack hW hd ⟨hc, hsl⟩
      · have hgood : GoodIn lw_all (va_wsU (pm_own own) k C owner x tg.2.1 (ws_ tg.2.1 tg.2.2.1 tg.2.2.2.1 tg.2.2.2.2)) := by
          refine lw_app ?_ (lw_meth TG.2.2.2.1)
          intro w hw
          simp only [List.mem_cons, List.not_mem_nil, or_false] at hw
          rcases hw with e | e | e | e | e
          · rw [e]; exact hml
          · rw [e]; exact hsm
          · rw [e]; exact hsel
          · rw [e]; exact hin
          · rw [e]; exact TG.2.2.2.2.1
        rcases hdecl with hy | hz
        · exact va_runU ⟨X.1, X.2.1, rfl, X.2.2.1, hts⟩ hM (va_cwU na hts hgood rfl rfl rfl hy ⟨hmh.1, hmh.2, har⟩ hroom) hpre rfl hlen hsz hstack hW hd ⟨hc, hsl⟩
        · exact va_runU ⟨X.1, X.2.1, rfl, X.2.2.1, hts⟩ hM (va_cwA na hts hgood rfl rfl rfl (X.2.2.2.2.2.1.2.1 _ hz) ⟨hmh.1, hmh.2, har⟩ hroom) hpre rfl hlen hsz hstack hW hd ⟨hc, hsl⟩
    next => cases hq
  next => cases hq
end SDC
theorem sd_sound (l : Launch) (g : sd_G) : ∀ n, sd_Sound l g n := by
  intro n
  induction n with
  | zero => intro d own cc rt pc L st h r h' e; simp [pm_run] at e
  | succ n ih =>
    intro d own cc rt pc L st h r h' hrun p e R s m args below meth c H locs cells slots mc ms ls Q X hfr hlo hmc hms hR hS hl hcl hsl hret
    rw [pm_run] at hrun
    cases hd : decode cc pc with
    | error _ => rw [hd] at hrun; cases hrun
    | ok q =>
      obtain ⟨i, len⟩ := q
      rw [hd] at hrun
      dsimp only at hrun
      cases hn : pm_ln i len with
      | false => rw [hn] at hrun; cases hrun
      | true =>
        rw [hn] at hrun
        dsimp only at hrun
        cases h0 : pm_ret rt i st with
        | some q =>
          rw [h0] at hrun
          cases hrun
          exact hret hd hn h0 hR hS (by omega) (by omega)
        | none =>
          rw [h0] at hrun
          dsimp only at hrun
          cases h1 : pm_call own i st h with
          | some q =>
            obtain ⟨tg, as, rest⟩ := q
            rw [h1] at hrun
            dsimp only at hrun
            cases d with
            | zero => cases hrun
            | succ d' =>
              dsimp only at hrun
              cases h2 : pm_run n d' tg.1 tg.2.2.1 tg.2.2.2.2 0 (pm_en as tg.2.2.2.1) [] h with
              | none => rw [h2] at hrun; cases hrun
              | some q =>
                obtain ⟨r2, hh⟩ := q
                rw [h2] at hrun
                have a1 := sd_run_le _ h2
                have b1 := sd_run_le _ hrun
                have back := fun (hr : va_Run p l e R s m args below meth c H locs cells slots (hh.2.1 - h.2.1) (hh.2.2 - h.2.2) (F0 m pc ls (st.map (sd_v (sd_ρ g)))) (rest.map (sd_v (sd_ρ g))) (sd_Qc g r2 hh (as.map (sd_v (sd_ρ g))).toArray) (sd_A g)) =>
                  sd_back (Q := Q) hr hS (fun H1 locs1 r1 s1 => by
                    have e1 : ((r2.map (sd_v (sd_ρ g))).toList ++ rest.map (sd_v (sd_ρ g))) = (r2.toList ++ rest).map (sd_v (sd_ρ g)) := by cases r2 <;> rfl
                    rw [e1]
                    exact ih hrun X hfr hlo hmc hms r1 s1 hl (by omega) (by omega) hret)
                cases i with
                | invokestatic k =>
                  obtain rfl := sd_ln hn
                  exact back (sd_callS ih X hR hS hl.2.1 hd h1 h2 (by omega) (by omega) (by omega) (by omega))
                | invokespecial k =>
                  obtain rfl := sd_ln hn
                  exact back (sd_callI ih X hR hS hl.2.1 hd h1 h2 (by omega) (by omega) (by omega) (by omega))
                | invokevirtual k =>
                  obtain rfl := sd_ln hn
                  exact back (sd_callV ih X hR hS hl.2.1 hd h1 h2 (by omega) (by omega) (by omega) (by omega))
                | _ => cases h1
          | none =>
            rw [h1] at hrun
            dsimp only at hrun
            cases h2 : pm_step own pc len i L st h with
            | none => rw [h2] at hrun; cases hrun
            | some q =>
              obtain ⟨pc2, L2, st2, hh⟩ := q
              rw [h2] at hrun
              have a1 := sd_step_le h2
              have b1 := sd_run_le _ hrun
              refine sd_step X hd hn h2 hR hS hS.1 hl (by omega) (by omega) (by omega) (by omega) ?_
              intro H1 locs1 ls1 cells1 slots1 r1 s1 l1 c1 c2
              exact ih hrun X hfr hlo hmc hms r1 s1 l1 (by omega) (by omega) hret
