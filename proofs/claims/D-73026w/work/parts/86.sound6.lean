/-! THE PURE MACHINE IS SOUND (6): one instruction -/
set_option maxRecDepth 100000
section SDS
variable {p : Program} {l : Launch} {e : Env} {R : Room} {s : State} {m : MethodId} {args : Array Value} {below : List Frame} {meth : Method} {c : Code} {H : Heap} {locs : List Loc} {cells slots : Nat} {Q : State → Prop}
variable {g : sd_G} {own pc pc' len : Nat} {cc : ByteArray} {L L' st st' : List Value} {h h1 : pm_H} {ls : Array Slot}
theorem sd_ln {n : Nat} (h : Nat.beq len n = true) : len = n := Nat.eq_of_beq_eq_true h
theorem sd_sum {ρ : Nat → Nat} (r : List Value) : ((r.map (sd_v ρ)).map fun v => v.category).sum = (r.map fun v => v.category).sum := by
  rw [List.map_map]
  congr 1
  exact List.map_congr_left fun v _ => sd_cat
set_option maxHeartbeats 4000000 in
theorem sd_step {i : Instr} (X : sd_X p s m args meth c g own cc) (hd : decode cc pc = .ok (i, len)) (hn : pm_ln i len = true) (hs : pm_step own pc len i L st h = some (pc', L', st', h1)) (hR : sd_R g h H) (hS : va_S (sd_A g) s.heap H locs) (hz : s.heap.size ≤ H.size) (hl : sd_H (sd_ρ g) L ls c.maxLocals)
    (hfr : 1 ≤ R.frames) (hlo : 20 ≤ R.locals) (hc : cells + (h1.2.1 - h.2.1) ≤ R.cells) (hsl : slots + (h1.2.2 - h.2.2) ≤ R.slots) (K : sd_Go p l e R s m args below meth c cells slots Q g h pc' L' st' h1) : W p l e R s m args below meth c H locs cells slots Q (F0 m pc ls (st.map (sd_v (sd_ρ g)))) := by
  have hx := X.1
  have hb := X.2.1
  have hown := X.2.2.1
  have hts := X.2.2.2.1
  cases i with
  | iconst n =>
    obtain rfl := sd_ln hn
    simp only [pm_step] at hs
    cases hs
    exact lv_iconst hx hb hd rfl (K H locs ls cells slots hR hS hl rfl rfl)
  | bipush n =>
    obtain rfl := sd_ln hn
    simp only [pm_step] at hs
    cases hs
    exact lv_bipush hx hb hd rfl (K H locs ls cells slots hR hS hl rfl rfl)
  | sipush n =>
    obtain rfl := sd_ln hn
    simp only [pm_step] at hs
    cases hs
    exact lv_sipush hx hb hd rfl (K H locs ls cells slots hR hS hl rfl rfl)
  | lconst n =>
    obtain rfl := sd_ln hn
    simp only [pm_step] at hs
    cases hs
    exact lv_lconst hx hb hd rfl (K H locs ls cells slots hR hS hl rfl rfl)
  | aconst_null =>
    obtain rfl := sd_ln hn
    simp only [pm_step] at hs
    cases hs
    exact lv_null hx hb hd (K H locs ls cells slots hR hS hl rfl rfl)
  | ldc k =>
    obtain rfl := sd_ln hn
    simp only [pm_step] at hs
    split at hs
    next v hv =>
      cases hs
      exact lv_ldc hx hb hown (hts _ (sd_tc_ok own _ (pm_lk_mem hv))) hd (K H locs ls cells slots hR hS hl rfl rfl)
    next =>
      obtain ⟨r, hr, hs⟩ := Option.map_eq_some_iff.mp hs
      cases hs
      have hKn := X.2.2.2.2.2.1
      rcases sd_tr_ok own _ (pm_lk_mem hr) with ⟨h1, h2, h3⟩ | ⟨h1, h2, h3⟩ | ⟨h1, h2, h3⟩
      · dsimp only at h1 h3
        subst h1; subst h2; subst h3
        exact va_ldcS hx hb hown hKn.2.2.2.2.2.1 hd (K H locs ls cells slots hR hS hl rfl rfl)
      · dsimp only at h1 h3
        subst h1; subst h2; subst h3
        exact va_ldcS hx hb hown hKn.2.2.2.2.2.2.1 hd (K H locs ls cells slots hR hS hl rfl rfl)
      · dsimp only at h1 h3
        subst h1; subst h2; subst h3
        exact va_ldcS hx hb hown hKn.2.2.2.2.2.2.2 hd (K H locs ls cells slots hR hS hl rfl rfl)
  | ldc_w k =>
    obtain rfl := sd_ln hn
    simp only [pm_step] at hs
    obtain ⟨v, hv, hs⟩ := Option.map_eq_some_iff.mp hs
    cases hs
    exact lv_ldcw hx hb hown (hts _ (sd_tc_ok own _ (pm_lk_mem hv))) hd (K H locs ls cells slots hR hS hl rfl rfl)
  | ldc2_w k =>
    obtain rfl := sd_ln hn
    simp only [pm_step] at hs
    obtain ⟨v, hv, hs⟩ := Option.map_eq_some_iff.mp hs
    cases hs
    exact lv_ldc2 hx hb hown (hts _ (sd_tl_ok own _ (pm_lk_mem hv))) hd (K H locs ls cells slots hR hS hl rfl rfl)
  | iload_n k =>
    obtain rfl := sd_ln hn
    simp only [pm_step] at hs
    obtain ⟨v, hv, hs⟩ := Option.map_eq_some_iff.mp hs
    cases hs
    exact lv_iload_n hx hb hd rfl (hl.at (pm_li_at hv) rfl) (K H locs ls cells slots hR hS hl rfl rfl)
  | iload k =>
    obtain rfl := sd_ln hn
    simp only [pm_step] at hs
    obtain ⟨v, hv, hs⟩ := Option.map_eq_some_iff.mp hs
    cases hs
    exact lv_iload hx hb hd (hl.at (pm_li_at hv) rfl) (K H locs ls cells slots hR hS hl rfl rfl)
  | lload_n k =>
    obtain rfl := sd_ln hn
    simp only [pm_step] at hs
    obtain ⟨v, hv, hs⟩ := Option.map_eq_some_iff.mp hs
    cases hs
    exact lv_lload_n hx hb hd rfl (hl.at (pm_ll_at hv) rfl) (K H locs ls cells slots hR hS hl rfl rfl)
  | lload k =>
    obtain rfl := sd_ln hn
    simp only [pm_step] at hs
    obtain ⟨v, hv, hs⟩ := Option.map_eq_some_iff.mp hs
    cases hs
    exact lv_lload hx hb hd (hl.at (pm_ll_at hv) rfl) (K H locs ls cells slots hR hS hl rfl rfl)
  | aload_n k =>
    obtain rfl := sd_ln hn
    simp only [pm_step] at hs
    obtain ⟨v, hv, hs⟩ := Option.map_eq_some_iff.mp hs
    cases hs
    obtain ⟨h2, h3 | ⟨a, h3⟩⟩ := pm_la_at hv
    · subst h3
      exact lv_aload_nN hx hb hd rfl (hl.at h2 rfl) (K H locs ls cells slots hR hS hl rfl rfl)
    · subst h3
      exact lv_aload_n hx hb hd rfl (hl.at h2 rfl) (K H locs ls cells slots hR hS hl rfl rfl)
  | aload k =>
    obtain rfl := sd_ln hn
    simp only [pm_step] at hs
    obtain ⟨v, hv, hs⟩ := Option.map_eq_some_iff.mp hs
    cases hs
    obtain ⟨h2, h3 | ⟨a, h3⟩⟩ := pm_la_at hv
    · subst h3
      exact lv_aloadN hx hb hd (hl.at h2 rfl) (K H locs ls cells slots hR hS hl rfl rfl)
    · subst h3
      exact lv_aload hx hb hd (hl.at h2 rfl) (K H locs ls cells slots hR hS hl rfl rfl)
  | istore_n k =>
    obtain rfl := sd_ln hn
    simp only [pm_step] at hs
    split at hs
    next x r =>
      obtain ⟨Lx, hv, hs⟩ := Option.map_eq_some_iff.mp hs
      cases hs
      exact lv_istore_n hx hb hd rfl hl.2 (Nat.lt_of_lt_of_le (pm_st_lt hv) hl.1) rfl fun ls1 hl1 => K H locs ls1 cells slots hR hS (sd_H.st (v := .int x) hl.1 hv hl1) rfl rfl
    next => cases hs
  | istore k =>
    obtain rfl := sd_ln hn
    simp only [pm_step] at hs
    split at hs
    next x r =>
      obtain ⟨Lx, hv, hs⟩ := Option.map_eq_some_iff.mp hs
      cases hs
      exact lv_istore hx hb hd hl.2 (Nat.lt_of_lt_of_le (pm_st_lt hv) hl.1) rfl fun ls1 hl1 => K H locs ls1 cells slots hR hS (sd_H.st (v := .int x) hl.1 hv hl1) rfl rfl
    next => cases hs
  | lstore_n k =>
    obtain rfl := sd_ln hn
    simp only [pm_step] at hs
    split at hs
    next x r =>
      obtain ⟨Lx, hv, hs⟩ := Option.map_eq_some_iff.mp hs
      cases hs
      exact lv_lstore_n hx hb hd rfl hl.2 (Nat.lt_of_lt_of_le (pm_st2_lt hv) hl.1) rfl fun ls1 hl1 => K H locs ls1 cells slots hR hS (sd_H.st2 (v := .long x) hl.1 hv hl1) rfl rfl
    next => cases hs
  | lstore k =>
    obtain rfl := sd_ln hn
    simp only [pm_step] at hs
    split at hs
    next x r =>
      obtain ⟨Lx, hv, hs⟩ := Option.map_eq_some_iff.mp hs
      cases hs
      exact lv_lstore hx hb hd hl.2 (Nat.lt_of_lt_of_le (pm_st2_lt hv) hl.1) rfl fun ls1 hl1 => K H locs ls1 cells slots hR hS (sd_H.st2 (v := .long x) hl.1 hv hl1) rfl rfl
    next => cases hs
  | astore_n k =>
    obtain rfl := sd_ln hn
    simp only [pm_step] at hs
    split at hs
    next x r =>
      obtain ⟨Lx, hv, hs⟩ := Option.map_eq_some_iff.mp hs
      cases hs
      exact lv_astore_n hx hb hd rfl hl.2 (Nat.lt_of_lt_of_le (pm_st_lt hv) hl.1) rfl fun ls1 hl1 => K H locs ls1 cells slots hR hS (sd_H.st (v := .ref x) hl.1 hv hl1) rfl rfl
    next r =>
      obtain ⟨Lx, hv, hs⟩ := Option.map_eq_some_iff.mp hs
      cases hs
      exact lv_astore_nN hx hb hd rfl hl.2 (Nat.lt_of_lt_of_le (pm_st_lt hv) hl.1) rfl fun ls1 hl1 => K H locs ls1 cells slots hR hS (sd_H.st (v := .null) hl.1 hv hl1) rfl rfl
    next => cases hs
  | astore k =>
    obtain rfl := sd_ln hn
    simp only [pm_step] at hs
    split at hs
    next x r =>
      obtain ⟨Lx, hv, hs⟩ := Option.map_eq_some_iff.mp hs
      cases hs
      exact lv_astore hx hb hd hl.2 (Nat.lt_of_lt_of_le (pm_st_lt hv) hl.1) rfl fun ls1 hl1 => K H locs ls1 cells slots hR hS (sd_H.st (v := .ref x) hl.1 hv hl1) rfl rfl
    next r =>
      obtain ⟨Lx, hv, hs⟩ := Option.map_eq_some_iff.mp hs
      cases hs
      exact lv_astoreN hx hb hd hl.2 (Nat.lt_of_lt_of_le (pm_st_lt hv) hl.1) rfl fun ls1 hl1 => K H locs ls1 cells slots hR hS (sd_H.st (v := .null) hl.1 hv hl1) rfl rfl
    next => cases hs
  | iinc k n =>
    obtain rfl := sd_ln hn
    simp only [pm_step] at hs
    rw [if_pos trivial] at hs
    obtain ⟨x, hx2, hs⟩ := Option.bind_eq_some_iff.mp hs
    obtain ⟨Lx, hv, hs⟩ := Option.map_eq_some_iff.mp hs
    cases hs
    obtain ⟨q, hq⟩ := List.getElem?_of_mem (sd_l_mem (ρ := sd_ρ g) (pm_li_at hx2) rfl)
    exact lv_iinc hx hb hd hl.2 hq rfl (Nat.lt_of_lt_of_le (pm_st_lt hv) hl.1) rfl fun ls1 hl1 => K H locs ls1 cells slots hR hS (sd_H.st (v := .int (x + Int32.ofInt n)) hl.1 hv hl1) rfl rfl
  | iadd =>
    obtain rfl := sd_ln hn
    dsimp only [pm_step] at hs
    exact sd_i2 hs hR hS hl K (fun k => lv_iadd hx hb hd k)
  | isub =>
    obtain rfl := sd_ln hn
    dsimp only [pm_step] at hs
    exact sd_i2 hs hR hS hl K (fun k => lv_isub hx hb hd k)
  | imul =>
    obtain rfl := sd_ln hn
    dsimp only [pm_step] at hs
    exact sd_i2 hs hR hS hl K (fun k => lv_imul hx hb hd k)
  | iand =>
    obtain rfl := sd_ln hn
    dsimp only [pm_step] at hs
    exact sd_i2 hs hR hS hl K (fun k => lv_iand hx hb hd k)
  | ior =>
    obtain rfl := sd_ln hn
    dsimp only [pm_step] at hs
    exact sd_i2 hs hR hS hl K (fun k => lv_ior hx hb hd k)
  | ixor =>
    obtain rfl := sd_ln hn
    dsimp only [pm_step] at hs
    exact sd_i2 hs hR hS hl K (fun k => lv_ixor hx hb hd k)
  | ishl =>
    obtain rfl := sd_ln hn
    dsimp only [pm_step] at hs
    exact sd_i2 hs hR hS hl K (fun k => lv_ishl hx hb hd k)
  | ishr =>
    obtain rfl := sd_ln hn
    dsimp only [pm_step] at hs
    exact sd_i2 hs hR hS hl K (fun k => lv_ishr hx hb hd k)
  | iushr =>
    obtain rfl := sd_ln hn
    dsimp only [pm_step] at hs
    exact sd_i2 hs hR hS hl K (fun k => lv_iushr hx hb hd rfl k)
  | ineg =>
    obtain rfl := sd_ln hn
    dsimp only [pm_step] at hs
    exact sd_i1 hs hR hS hl K (fun k => lv_ineg hx hb hd k)
  | i2b =>
    obtain rfl := sd_ln hn
    dsimp only [pm_step] at hs
    exact sd_i1 hs hR hS hl K (fun k => lv_i2b hx hb hd rfl k)
  | idiv =>
    obtain rfl := sd_ln hn
    simp only [pm_step] at hs
    split at hs
    next y x r =>
      split at hs
      next => cases hs
      next hy => cases hs; exact lv_idiv hx hb hd hy (K H locs ls cells slots hR hS hl rfl rfl)
    next => cases hs
  | irem =>
    obtain rfl := sd_ln hn
    simp only [pm_step] at hs
    split at hs
    next y x r =>
      split at hs
      next => cases hs
      next hy => cases hs; exact lv_irem hx hb hd hy (K H locs ls cells slots hR hS hl rfl rfl)
    next => cases hs
  | ladd =>
    obtain rfl := sd_ln hn
    simp only [pm_step] at hs
    split at hs
    next y x r => cases hs; exact lv_ladd hx hb hd (K H locs ls cells slots hR hS hl rfl rfl)
    next => cases hs
  | lcmp =>
    obtain rfl := sd_ln hn
    simp only [pm_step] at hs
    split at hs
    next y x r => cases hs; exact W.lcmp hx hb hd (K H locs ls cells slots hR hS hl rfl rfl)
    next => cases hs
  | dup =>
    obtain rfl := sd_ln hn
    simp only [pm_step] at hs
    split at hs
    next v r =>
      split at hs
      next hy => cases hs; exact lv_dup hx hb hd (sd_cat.trans hy) (K H locs ls cells slots hR hS hl rfl rfl)
      next => cases hs
    next => cases hs
  | dup2 =>
    obtain rfl := sd_ln hn
    simp only [pm_step] at hs
    split at hs
    next v w r =>
      split at hs
      next hy => cases hs; exact lv_dup2_11 hx hb hd (sd_cat.trans hy.1) (sd_cat.trans hy.2) (K H locs ls cells slots hR hS hl rfl rfl)
      next => cases hs
    next => cases hs
  | pop =>
    obtain rfl := sd_ln hn
    simp only [pm_step] at hs
    split at hs
    next v r =>
      split at hs
      next hy => cases hs; exact lv_pop hx hb hd (sd_cat.trans hy) (K H locs ls cells slots hR hS hl rfl rfl)
      next => cases hs
    next => cases hs
  | ifCond cd off =>
    obtain rfl := sd_ln hn
    simp only [pm_step] at hs
    split at hs
    next x r =>
      obtain ⟨t, ht, hs⟩ := Option.map_eq_some_iff.mp hs
      cases hs
      obtain ⟨q, hq, rfl⟩ := pm_jp_inv ht
      cases cd with
      | eq => exact lv_if_eq hx hb hd hq (fun hq2 => by rw [show pm_cc .eq x 0 = true from decide_eq_true hq2] at K; exact K H locs ls cells slots hR hS hl rfl rfl) (fun hq2 => by rw [show pm_cc .eq x 0 = false from decide_eq_false hq2] at K; exact K H locs ls cells slots hR hS hl rfl rfl)
      | ne => exact lv_if_ne hx hb hd hq (fun hq2 => by rw [show pm_cc .ne x 0 = true from decide_eq_true hq2] at K; exact K H locs ls cells slots hR hS hl rfl rfl) (fun hq2 => by rw [show pm_cc .ne x 0 = false from decide_eq_false (fun z => z hq2)] at K; exact K H locs ls cells slots hR hS hl rfl rfl)
      | lt => exact lv_if_lt hx hb hd hq (fun hq2 => by rw [show pm_cc .lt x 0 = true from decide_eq_true hq2] at K; exact K H locs ls cells slots hR hS hl rfl rfl) (fun hq2 => by rw [show pm_cc .lt x 0 = false from decide_eq_false hq2] at K; exact K H locs ls cells slots hR hS hl rfl rfl)
      | ge => exact lv_if_ge hx hb hd hq (fun hq2 => by rw [show pm_cc .ge x 0 = true from decide_eq_true hq2] at K; exact K H locs ls cells slots hR hS hl rfl rfl) (fun hq2 => by rw [show pm_cc .ge x 0 = false from decide_eq_false hq2] at K; exact K H locs ls cells slots hR hS hl rfl rfl)
      | gt => exact lv_if_gt hx hb hd hq (fun hq2 => by rw [show pm_cc .gt x 0 = true from decide_eq_true hq2] at K; exact K H locs ls cells slots hR hS hl rfl rfl) (fun hq2 => by rw [show pm_cc .gt x 0 = false from decide_eq_false hq2] at K; exact K H locs ls cells slots hR hS hl rfl rfl)
      | le => exact lv_if_le hx hb hd hq (fun hq2 => by rw [show pm_cc .le x 0 = true from decide_eq_true hq2] at K; exact K H locs ls cells slots hR hS hl rfl rfl) (fun hq2 => by rw [show pm_cc .le x 0 = false from decide_eq_false hq2] at K; exact K H locs ls cells slots hR hS hl rfl rfl)
    next => cases hs
  | if_icmp cd off =>
    obtain rfl := sd_ln hn
    simp only [pm_step] at hs
    split at hs
    next y x r =>
      obtain ⟨t, ht, hs⟩ := Option.map_eq_some_iff.mp hs
      cases hs
      obtain ⟨q, hq, rfl⟩ := pm_jp_inv ht
      cases cd with
      | eq => exact lv_icmp_eq hx hb hd hq (fun hq2 => by rw [show pm_cc .eq x y = true from decide_eq_true hq2] at K; exact K H locs ls cells slots hR hS hl rfl rfl) (fun hq2 => by rw [show pm_cc .eq x y = false from decide_eq_false hq2] at K; exact K H locs ls cells slots hR hS hl rfl rfl)
      | ne => exact lv_icmp_ne hx hb hd hq (fun hq2 => by rw [show pm_cc .ne x y = true from decide_eq_true hq2] at K; exact K H locs ls cells slots hR hS hl rfl rfl) (fun hq2 => by rw [show pm_cc .ne x y = false from decide_eq_false (fun z => z hq2)] at K; exact K H locs ls cells slots hR hS hl rfl rfl)
      | lt => exact lv_icmp_lt hx hb hd hq (fun hq2 => by rw [show pm_cc .lt x y = true from decide_eq_true hq2] at K; exact K H locs ls cells slots hR hS hl rfl rfl) (fun hq2 => by rw [show pm_cc .lt x y = false from decide_eq_false hq2] at K; exact K H locs ls cells slots hR hS hl rfl rfl)
      | ge => exact lv_icmp_ge hx hb hd hq (fun hq2 => by rw [show pm_cc .ge x y = true from decide_eq_true hq2] at K; exact K H locs ls cells slots hR hS hl rfl rfl) (fun hq2 => by rw [show pm_cc .ge x y = false from decide_eq_false hq2] at K; exact K H locs ls cells slots hR hS hl rfl rfl)
      | gt => exact lv_icmp_gt hx hb hd hq (fun hq2 => by rw [show pm_cc .gt x y = true from decide_eq_true hq2] at K; exact K H locs ls cells slots hR hS hl rfl rfl) (fun hq2 => by rw [show pm_cc .gt x y = false from decide_eq_false hq2] at K; exact K H locs ls cells slots hR hS hl rfl rfl)
      | le => exact lv_icmp_le hx hb hd hq (fun hq2 => by rw [show pm_cc .le x y = true from decide_eq_true hq2] at K; exact K H locs ls cells slots hR hS hl rfl rfl) (fun hq2 => by rw [show pm_cc .le x y = false from decide_eq_false hq2] at K; exact K H locs ls cells slots hR hS hl rfl rfl)
    next => cases hs
  | ifnull off =>
    obtain rfl := sd_ln hn
    simp only [pm_step] at hs
    split at hs
    next r =>
      obtain ⟨t, ht, hs⟩ := Option.map_eq_some_iff.mp hs
      cases hs
      exact lv_ifnullN hx hb hd (pm_t_inv ht) (K H locs ls cells slots hR hS hl rfl rfl)
    next a r => cases hs; exact lv_ifnull hx hb hd (K H locs ls cells slots hR hS hl rfl rfl)
    next => cases hs
  | goto off =>
    obtain rfl := sd_ln hn
    simp only [pm_step] at hs
    obtain ⟨t, ht, hs⟩ := Option.map_eq_some_iff.mp hs
    cases hs
    exact lv_goto hx hb hd (pm_t_inv ht) (K H locs ls cells slots hR hS hl rfl rfl)
  | tableswitch dflt lo hi offs =>
    simp only [pm_step] at hs
    split at hs
    next x r =>
      split at hs
      next hq =>
        obtain ⟨t, ht, hs⟩ := Option.map_eq_some_iff.mp hs
        cases hs
        exact lv_tableOut hx hb hd hq (pm_t_inv ht) (K H locs ls cells slots hR hS hl rfl rfl)
      next hq =>
        obtain ⟨off, ho, hs⟩ := Option.bind_eq_some_iff.mp hs
        obtain ⟨t, ht, hs⟩ := Option.map_eq_some_iff.mp hs
        cases hs
        exact lv_tableIn hx hb hd (fun z => hq (Or.inl z)) (fun z => hq (Or.inr z)) ho (pm_t_inv ht) (K H locs ls cells slots hR hS hl rfl rfl)
    next => cases hs
  | lookupswitch dflt ps =>
    simp only [pm_step] at hs
    split at hs
    next x r =>
      split at hs
      next hq =>
        obtain ⟨t, ht, hs⟩ := Option.map_eq_some_iff.mp hs
        cases hs
        exact lv_lookup hx hb hd hq rfl (pm_t_inv ht) (K H locs ls cells slots hR hS hl rfl rfl)
      next => cases hs
    next => cases hs
  | getfield k =>
    obtain rfl := sd_ln hn
    simp only [pm_step] at hs
    split at hs
    next a r =>
      obtain ⟨T, hT, hs⟩ := Option.bind_eq_some_iff.mp hs
      obtain ⟨v, hv, hs⟩ := Option.map_eq_some_iff.mp hs
      cases hs
      exact sd_getf X hR hS hd hT hv (K H locs ls cells slots hR hS hl rfl rfl)
    next => cases hs
  | putfield k =>
    obtain rfl := sd_ln hn
    simp only [pm_step] at hs
    split at hs
    next v a r =>
      obtain ⟨T, hT, hs⟩ := Option.bind_eq_some_iff.mp hs
      obtain ⟨h2, hv, hs⟩ := Option.map_eq_some_iff.mp hs
      cases hs
      exact sd_putf X hR hS hd hT hv (fun H1 locs1 r1 r2 r3 => K H1 locs1 ls cells slots r1 r2 hl (by rw [r3]) (by rw [r3]))
    next => cases hs
  | getstatic k =>
    obtain rfl := sd_ln hn
    simp only [pm_step] at hs
    obtain ⟨v, hv, hs⟩ := Option.map_eq_some_iff.mp hs
    cases hs
    obtain ⟨h2, h3, h4⟩ := sd_tg_ok own _ (pm_lk_mem hv)
    dsimp only at h2 h4
    subst h2; subst h3; subst h4
    exact va_gets hx hb X.2.2.2.2.2.2.2.2.2.1 hS hown (hts _ sd_strS) (fun _ h => h) hd (K H locs ls cells slots hR hS hl rfl rfl)
  | iaload =>
    obtain rfl := sd_ln hn
    simp only [pm_step] at hs
    split at hs
    next i a r =>
      obtain ⟨v, hv, hs⟩ := Option.map_eq_some_iff.mp hs
      cases hs
      exact sd_iald X hR hS hd hv (K H locs ls cells slots hR hS hl rfl rfl)
    next => cases hs
  | baload =>
    obtain rfl := sd_ln hn
    simp only [pm_step] at hs
    split at hs
    next i a r =>
      obtain ⟨v, hv, hs⟩ := Option.map_eq_some_iff.mp hs
      cases hs
      exact sd_bald X hR hS hd hv (K H locs ls cells slots hR hS hl rfl rfl)
    next => cases hs
  | laload =>
    obtain rfl := sd_ln hn
    simp only [pm_step] at hs
    split at hs
    next i a r =>
      obtain ⟨v, hv, hs⟩ := Option.map_eq_some_iff.mp hs
      cases hs
      exact sd_lald X hR hd hv (K H locs ls cells slots hR hS hl rfl rfl)
    next => cases hs
  | aaload =>
    obtain rfl := sd_ln hn
    simp only [pm_step] at hs
    split at hs
    next i a r =>
      obtain ⟨v, hv, hs⟩ := Option.map_eq_some_iff.mp hs
      cases hs
      exact sd_aald X hR hd hv (K H locs ls cells slots hR hS hl rfl rfl)
    next => cases hs
  | iastore =>
    obtain rfl := sd_ln hn
    simp only [pm_step] at hs
    split at hs
    next x i a r =>
      obtain ⟨h2, hv, hs⟩ := Option.map_eq_some_iff.mp hs
      cases hs
      exact sd_iast X hR hS hd hv (fun H1 locs1 r1 r2 r3 => K H1 locs1 ls cells slots r1 r2 hl (by rw [r3]) (by rw [r3]))
    next => cases hs
  | bastore =>
    obtain rfl := sd_ln hn
    simp only [pm_step] at hs
    split at hs
    next x i a r =>
      obtain ⟨h2, hv, hs⟩ := Option.map_eq_some_iff.mp hs
      cases hs
      exact sd_bast X hR hS hd hv (fun H1 locs1 r1 r2 r3 => K H1 locs1 ls cells slots r1 r2 hl (by rw [r3]) (by rw [r3]))
    next => cases hs
  | lastore =>
    obtain rfl := sd_ln hn
    simp only [pm_step] at hs
    split at hs
    next x i a r =>
      obtain ⟨h2, hv, hs⟩ := Option.map_eq_some_iff.mp hs
      cases hs
      exact sd_last X hR hS hd hv (fun H1 locs1 r1 r2 r3 => K H1 locs1 ls cells slots r1 r2 hl (by rw [r3]) (by rw [r3]))
    next => cases hs
  | aastore =>
    obtain rfl := sd_ln hn
    simp only [pm_step] at hs
    split at hs
    next x i a r =>
      obtain ⟨h2, hv, hs⟩ := Option.map_eq_some_iff.mp hs
      cases hs
      exact sd_aast X hR hS hd hv (fun H1 locs1 r1 r2 r3 => K H1 locs1 ls cells slots r1 r2 hl (by rw [r3]) (by rw [r3]))
    next => cases hs
  | arraylength =>
    obtain rfl := sd_ln hn
    simp only [pm_step] at hs
    split at hs
    next a r =>
      obtain ⟨v, hv, hs⟩ := Option.map_eq_some_iff.mp hs
      cases hs
      exact sd_alen X hR hS hd hv (K H locs ls cells slots hR hS hl rfl rfl)
    next => cases hs
  | new k =>
    obtain rfl := sd_ln hn
    simp only [pm_step] at hs
    obtain ⟨cn, hv, hs⟩ := Option.map_eq_some_iff.mp hs
    cases hs
    have hc : cells + (h.2.1 + 1 - h.2.1) ≤ R.cells := hc
    have hsl : slots + (h.2.2 + (pm_df cn).length - h.2.2) ≤ R.slots := hsl
    exact sd_new X hR hS hz hd hv (by omega) (by omega) (fun H1 r1 r2 => K H1 locs ls _ _ r1 r2 hl (by show cells + 1 + h.2.1 = cells + (h.2.1 + 1); omega) (by show slots + _ + h.2.2 = slots + (h.2.2 + _); omega))
  | newarray ty =>
    obtain rfl := sd_ln hn
    simp only [pm_step] at hs
    split at hs
    next n r =>
      obtain ⟨h2, hv, hs⟩ := Option.map_eq_some_iff.mp hs
      cases hs
      exact sd_newa X hR hS hz hd hv hc hsl (fun H1 r1 r2 r3 r4 => K H1 locs ls _ _ r1 r2 hl (by omega) (by omega))
    next => cases hs
  | anewarray k =>
    obtain rfl := sd_ln hn
    simp only [pm_step] at hs
    split at hs
    next n r =>
      obtain ⟨t, ht, hs⟩ := Option.bind_eq_some_iff.mp hs
      obtain ⟨h2, hv, hs⟩ := Option.map_eq_some_iff.mp hs
      cases hs
      exact sd_newq X hR hS hz hd ht hv hc hsl (fun H1 r1 r2 r3 r4 => K H1 locs ls _ _ r1 r2 hl (by omega) (by omega))
    next => cases hs
  | multianewarray k dims =>
    obtain rfl := sd_ln hn
    by_cases h2 : dims = 2
    · subst h2
      simp only [pm_step] at hs
      split at hs
      next mm n r =>
        obtain ⟨t, ht, hs⟩ := Option.bind_eq_some_iff.mp hs
        obtain ⟨h2, hv, hs⟩ := Option.map_eq_some_iff.mp hs
        cases hs
        exact sd_newm X hR hS hz hd ht hv hc hsl (fun H1 r1 r2 r3 r4 => K H1 locs ls _ _ r1 r2 hl (by omega) (by omega))
      next => cases hs
    · exfalso
      revert hs
      unfold pm_step
      split <;> first | (intro hs; cases hs; done) | (intro hs; simp_all)
  | invokespecial k =>
    obtain rfl := sd_ln hn
    simp only [pm_step] at hs
    split at hs
    next a r =>
      split at hs
      next h8 =>
        obtain ⟨t, ht, hs⟩ := Option.map_eq_some_iff.mp hs
        cases hs
        exact W.objInit hx hb hown (hts _ (sd_to_ok own _ (pm_lk_mem ht))) (hts _ sd_oi1) (hts _ sd_oi2) rfl hl.2.1 rfl hd hfr (by show 2 * 0 + _ + 12 ≤ _; rw [sd_sum]; omega) (K H locs ls cells slots hR hS hl rfl rfl)
      next => cases hs
    next => cases hs
  | _ => cases hs
end SDS
