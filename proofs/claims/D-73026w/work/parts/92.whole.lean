def R_law : String := "AnyKeyTownLaw"
def lw_P (b : Addr) (xs : List Int32) (args : Array Value) (s : State) : Prop := args = #[.ref b] ∧ s.IntsAt b xs ∧ xs.length ≤ 384 ∧ (Jvm.Cond.and given_1 narrow_1).before args s = true
def lw_Q (_ : Array Value) (s : State) (o : Outcome) (t : State) : Prop := o = .returned (some (.int 1)) ∧ Framed s o t [] 1200000 5502250
def lw_Z (below : List Frame) (a : Array Value) (s : State) : State → Prop := fun t => ∃ o, t.status = .running ∧ Ended t below o ∧ lw_Q a s o t
/-- the law's own end, with 1 on the stack, nothing written that was there before, its room as the claim has it -/
theorem lw_ret {p : Program} {l : Launch} {e : Env} {s : State} {m : MethodId} {below : List Frame} {meth : Method} {c : Code} {b : Nat} (hx : p.tables.exec = Jvm.exec) (hb : c.code = code) (hr : meth.sig.returnType = ret) (hlocks : meth.locks = false) {pc : Nat} {H : Heap} {ls : Array Slot} (hdg : decode code pc = .ok (.ireturn, 1)) : W p l e room_1 s m #[Value.ref b] below meth c H [] 1200000 5502250 (lw_Z below #[Value.ref b] s) (F0 m pc ls [.int 1]) := by
  intro T hT X
  obtain ⟨fs, hret, hrun, hended, hW, hframe⟩ := X.leave (v := some (.int 1)) (hlocks := hlocks) (fun h => by rw [hr] at h; cases h)
  have hmeth' : T.vm.method? m = some meth := X.method'
  refine ⟨T.setFrames fs, ?_, .returned (some (.int 1)), hrun, hended, rfl, ⟨_, rfl⟩, hW, hframe⟩
  jvm_step X.here [X.here.top, hx, hb, hdg, hmeth', hr, ret, narrow_b1]
  (try refine ⟨rfl, ?_⟩); (try refine ⟨rfl, ?_⟩)
  first | (intro acts; rw [hret _ acts rfl rfl rfl]) | rw [hret _ _ rfl rfl rfl]
  exact Steps.refl _
/-- what holds at the law's entry: the machine, the code, the tables' words (any of lw_tbl by 'hts w (by decide +kernel)'), the script of L ints xs at the cell b, what the Statement gives of the start (any of its parts by flat_of_before) -/
def lw_At (p : Program) (s : State) (m : MethodId) (meth : Method) (c : Code) (b L : Nat) (xs : Nat → Int32) : Prop :=
  p.tables.exec = Jvm.exec ∧ c.code = code ∧ meth.sig.returnType = ret ∧ c.maxLocals = 4 ∧ s.vm.findClass R_law = some m.cls ∧ (∀ w ∈ lw_tbl, w.before #[Value.ref b] s = true) ∧ va_X b L xs s s.heap ∧ b < s.heap.size ∧ meth.locks = false ∧ (Jvm.Cond.and given_1 narrow_1).before #[Value.ref b] s = true
-- ===== YOUR PART BEGINS =====
/-! THE START: from the plain law to the whole -/
set_option maxRecDepth 100000
/-- the pure heap at the law's entry -/
def zw_h0 (L : Nat) (xs : Nat → Int32) : pm_H := (sd_k L xs, 7, 0)
/-- what the plain law has to say -/
def zw_Law (L : Nat) (xs : Nat → Int32) : Prop := ∃ (n : Nat) (h : pm_H), F_L_law n (zw_h0 L xs) 0 = some (1, h) ∧ h.2.1 ≤ 1200007 ∧ h.2.2 ≤ 5502250
theorem zw_nw_ok : ∀ w ∈ sd_nw, w.onTables = true := List.all_eq_true.mp (by decide +kernel)
theorem zw_world {s : State} {b L : Nat} {xs : Nat → Int32} (hts : ∀ w ∈ lw_tbl, w.before #[Value.ref b] s = true) (hX : va_X b L xs s s.heap) (hbl : b < s.heap.size) (hg : (Jvm.Cond.and given_1 narrow_1).before #[Value.ref b] s = true) :
    ∃ g : sd_G, sd_base g = s.heap.size ∧ sd_b g = b ∧ sd_L g = L ∧ sd_xs g = xs ∧ sd_Kn g s ∧ sd_Im g s := by
  have hfl := flat_of_before _ hg
  have hall : ∀ w ∈ lw_all, w.before #[Value.ref b] s = true := fun w hw => hts w (List.mem_filter.mp hw).1
  obtain ⟨D, hD⟩ := zw_cl hall
  obtain ⟨c0, r0, f0⟩ := zw_ac (hall _ sd_ac_int)
  obtain ⟨c1, r1, f1⟩ := zw_ac (hall _ sd_ac_byte)
  obtain ⟨c2, r2, f2⟩ := zw_ac (hall _ sd_ac_long)
  obtain ⟨c3, r3, f3⟩ := zw_aa (hts _ q220)
  obtain ⟨c4, r4, f4⟩ := zw_ao (hts _ q265)
  obtain ⟨c5, r5, f5⟩ := zw_ao (hts _ q267)
  have hA : ∀ a : Nat, a < s.heap.size → ¬ (s.heap.size ≤ a) := fun a h => Nat.not_le.mpr h
  obtain ⟨adK, adV, hS, hE⟩ := zw_tx (A := fun q => s.heap.size ≤ q) hfl hA
  refine ⟨(D.1, D.2, fun k => [c0, c1, c2, c3, c4, c5].getD k 0, s.heap.size, b, L, xs, adK, adV), rfl, rfl, rfl, rfl, ?_, ?_⟩
  · refine ⟨⟨hD, ?_⟩, fun w hw => va_Nw.of (zw_nw_ok w hw) (hts w (sd_nw_tbl w hw)), va_AO.of (hts _ q265), va_AO.of (hts _ q267), (show va_Nw (.arrayOver (.array .int)) s from hts _ q220), vk_R.of (hts _ q552) (hE 0 (by decide)), vk_R.of (hts _ q418) (hE 1 (by decide)), vk_R.of (hts _ q728) (hE 2 (by decide))⟩
    intro k q hk
    match k, hk with
    | 0, hk => cases hk; exact ⟨r0, f0⟩
    | 1, hk => cases hk; exact ⟨r1, f1⟩
    | 2, hk => cases hk; exact ⟨r2, f2⟩
    | 3, hk => cases hk; exact ⟨r3, f3⟩
    | 4, hk => cases hk; exact ⟨r4, f4⟩
    | 5, hk => cases hk; exact ⟨r5, f5⟩
    | j + 6, hk => cases hk
  · exact ⟨hX, hbl, hS, va_Zof (hts _ q432) (hall _ q109) (va_eqi (hfl _ (by decide +kernel))) hA, Nat.le_refl _⟩
theorem zw_start {p : Program} {e : Env} {s : State} {m : MethodId} {below : List Frame} {meth : Method} {c : Code} (l : Launch) {b L : Nat} {xs : Nat → Int32} (hlaw : zw_Law L xs) (C0 : lw_At p s m meth c b L xs) : W p l e room_1 s m #[Value.ref b] below meth c s.heap [] 0 0 (lw_Z below #[Value.ref b] s) (entryFrame m ([Value.ref b] : List Value).toArray 4) := by
  obtain ⟨hx, hb, hr, hml, hown, hts, hX, hbl, hlocks, hgv⟩ := C0
  obtain ⟨n, h, hF, hc1, hc2⟩ := hlaw
  obtain ⟨g, e1, e2, e3, e4, hKn, hIm⟩ := zw_world hts hX hbl hgv
  obtain ⟨N, hrun⟩ := ok_F_L_law (d := 0) hF
  have hall : ∀ w ∈ lw_all, w.before #[Value.ref b] s = true := fun w hw => hts w (List.mem_filter.mp hw).1
  have X : sd_X p s m #[Value.ref b] meth c g 19 code := ⟨hx, hb, hown, hall, fun h50 => absurd h50 (by decide), hKn, hIm⟩
  have hR : sd_R g (zw_h0 L xs) s.heap := ⟨Nat.le_refl _, fun i _ => by rw [e3, e4]; rfl, by rw [e1]; rfl, fun k h1 h2 => absurd h2 (Nat.not_lt.mpr h1)⟩
  have hH := sd_en (ρ := sd_ρ g) (as := [Value.ref 0]) (n := 4) rfl (by decide)
  have hv : ([Value.ref 0].map (sd_v (sd_ρ g))) = [Value.ref b] := by
    rw [← e2]; rfl
  rw [lg_entry_eq]
  rw [hv] at hH
  refine sd_sound l g N hrun (st := []) (mc := 1200000) (ms := 5502250) X (lb rfl) (lb rfl) (lb rfl) (lb rfl) hR va_S.rf (by rw [hml]; exact hH) ?_ ?_ ?_
  · show 0 + (h.2.1 - 7) ≤ _
    omega
  · show 0 + (h.2.2 - 0) ≤ _
    omega
  · intro i len pc' st' ls' H' locs' cells' slots' hd hn h0 hR' hS' hc hs
    refine va_forget (fun q hq => ?_) (W.widen hc hs ?_)
    · have := hS'.2.2 q hq
      rw [← e1]
      exact this
    · cases i with
      | ireturn =>
        obtain rfl := sd_ln hn
        unfold pm_ret at h0
        dsimp only at h0
        split at h0
        next v ty =>
          split at h0
          next hna => 
            cases h0
            exact lw_ret hx hb hr hlocks hd
          next => cases h0
        next => cases h0
      | lreturn =>
        unfold pm_ret at h0
        dsimp only at h0
        split at h0
        next => cases h0
        next => cases h0
      | areturn =>
        unfold pm_ret at h0
        dsimp only at h0
        split at h0
        next => cases h0
        next => cases h0
        next => cases h0
      | return_ =>
        unfold pm_ret at h0
        dsimp only at h0
        split at h0
        next => cases h0
        next => cases h0
      | _ => cases h0
