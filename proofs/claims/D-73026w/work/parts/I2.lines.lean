/-! THE PLAIN LAW: a line of orders, the component's -/
set_option maxRecDepth 100000
abbrev RL : Type := Int32 × Int32 × (Nat → Int32) × (Nat → Int32)
abbrev dg (c : Int32) : Prop := ¬ c < 48 ∧ ¬ 57 < c
abbrev sg (c : Int32) : Prop := c = 64 ∨ c = 35 ∨ c = 61 ∨ c = 42 ∨ c = 38
def pn (c : Int32) : Nat := (c - 97).toNatClampNeg
theorem pn_s {c : Int32} (h : ltr c) : pn c < 16 ∧ c - 97 = ii (pn c) := by
  rcases in16 (c - 97) with ⟨k, hk, e⟩ | hx
  · unfold pn
    rw [e, ii_n (by omega)]
    exact ⟨hk, rfl⟩
  · exact (hx.elim (fun a => h.1 a) (fun a => a h.2)).elim
def setH (r : RL) (p : Nat) (v : Int32) : RL := (r.1 ||| bt p, r.2.1 ||| (if hb r.1 p = true then 0 else bt p), upd r.2.2.1 p v, r.2.2.2)
def one_ (v : Int32) (q : Nat) (b : Bool) : Int32 := if b = true then v ||| bt q else v &&& (bt q ^^^ (-1))
def prt (F : Nat → Int32) (p q : Nat) (b : Bool) : Nat → Int32 := upd (upd F p (one_ (F p) q b)) q (one_ (upd F p (one_ (F p) q b) q) p b)
def hsS (z : z_T) (N a p : Nat) (r : RL) : Int32 ⊕ (Nat × RL) :=
  if dg (hr z N a) then (if dg (hr z N (a + 1)) then (if dg (hr z N (a + 2)) then .inl (-1000 * 2 - ii (a + 2)) else .inr (a + 2, setH r p (10 * (10 * 0 + hr z N a - 48) + hr z N (a + 1) - 48))) else .inr (a + 1, setH r p (10 * 0 + hr z N a - 48))) else .inl (-1000 * 1 - ii a)
def otS (z : z_T) (N a p : Nat) (b : Bool) (r : RL) : Int32 ⊕ (Nat × RL) :=
  if ltr (hr z N a) then (if p = pn (hr z N a) then .inl (-1000 * 6 - ii a) else if hb r.1 (pn (hr z N a)) = true then .inr (a + 1, (r.1, r.2.1, r.2.2.1, prt r.2.2.2 p (pn (hr z N a)) b)) else .inl (-1000 * 7 - ii a)) else .inl (-1000 * 1 - ii a)
def lnS (z : z_T) (N a l : Nat) (r : RL) : Int32 ⊕ (Nat × RL) :=
  if ltr (hr z N a) then (if l = 24 then .inl (-1000 * 4 - ii a) else if sg (hr z N (a + 1)) then (if hr z N (a + 1) = 64 then hsS z N (a + 2) (pn (hr z N a)) r else if hb r.1 (pn (hr z N a)) = true then (if hr z N (a + 1) = 35 then .inr (a + 2, (r.1, r.2.1 &&& (bt (pn (hr z N a)) ^^^ (-1)), r.2.2)) else if hr z N (a + 1) = 61 then .inr (a + 2, (r.1, r.2.1 ||| bt (pn (hr z N a)), r.2.2)) else otS z N (a + 2) (pn (hr z N a)) (decide (hr z N (a + 1) = 42)) r) else .inl (-1000 * 7 - ii a)) else .inl (-1000 * 1 - ii (a + 1))) else .inl (-1000 * 1 - ii a)
/-- the trial roll is r -/
def xrl (y : z_T) (r : RL) : Prop := y.1 11 2 = r.1 ∧ y.1 11 3 = r.2.1 ∧ (∀ p, p < 16 → y.1 12 p = r.2.2.1 p) ∧ (∀ p, p < 16 → y.1 13 p = r.2.2.2 p)
section
variable {L : Nat} {xs : Nat → Int32} {z : z_T} {e : Nat}
/-- the constable's heap -/
def cS (L : Nat) (xs : Nat → Int32) (y : z_T) (e : Nat) (N A f p l : Int32) : pm_H := hp L xs (ue y e (sc 13 N A f p [.int l, .ref 7]))
/-- what a step leaves -/
def xO (L : Nat) (xs : Nat → Int32) (z : z_T) (e N : Nat) (l : Int32) (o : Int32 ⊕ (Nat × RL)) (s : Option pm_H) : Prop := match o with
  | .inl v => ∃ y a f p, s = some (cS L xs y e (ii N) a f p l) ∧ f ≠ 0 ∧ -1000 * f - p = v ∧ kp z y
  | .inr (a, r) => ∃ y p, s = some (cS L xs y e (ii N) (ii a) 0 p l) ∧ kp z y ∧ xrl y r
theorem hr_kp {y : z_T} (h3 : kp z y) (N a : Nat) : hr y N a = hr z N a := by
  unfold hr by_
  rw [h3.2 75 a rfl]
theorem c_r {y : z_T} {N A f p l : Int32} (he : 135 ≤ e ∧ e < 135 + y.2.2.2.2.1) : pm_fI [(13, 5)] (cS L xs y e N A f p l) e = some l ∧ pm_fR [(13, 6)] (cS L xs y e N A f p l) e = some 7 ∧ pm_cl_ (cS L xs y e N A f p l) e = some 13 ∧ ∀ v, pm_put [(13, 5, 0)] (cS L xs y e N A f p l) e (.int v) = some (cS L xs y e N A f p v) :=
  ⟨ze_fI he rfl rfl, ze_fR he rfl rfl, ze_cl he, fun _ => ze_put (cl := 13) (k := 5) (kd := 0) (fs := [.int N, .int A, .int f, .int p, .ref 7, .int l, .ref 7]) he rfl rfl (by show 5 < 7; omega)⟩
theorem h24_N {y : z_T} {N a n : Nat} {x2 x3 p l : Int32} (he : 135 ≤ e ∧ e < 135 + y.2.2.2.2.1) (hN : N ≤ 260) (ha : a < 10000) (h : ¬ dg (hr y N a)) : L_X17_house_24 (n + 1) e x2 x3 (cS L xs y e (ii N) (ii a) 0 p l) = some (x2, cS L xs y e (ii N) (ii a) 0 p l) := by
  obtain ⟨c1, c2, c3, c4⟩ := c_r (L := L) (xs := xs) (y := y) (N := ii N) (A := ii a) (f := 0) (p := p) (l := l) he
  unfold cS at c3 ⊢
  rw [L_X17_house_24, if_pos c3, s_good (Or.inl rfl) he, Option.bind_some, if_pos rfl, if_neg (by decide), if_pos c3, s_sees (Or.inl rfl) he hN (by omega), Option.bind_some, if_neg h, if_pos rfl]
theorem h24_Y {y : z_T} {N a b n : Nat} {x2 p l : Int32} (he : 135 ≤ e ∧ e < 135 + y.2.2.2.2.1) (hN : N ≤ 260) (ha : a < 10000) (hb1 : b < 10000) (h : dg (hr y N a)) (hne : a ≠ b + 2) : L_X17_house_24 (n + 1) e x2 (ii b) (cS L xs y e (ii N) (ii a) 0 p l) = L_X17_house_24 n e (((10 * x2) + hr y N a) - 48) (ii b) (cS L xs y e (ii N) (ii (a + 1)) 0 p l) := by
  obtain ⟨c1, c2, c3, c4⟩ := c_r (L := L) (xs := xs) (y := y) (N := ii N) (A := ii a) (f := 0) (p := p) (l := l) he
  have e2 : ¬ ii a = ii b + 2 := by
    rw [show ii b + 2 = ii (b + 2) from ii_add b 2, ii_eq (by omega) (by omega)]
    exact hne
  unfold cS at c3 ⊢
  rw [L_X17_house_24, if_pos c3, s_good (Or.inl rfl) he, Option.bind_some, if_pos rfl, if_neg (by decide), if_pos c3, s_sees (Or.inl rfl) he hN (by omega), Option.bind_some, if_pos h, if_neg (by decide), if_pos c3, s_place (Or.inl rfl) he, Option.bind_some, if_neg e2, Option.bind_some, if_pos c3, s_here (Or.inl rfl) he hN (by omega), Option.bind_some, if_pos c3, s_on (Or.inl rfl) he, Option.bind_some, ii_s]
theorem h24_B {y : z_T} {N b n : Nat} {x2 p l : Int32} (he : 135 ≤ e ∧ e < 135 + y.2.2.2.2.1) (hN : N ≤ 260) (hb1 : b < 10000) (h : dg (hr y N (b + 2))) : ∃ v, L_X17_house_24 (n + 2) e x2 (ii b) (cS L xs y e (ii N) (ii (b + 2)) 0 p l) = some (v, cS L xs y e (ii N) (ii (b + 2) + 1) 2 (ii (b + 2)) l) := by
  obtain ⟨c1, c2, c3, c4⟩ := c_r (L := L) (xs := xs) (y := y) (N := ii N) (A := ii (b + 2)) (f := 0) (p := p) (l := l) he
  obtain ⟨_, _, d3, _⟩ := c_r (L := L) (xs := xs) (y := y) (N := ii N) (A := ii (b + 2)) (f := 2) (p := ii (b + 2)) (l := l) he
  obtain ⟨_, _, g3, _⟩ := c_r (L := L) (xs := xs) (y := y) (N := ii N) (A := ii (b + 2) + 1) (f := 2) (p := ii (b + 2)) (l := l) he
  have e2 : ii (b + 2) = ii b + 2 := (ii_add b 2).symm
  refine ⟨((10 * x2) + hr y N (b + 2)) - 48, ?_⟩
  unfold cS at c3 d3 g3 ⊢
  rw [L_X17_house_24, if_pos c3, s_good (Or.inl rfl) he, Option.bind_some, if_pos rfl, if_neg (by decide), if_pos c3, s_sees (Or.inl rfl) he hN (by omega), Option.bind_some, if_pos h, if_neg (by decide), if_pos c3, s_place (Or.inl rfl) he, Option.bind_some, if_pos e2, Option.bind_some, if_pos c3, s_bad (Or.inl rfl) he, Option.bind_some, Option.bind_some, if_pos d3, s_here (Or.inl rfl) he hN (by omega), Option.bind_some, if_pos d3, s_on (Or.inl rfl) he, Option.bind_some]
  rw [L_X17_house_24, if_pos g3, s_good (Or.inl rfl) he, Option.bind_some, if_pos (show (if (2 : Int32) = 0 then (1 : Int32) else 0) = 0 by decide)]
/-- the end of house -/
theorem x_hend {y : z_T} {N a p n : Nat} {r : RL} {v q l : Int32} (he : 135 ≤ e ∧ e < 135 + y.2.2.2.2.1) (hp1 : p < 16) (h3 : kp z y) (X : xrl y r) {s : Option (Int32 × pm_H)} (hs : s = some (v, cS L xs y e (ii N) (ii a) 0 q l)) : xO L xs z e N l (.inr (a, setH r p v)) (s.bind fun q13 =>
    (if pm_cl_ q13.2 e = some 13 then F_X16_isGood q13.2 e else none).bind fun q14 =>
    if q14 = 0 then
      some q13.2
    else
      (pm_fR [(13, 6)] q13.2 e).bind fun v15 =>
      (pm_fR [(0, 1)] q13.2 v15).bind fun v16 =>
      (pm_fI [(1, 3)] q13.2 v16).bind fun v17 =>
      (pm_fR [(13, 6)] q13.2 e).bind fun v18 =>
      (pm_fR [(0, 1)] q13.2 v18).bind fun v19 =>
      (if pm_cl_ q13.2 v19 = some 1 then F_X1_isTold q13.2 v19 (ii p) else none).bind fun q20 =>
      ((
        if q20 = 0 then
          some (pm_shl 1 (ii p))
        else
          some 0
      ) : Option (Int32)).bind fun q21 =>
      (pm_put [(1, 3, 0)] q13.2 v16 (.int (v17 ||| q21))).bind fun h22 =>
      (pm_fR [(13, 6)] h22 e).bind fun v23 =>
      (pm_fR [(0, 1)] h22 v23).bind fun v24 =>
      (pm_fI [(1, 2)] h22 v24).bind fun v25 =>
      (pm_put [(1, 2, 0)] h22 v24 (.int (v25 ||| (pm_shl 1 (ii p))))).bind fun h26 =>
      (pm_fR [(13, 6)] h26 e).bind fun v27 =>
      (pm_fR [(0, 1)] h26 v27).bind fun v28 =>
      (pm_fR [(1, 0)] h26 v28).bind fun v29 =>
      (pm_si 0 h26 v29 (ii p) q13.1).bind fun h30 =>
      some h30) := by
  obtain ⟨x1, x2, x3, x4⟩ := X
  have c3 := fun y (he : 135 ≤ e ∧ e < 135 + y.2.2.2.2.1) => (c_r (L := L) (xs := xs) (y := y) (N := ii N) (A := ii a) (f := 0) (p := q) (l := l) he).2.2.1
  have c2 := fun y (he : 135 ≤ e ∧ e < 135 + y.2.2.2.2.1) => (c_r (L := L) (xs := xs) (y := y) (N := ii N) (A := ii a) (f := 0) (p := q) (l := l) he).2.1
  unfold cS at c3 c2 hs
  rw [hs, Option.bind_some]
  dsimp only
  rw [if_pos (c3 y he), s_good (Or.inl rfl) he, Option.bind_some, if_pos rfl, if_neg (by decide), c2 y he]
  simp only [zr_0, zr_1, zr_2, zr_3, zr_4, zr_5, zr_6, Option.bind_some, po_s, po_n, x_told11, isT_ii hp1, ↓reduceIte, b01, btd]
  have e20 : ((if ¬ hb ((ue y e (sc 13 (ii N) (ii a) 0 q [.int l, .ref 7])).1 11 2) p = true then some (bt p) else some 0) : Option Int32) = some (if hb r.1 p = true then 0 else bt p) := by
    show ((if ¬ hb (y.1 11 2) p = true then some (bt p) else some 0) : Option Int32) = _
    rw [x1]
    by_cases c : hb r.1 p = true
    · rw [if_neg (fun h => h c), if_pos c]
    · rw [if_pos c, if_neg c]
  rw [e20, Option.bind_some]
  simp only [zw_0, zw_1, Option.bind_some, po_s, po_n, ui_ue, c2 (ui y 11 3 _) he, zr_0, zr_1, zr_2, zr_3, zr_4, zr_5, zr_6, c2 (ui (ui y 11 3 _) 11 2 _) he, za_0, za_1, za_2, za_3, za_4, za_5, hp1]
  refine ⟨_, q, rfl, ((h3.ui rfl).ui rfl).ui rfl, ?_, ?_, fun j hj => ?_, fun j hj => ?_⟩
  · rw [ui_o (by decide), ui_a]
    exact congrArg (fun q => q ||| bt p) x1
  · rw [ui_o (by decide), ui_b (by decide), ui_a]
    show y.1 11 3 ||| _ = r.2.1 ||| _
    rw [x2]
  · show (ui (ui (ui y 11 3 _) 11 2 _) 12 p v).1 12 j = upd r.2.2.1 p v j
    unfold upd
    by_cases c : j = p
    · rw [if_pos c, c, ui_a]
    · rw [if_neg c, ui_b c, ui_o (by decide), ui_o (by decide)]
      exact x3 j hj
  · rw [ui_o (by decide), ui_o (by decide), ui_o (by decide)]
    exact x4 j hj
end
