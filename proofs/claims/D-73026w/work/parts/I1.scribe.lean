/-! THE PLAIN LAW: what reads orders and dances -/
set_option maxRecDepth 100000
/-- the scribe's cell -/
def sc (cl : Nat) (N A f p : Int32) (R : List Value) : pm_C := .inr (cl, .int N :: .int A :: .int f :: .int p :: .ref 7 :: R)
def hr (z : z_T) (N a : Nat) : Int32 := if a < N then by_ z a else 0
section
variable {L : Nat} {xs : Nat → Int32} {z : z_T} {e cl : Nat} {N A f p : Int32} {R : List Value}
theorem sc_lk {k : Nat} (hc : cl = 13 ∨ cl = 14) : pm_lk [(13, k), (14, k)] cl = some k := by
  rcases hc with rfl | rfl <;> rfl
theorem sc_lp {k d : Nat} (hc : cl = 13 ∨ cl = 14) : pm_lk [(13, k, d), (14, k, d)] cl = some (k, d) := by
  rcases hc with rfl | rfl <;> rfl
theorem sc_r (hc : cl = 13 ∨ cl = 14) (he : 135 ≤ e ∧ e < 135 + z.2.2.2.2.1) : pm_fI [(13, 0), (14, 0)] (hp L xs (ue z e (sc cl N A f p R))) e = some N ∧ pm_fI [(13, 1), (14, 1)] (hp L xs (ue z e (sc cl N A f p R))) e = some A ∧ pm_fI [(13, 2), (14, 2)] (hp L xs (ue z e (sc cl N A f p R))) e = some f ∧ pm_fI [(13, 3), (14, 3)] (hp L xs (ue z e (sc cl N A f p R))) e = some p ∧ pm_fR [(13, 4), (14, 4)] (hp L xs (ue z e (sc cl N A f p R))) e = some 7 ∧ pm_cl_ (hp L xs (ue z e (sc cl N A f p R))) e = some cl :=
  ⟨ze_fI he (sc_lk hc) rfl, ze_fI he (sc_lk hc) rfl, ze_fI he (sc_lk hc) rfl, ze_fI he (sc_lk hc) rfl, ze_fR he (sc_lk hc) rfl, ze_cl he⟩
theorem sc_w (hc : cl = 13 ∨ cl = 14) (he : 135 ≤ e ∧ e < 135 + z.2.2.2.2.1) : (∀ v, pm_put [(13, 1, 0), (14, 1, 0)] (hp L xs (ue z e (sc cl N A f p R))) e (.int v) = some (hp L xs (ue z e (sc cl N v f p R)))) ∧ (∀ v, pm_put [(13, 2, 0), (14, 2, 0)] (hp L xs (ue z e (sc cl N A f p R))) e (.int v) = some (hp L xs (ue z e (sc cl N A v p R)))) ∧ (∀ v, pm_put [(13, 3, 0), (14, 3, 0)] (hp L xs (ue z e (sc cl N A f p R))) e (.int v) = some (hp L xs (ue z e (sc cl N A f v R)))) :=
  ⟨fun _ => ze_put he (sc_lp hc) rfl (by show 1 < _ + 5; omega), fun _ => ze_put he (sc_lp hc) rfl (by show 2 < _ + 5; omega), fun _ => ze_put he (sc_lp hc) rfl (by show 3 < _ + 5; omega)⟩
theorem s_here {n a : Nat} (hc : cl = 13 ∨ cl = 14) (he : 135 ≤ e ∧ e < 135 + z.2.2.2.2.1) (hn : n ≤ 260) (ha : a < 2147483648) : F_X16_here (hp L xs (ue z e (sc cl (ii n) (ii a) f p R))) e = some (hr z n a) := by
  obtain ⟨r0, r1, r2, r3, r4, r5⟩ := sc_r (L := L) (xs := xs) (z := z) (e := e) (N := ii n) (A := ii a) (f := f) (p := p) (R := R) hc he
  unfold F_X16_here hr
  rw [r0, r1, r4]
  simp only [Option.bind_some, po_s, po_n, ii_lt ha (show n < 2147483648 by omega)]
  by_cases c : a < n
  · rw [if_pos c, if_pos c]
    simp only [zr_0, zr_1, zr_2, zr_3, zr_4, zr_5, zr_6, Option.bind_some, po_s, po_n, za_0, za_1, za_2, za_3, za_4, za_5, show a < 260 by omega]
    rfl
  · rw [if_neg c, if_neg c]
theorem s_good (hc : cl = 13 ∨ cl = 14) (he : 135 ≤ e ∧ e < 135 + z.2.2.2.2.1) : F_X16_isGood (hp L xs (ue z e (sc cl N A f p R))) e = some (if f = 0 then 1 else 0) := by
  obtain ⟨r0, r1, r2, r3, r4, r5⟩ := sc_r (L := L) (xs := xs) (z := z) (e := e) (N := N) (A := A) (f := f) (p := p) (R := R) hc he
  unfold F_X16_isGood
  rw [r2]
  simp only [Option.bind_some, po_s, po_n]
  split <;> rfl
theorem s_bad {w v : Int32} (hc : cl = 13 ∨ cl = 14) (he : 135 ≤ e ∧ e < 135 + z.2.2.2.2.1) : F_X16_bad (hp L xs (ue z e (sc cl N A 0 p R))) e w v = some (hp L xs (ue z e (sc cl N A w v R))) := by
  obtain ⟨r0, r1, r2, r3, r4, r5⟩ := sc_r (L := L) (xs := xs) (z := z) (e := e) (N := N) (A := A) (f := 0) (p := p) (R := R) hc he
  obtain ⟨w1, w2, w3⟩ := sc_w (L := L) (xs := xs) (z := z) (e := e) (N := N) (A := A) (f := 0) (p := p) (R := R) hc he
  obtain ⟨_, _, w4⟩ := sc_w (L := L) (xs := xs) (z := z) (e := e) (N := N) (A := A) (f := w) (p := p) (R := R) hc he
  unfold F_X16_bad
  rw [r2, Option.bind_some, if_neg (by decide), w2, Option.bind_some, w4]
  rfl
theorem s_on (hc : cl = 13 ∨ cl = 14) (he : 135 ≤ e ∧ e < 135 + z.2.2.2.2.1) : F_X16_goesOn (hp L xs (ue z e (sc cl N A f p R))) e = some (hp L xs (ue z e (sc cl N (A + 1) f p R))) := by
  obtain ⟨r0, r1, r2, r3, r4, r5⟩ := sc_r (L := L) (xs := xs) (z := z) (e := e) (N := N) (A := A) (f := f) (p := p) (R := R) hc he
  obtain ⟨w1, w2, w3⟩ := sc_w (L := L) (xs := xs) (z := z) (e := e) (N := N) (A := A) (f := f) (p := p) (R := R) hc he
  unfold F_X16_goesOn
  rw [r1, Option.bind_some, w1]
  rfl
theorem s_place (hc : cl = 13 ∨ cl = 14) (he : 135 ≤ e ∧ e < 135 + z.2.2.2.2.1) : F_X16_place (hp L xs (ue z e (sc cl N A f p R))) e = some A := by
  obtain ⟨r0, r1, r2, r3, r4, r5⟩ := sc_r (L := L) (xs := xs) (z := z) (e := e) (N := N) (A := A) (f := f) (p := p) (R := R) hc he
  unfold F_X16_place
  rw [r1]
  rfl
theorem s_end (hc : cl = 13 ∨ cl = 14) (he : 135 ≤ e ∧ e < 135 + z.2.2.2.2.1) : F_X16_isEnd (hp L xs (ue z e (sc cl N A f p R))) e = some (if A < N then 0 else 1) := by
  obtain ⟨r0, r1, r2, r3, r4, r5⟩ := sc_r (L := L) (xs := xs) (z := z) (e := e) (N := N) (A := A) (f := f) (p := p) (R := R) hc he
  unfold F_X16_isEnd
  rw [r0, r1]
  simp only [Option.bind_some, po_s, po_n]
  split <;> rfl
theorem s_cl (hc : cl = 13 ∨ cl = 14) (he : 135 ≤ e ∧ e < 135 + z.2.2.2.2.1) {h : pm_H} (eh : h = hp L xs (ue z e (sc cl N A f p R))) {α : Type} {X : Option α} : (if pm_cl_ h e = some 13 then X else (if pm_cl_ h e = some 14 then X else none)) = X := by
  obtain ⟨r0, r1, r2, r3, r4, r5⟩ := sc_r (L := L) (xs := xs) (z := z) (e := e) (N := N) (A := A) (f := f) (p := p) (R := R) hc he
  rw [eh, r5]
  rcases hc with rfl | rfl
  · rw [if_pos rfl]
  · rw [if_neg (by decide), if_pos rfl]
theorem s_sees {n a : Nat} {lo hi : Int32} (hc : cl = 13 ∨ cl = 14) (he : 135 ≤ e ∧ e < 135 + z.2.2.2.2.1) (hn : n ≤ 260) (ha : a < 2147483648) : F_X16_sees (hp L xs (ue z e (sc cl (ii n) (ii a) f p R))) e lo hi = some (if ¬ hr z n a < lo ∧ ¬ hi < hr z n a then 1 else 0) := by
  unfold F_X16_sees
  rw [s_cl (cl := cl) hc he rfl, s_here hc he hn ha, Option.bind_some]
  by_cases c1 : hr z n a < lo
  · rw [if_pos c1, if_neg (fun h => h.1 c1)]
  · rw [if_neg c1, Option.bind_some]
    by_cases c2 : hi < hr z n a
    · rw [if_pos c2, if_neg (fun h => h.2 c2)]
    · rw [if_neg c2, if_pos ⟨c1, c2⟩]
theorem s_ans {v : Int32} (hc : cl = 13 ∨ cl = 14) (he : 135 ≤ e ∧ e < 135 + z.2.2.2.2.1) : F_X16_answer (hp L xs (ue z e (sc cl N A f p R))) e v = some (if f = 0 then v else -1000 * f - p) := by
  obtain ⟨r0, r1, r2, r3, r4, r5⟩ := sc_r (L := L) (xs := xs) (z := z) (e := e) (N := N) (A := A) (f := f) (p := p) (R := R) hc he
  unfold F_X16_answer
  rw [s_cl (cl := cl) hc he rfl, s_good hc he, Option.bind_some]
  by_cases c : f = 0
  · rw [if_pos c, if_neg (by decide), if_pos c]
  · rw [if_neg c, if_pos rfl, if_neg c, r2, r3]
    rfl
/-- is it a letter of one of people -/
abbrev ltr (c : Int32) : Prop := ¬ c - 97 < 0 ∧ c - 97 < 16
theorem s_person {n a : Nat} (hc : cl = 13 ∨ cl = 14) (he : 135 ≤ e ∧ e < 135 + z.2.2.2.2.1) (hn : n ≤ 260) (ha : a < 2147483648) : F_X16_person (hp L xs (ue z e (sc cl (ii n) (ii a) 0 p R))) e = some (hr z n a - 97, hp L xs (ue z e (if ltr (hr z n a) then sc cl (ii n) (ii (a + 1)) 0 p R else sc cl (ii n) (ii (a + 1)) 1 (ii a) R))) := by
  obtain ⟨r0, r1, r2, r3, r4, r5⟩ := sc_r (L := L) (xs := xs) (z := z) (e := e) (N := ii n) (A := ii a) (f := 0) (p := p) (R := R) hc he
  obtain ⟨w1, w2, w3⟩ := sc_w (L := L) (xs := xs) (z := z) (e := e) (N := ii n) (A := ii a) (f := 0) (p := p) (R := R) hc he
  obtain ⟨q0, q1, q2, q3, q4, q5⟩ := sc_r (L := L) (xs := xs) (z := z) (e := e) (N := ii n) (A := ii a) (f := 1) (p := ii a) (R := R) hc he
  obtain ⟨w4, _, _⟩ := sc_w (L := L) (xs := xs) (z := z) (e := e) (N := ii n) (A := ii a) (f := 1) (p := ii a) (R := R) hc he
  unfold F_X16_person
  rw [s_cl (cl := cl) hc he rfl, s_here hc he hn ha, Option.bind_some, s_cl (cl := cl) hc he rfl, s_good hc he, Option.bind_some, if_pos rfl, if_neg (by decide), e_in, Option.bind_some]
  by_cases c : ltr (hr z n a)
  · have c' : ¬ hr z n a - 97 < 0 ∧ hr z n a - 97 < 16 := c
    rw [if_pos c', if_neg (by decide), r1, Option.bind_some, w1, Option.bind_some, if_pos c, ii_s]
  · have c' : ¬ (¬ hr z n a - 97 < 0 ∧ hr z n a - 97 < 16) := c
    rw [if_neg c', if_pos rfl, r1, Option.bind_some, s_cl (cl := cl) hc he rfl, s_bad hc he, Option.bind_some, q1, Option.bind_some, w4, Option.bind_some, if_neg c, ii_s]
end
