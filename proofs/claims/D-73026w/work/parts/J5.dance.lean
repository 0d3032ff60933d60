/-! THE PLAIN LAW: dances, the component's -/
set_option maxRecDepth 100000
/-- who is inside, how many twos, how many steps, where one stands -/
abbrev DL : Type := Int32 × Int32 × Int32 × (Nat → Int32)
def dnS (z : z_T) (N a : Nat) (s : DL) : Int32 ⊕ (Nat × DL) :=
  if ltr (hr z N a) then
    (if hb (tld z) (pn (hr z N a)) = true then
      (if hb (lck z) (pn (hr z N a)) = true ∧ ¬ hb s.1 (pn (hr z N a)) = true then
        (if ltr (hr z N (a + 1)) then
          (if pn (hr z N a) = pn (hr z N (a + 1)) then .inl (-1000 * 6 - ii (a + 1))
          else if hb (tld z) (pn (hr z N (a + 1))) = true then
            (if ¬ hb s.1 (pn (hr z N (a + 1))) = true ∧ ¬ hb (z.1 10 (pn (hr z N a))) (pn (hr z N (a + 1))) = true then
              .inr (a + 2, (s.1 ||| bt (pn (hr z N a)), s.2.1 + 1, s.2.2.1 + ab (s.2.2.2 (pn (hr z N (a + 1))) - z.1 9 (pn (hr z N a))), upd s.2.2.2 (pn (hr z N (a + 1))) (z.1 9 (pn (hr z N a)))))
            else .inl (-1000 * 9 - ii (a + 1)))
          else .inl (-1000 * 7 - ii (a + 1)))
        else .inl (-1000 * 1 - ii (a + 1)))
      else .inl (-1000 * 8 - ii a))
    else .inl (-1000 * 7 - ii a))
  else .inl (-1000 * 1 - ii a)
section
variable {L : Nat} {xs : Nat → Int32} {z : z_T} {e : Nat}
/-- the dancer's heap -/
def dY (y : z_T) (e : Nat) (F : Nat → Int32) : z_T := ue y (e + 1) (.inl (0, 16, .inl F))
def dS (L : Nat) (xs : Nat → Int32) (y : z_T) (e : Nat) (N A f p : Int32) (s : DL) : pm_H := hp L xs (ue (dY y e s.2.2.2) e (sc 14 N A f p [.ref (e + 1), .int s.1, .int s.2.1, .int s.2.2.1, .ref 7]))
theorem ue_sw {y : z_T} {a b : Nat} {c d : pm_C} (h : a ≠ b) : ue (ue y a c) b d = ue (ue y b d) a c := by
  unfold ue
  refine Prod.ext rfl (Prod.ext rfl (Prod.ext rfl (Prod.ext (funext fun i => ?_) rfl)))
  show (if i = b then d else if i = a then c else y.2.2.2.1 i) = if i = a then c else if i = b then d else y.2.2.2.1 i
  by_cases h1 : i = b
  · rw [if_pos h1, if_neg (fun x => h (x.symm.trans h1)), if_pos h1]
  · rw [if_neg h1]
    by_cases h2 : i = a
    · rw [if_pos h2, if_pos h2]
    · rw [if_neg h2, if_neg h2, if_neg h1]
theorem dg_g {y : z_T} {F : Nat → Int32} {c : pm_C} (he : 135 ≤ e ∧ e + 1 < 135 + y.2.2.2.2.1) : pm_g (hp L xs (ue (dY y e F) e c)) (e + 1) = some (.inl (0, 16, .inl F)) := by
  unfold dY
  rw [ue_sw (by omega)]
  exact ze_g (z := ue y e c) ⟨by omega, he.2⟩
theorem d_ai {y : z_T} {F : Nat → Int32} {c : pm_C} {k : Nat} (he : 135 ≤ e ∧ e + 1 < 135 + y.2.2.2.2.1) (hk : k < 16) : pm_ai 0 (hp L xs (ue (dY y e F) e c)) (e + 1) (ii k) = some (F k) := by
  unfold pm_ai
  rw [dg_g he]
  dsimp only
  rw [if_pos ⟨rfl, ii_nn (by omega), by rw [ii_n (by omega)]; exact hk⟩, ii_n (by omega)]
theorem d_si {y : z_T} {F : Nat → Int32} {c : pm_C} {k : Nat} {v : Int32} (he : 135 ≤ e ∧ e + 1 < 135 + y.2.2.2.2.1) (hk : k < 16) : pm_si 0 (hp L xs (ue (dY y e F) e c)) (e + 1) (ii k) v = some (hp L xs (ue (dY y e (upd F k v)) e c)) := by
  unfold pm_si
  rw [dg_g he]
  dsimp only
  rw [if_pos ⟨rfl, by omega, ii_nn (by omega), by rw [ii_n (by omega)]; exact hk⟩, ii_n (by omega)]
  unfold dY
  rw [ue_sw (by omega), ze_s (z := ue y e c) ⟨by omega, he.2⟩, ue_sw (by omega)]
theorem ds_all {y : z_T} (he : 135 ≤ e ∧ e + 1 < 135 + y.2.2.2.2.1) :
    (∀ N A f p s, pm_cl_ (dS L xs y e N A f p s) e = some 14) ∧ (∀ N A f p s, F_X16_place (dS L xs y e N A f p s) e = some A) ∧ (∀ N A f p s, F_X16_isGood (dS L xs y e N A f p s) e = some (if f = 0 then 1 else 0)) ∧ (∀ N A p s w v, F_X16_bad (dS L xs y e N A 0 p s) e w v = some (dS L xs y e N A w v s)) ∧ (∀ N A f p s, pm_fI [(14, 6)] (dS L xs y e N A f p s) e = some s.1) ∧ (∀ N A f p s, pm_fI [(14, 7)] (dS L xs y e N A f p s) e = some s.2.1) ∧ (∀ N A f p s, pm_fI [(14, 8)] (dS L xs y e N A f p s) e = some s.2.2.1) ∧ (∀ N A f p s, pm_fR [(14, 5)] (dS L xs y e N A f p s) e = some (e + 1)) ∧ (∀ N A f p s, pm_fR [(14, 9)] (dS L xs y e N A f p s) e = some 7) ∧ (∀ N A f p s v, pm_put [(14, 6, 0)] (dS L xs y e N A f p s) e (.int v) = some (dS L xs y e N A f p (v, s.2))) ∧ (∀ N A f p s v, pm_put [(14, 7, 0)] (dS L xs y e N A f p s) e (.int v) = some (dS L xs y e N A f p (s.1, v, s.2.2))) ∧ (∀ N A f p s v, pm_put [(14, 8, 0)] (dS L xs y e N A f p s) e (.int v) = some (dS L xs y e N A f p (s.1, s.2.1, v, s.2.2.2))) ∧ (∀ N A f p s, F_X16_isEnd (dS L xs y e N A f p s) e = some (if A < N then 0 else 1)) ∧ (∀ N A f p s k, k < 16 → pm_ai 0 (dS L xs y e N A f p s) (e + 1) (ii k) = some (s.2.2.2 k)) ∧ (∀ N A f p s k v, k < 16 → pm_si 0 (dS L xs y e N A f p s) (e + 1) (ii k) v = some (dS L xs y e N A f p (s.1, s.2.1, s.2.2.1, upd s.2.2.2 k v))) := by
  have he2 : ∀ F, 135 ≤ e ∧ e < 135 + (dY y e F).2.2.2.2.1 := fun F => ⟨he.1, by show e < 135 + y.2.2.2.2.1; omega⟩
  exact ⟨fun N A f p s => ze_cl (he2 _), fun N A f p s => s_place (Or.inr rfl) (he2 _), fun N A f p s => s_good (Or.inr rfl) (he2 _), fun N A p s w v => s_bad (Or.inr rfl) (he2 _), fun N A f p s => ze_fI (he2 _) rfl rfl, fun N A f p s => ze_fI (he2 _) rfl rfl, fun N A f p s => ze_fI (he2 _) rfl rfl, fun N A f p s => ze_fR (he2 _) rfl rfl, fun N A f p s => ze_fR (he2 _) rfl rfl,
    fun N A f p s v => ze_put (cl := 14) (k := 6) (kd := 0) (fs := [.int N, .int A, .int f, .int p, .ref 7, .ref (e + 1), .int s.1, .int s.2.1, .int s.2.2.1, .ref 7]) (he2 _) rfl rfl (by show 6 < 10; omega),
    fun N A f p s v => ze_put (cl := 14) (k := 7) (kd := 0) (fs := [.int N, .int A, .int f, .int p, .ref 7, .ref (e + 1), .int s.1, .int s.2.1, .int s.2.2.1, .ref 7]) (he2 _) rfl rfl (by show 7 < 10; omega),
    fun N A f p s v => ze_put (cl := 14) (k := 8) (kd := 0) (fs := [.int N, .int A, .int f, .int p, .ref 7, .ref (e + 1), .int s.1, .int s.2.1, .int s.2.2.1, .ref 7]) (he2 _) rfl rfl (by show 8 < 10; omega),
    fun N A f p s => s_end (Or.inr rfl) (he2 _), fun N A f p s k hk => d_ai he hk, fun N A f p s k v hk => d_si he hk⟩
theorem ds_person {y : z_T} {N a : Nat} {p : Int32} {s : DL} (he : 135 ≤ e ∧ e + 1 < 135 + y.2.2.2.2.1) (hN : N ≤ 260) (ha : a < 10000) : F_X16_person (dS L xs y e (ii N) (ii a) 0 p s) e = some (hr y N a - 97, if ltr (hr y N a) then dS L xs y e (ii N) (ii (a + 1)) 0 p s else dS L xs y e (ii N) (ii (a + 1)) 1 (ii a) s) := by
  have := s_person (L := L) (xs := xs) (z := dY y e s.2.2.2) (e := e) (cl := 14) (p := p) (R := [.ref (e + 1), .int s.1, .int s.2.1, .int s.2.2.1, .ref 7]) (n := N) (a := a) (Or.inr rfl) ⟨he.1, by show e < 135 + y.2.2.2.2.1; omega⟩ hN (by omega)
  unfold dS
  refine this.trans ?_
  by_cases c : ltr (hr y N a)
  · rw [if_pos c]
    refine congrArg some (Prod.ext rfl ?_)
    show hp L xs (ue (dY y e s.2.2.2) e (if ltr (hr y N a) then _ else _)) = _
    rw [if_pos c]
  · rw [if_neg c]
    refine congrArg some (Prod.ext rfl ?_)
    show hp L xs (ue (dY y e s.2.2.2) e (if ltr (hr y N a) then _ else _)) = _
    rw [if_neg c]
end
