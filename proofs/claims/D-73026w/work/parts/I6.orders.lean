/-! THE PLAIN LAW: orders, the component's end -/
set_option maxRecDepth 100000
def rdS (z : z_T) (N : Nat) : Nat → Nat → Nat → RL → Int32 ⊕ (Nat × RL)
  | 0, _, l, r => .inr (l, r)
  | k + 1, a, l, r => if a < N then (if hr z N a = 59 then (match lnS z N (a + 1) l r with | .inl v => .inl v | .inr (a', r') => rdS z N k a' (l + 1) r') else .inl (-1000 * 1 - ii a)) else .inr (l, r)
def rd0 (z : z_T) (N : Nat) (r : RL) : Int32 ⊕ (Nat × RL) := match lnS z N 0 0 r with | .inl v => .inl v | .inr (a', r') => rdS z N 25 a' 1 r'
theorem lnS_le {z : z_T} {N a l a' : Nat} {r r' : RL} (h : lnS z N a l r = .inr (a', r')) : a' ≤ a + 4 := by
  unfold lnS at h
  split at h
  · split at h
    · cases h
    · split at h
      · split at h
        · unfold hsS at h
          split at h
          · split at h
            · split at h
              · cases h
              · cases h; omega
            · cases h; omega
          · cases h
        · split at h
          · split at h
            · cases h; omega
            · split at h
              · cases h; omega
              · unfold otS at h
                split at h
                · split at h
                  · cases h
                  · split at h
                    · cases h; omega
                    · cases h
                · cases h
          · cases h
      · cases h
  · cases h
theorem lnS_24 {z : z_T} {N a l a' : Nat} {r r' : RL} (h : lnS z N a l r = .inr (a', r')) : l ≠ 24 := fun e => by
  unfold lnS at h
  rw [if_pos e] at h
  split at h <;> cases h
section
variable {L : Nat} {xs : Nat → Int32} {z : z_T} {e : Nat}
/-- what the reading leaves -/
def xQ (L : Nat) (xs : Nat → Int32) (z : z_T) (e N : Nat) (o : Int32 ⊕ (Nat × RL)) (s : Option pm_H) : Prop := match o with
  | .inl v => ∃ y a f p l, s = some (cS L xs y e (ii N) a f p l) ∧ f ≠ 0 ∧ -1000 * f - p = v ∧ kp z y
  | .inr (l, r) => ∃ y a p, s = some (cS L xs y e (ii N) a 0 p (ii l)) ∧ kp z y ∧ xrl y r
theorem x_rd {N : Nat} (he : 135 ≤ e ∧ e < 135 + z.2.2.2.2.1) (hN : N ≤ 260) : ∀ (k l a n : Nat) (y : z_T) (r : RL) (p : Int32), k + l = 26 → 1 ≤ l → l ≤ 24 → a ≤ 6 * l → k + 260 ≤ n → kp z y → xrl y r → xQ L xs z e N (rdS z N k a l r) (L_X17_read_4 n e (cS L xs y e (ii N) (ii a) 0 p (ii l)))
  | 0, l, a, n, y, r, p, h1, h2, h3, h4, h5, h6, X => by omega
  | k + 1, l, a, n, y, r, p, h1, h2, h3, h4, h5, h6, X => by
    obtain ⟨n, rfl⟩ : ∃ m, n = m + 1 := ⟨n - 1, by omega⟩
    have he2 : 135 ≤ e ∧ e < 135 + y.2.2.2.2.1 := by rw [show y.2.2.2.2.1 = z.2.2.2.2.1 by rw [h6.1]]; exact he
    obtain ⟨t1, t2, t3, t4, t5, t6, t7, t8, t9, t10, t11, t12, t13, t14, t15, t16⟩ := cs_all (L := L) (xs := xs) (y := y) he2
    have stop : ∀ (m : Nat) (y' : z_T) (A f p l : Int32), 1 ≤ m → kp z y' → f ≠ 0 → L_X17_read_4 m e (cS L xs y' e (ii N) A f p l) = some (cS L xs y' e (ii N) A f p l) := fun m y' A f p l hm k' hf => by
      obtain ⟨m, rfl⟩ : ∃ q, m = q + 1 := ⟨m - 1, by omega⟩
      have he3 : 135 ≤ e ∧ e < 135 + y'.2.2.2.2.1 := by rw [show y'.2.2.2.2.1 = z.2.2.2.2.1 by rw [k'.1]]; exact he
      obtain ⟨s1, _, s3, _⟩ := cs_all (L := L) (xs := xs) (y := y') he3
      rw [L_X17_read_4, if_pos (s1 _ _ _ _ _), s3, Option.bind_some, if_pos (good0 hf)]
    have elt : (ii a < ii N) = (a < N) := ii_lt (by omega) (by omega)
    unfold rdS
    rw [L_X17_read_4]
    simp only [t1, t3, t16, ↓reduceIte, Option.bind_some, po_s, po_n, one_ne0, elt]
    by_cases c1 : a < N
    · rw [if_pos c1, if_pos c1]
      simp only [↓reduceIte, Option.bind_some, po_s, po_n, t1, t6 N a 0 p _ hN (by omega), hr_kp h6]
      by_cases c2 : hr z N a = 59
      · rw [if_pos c2, if_pos c2]
        simp only [Option.bind_some, po_s, po_n, t1, t3, t5, ↓reduceIte, one_ne0, ii_s]
        have hx := x_line (L := L) (xs := xs) (z := z) (y := y) (a := a + 1) (l := l) (n := n) (r := r) (p := p) he2 hN (by omega)
        have hx := hx h3 h6 X (by omega)
        cases eo : lnS z N (a + 1) l r with
        | inl v =>
          rw [eo] at hx
          obtain ⟨y1, A, f, q, g1, g2, g3, g4⟩ := hx
          rw [g1, Option.bind_some, stop n y1 A f q _ (by omega) g4 g2]
          exact ⟨y1, A, f, q, _, rfl, g2, g3, g4⟩
        | inr o =>
          obtain ⟨a', r'⟩ := o
          rw [eo] at hx
          obtain ⟨y1, q, g1, g2, g3⟩ := hx
          have hle := lnS_le eo
          have hl24 := lnS_24 eo
          rw [g1, Option.bind_some]
          exact x_rd he hN k (l + 1) a' n y1 r' q (by omega) (by omega) (by omega) (by omega) (by omega) g2 g3
      · rw [if_neg c2, if_neg c2]
        simp only [Option.bind_some, po_s, po_n, t1, t2, t3, t4, t5, ↓reduceIte, show ¬ (1 : Int32) = 0 by decide]
        rw [stop n y _ 1 _ _ (by omega) h6 (by decide)]
        exact ⟨y, _, 1, _, _, rfl, by decide, rfl, h6⟩
    · rw [if_neg c1, if_neg c1, if_neg one_ne]
      exact ⟨y, _, p, rfl, h6, X⟩
/-- the roll as it is -/
def rl0 (z : z_T) : RL := (tld z, lck z, z.1 9, z.1 10)
theorem x_read {N n : Nat} {y : z_T} {p : Int32} (he : 135 ≤ e ∧ e < 135 + z.2.2.2.2.1) (hN : N ≤ 260) {r : RL} (h3 : kp z y) (X : xrl y r) (hn : 400 ≤ n) : match rd0 z N r with
    | .inl v => ∃ y' h', F_X17_read n (cS L xs y e (ii N) 0 0 p 0) e = some (v, h') ∧ kp z y' ∧ ∃ A f q l, h' = cS L xs y' e (ii N) A f q l
    | .inr (l, r') => ∃ y' h', F_X17_read n (cS L xs y e (ii N) 0 0 p 0) e = some (ii l, h') ∧ kp z y' ∧ xrl y' r' ∧ ∃ A f q l, h' = cS L xs y' e (ii N) A f q l := by
  have he2 : 135 ≤ e ∧ e < 135 + y.2.2.2.2.1 := by rw [show y.2.2.2.2.1 = z.2.2.2.2.1 by rw [h3.1]]; exact he
  have hx := x_line (L := L) (xs := xs) (z := z) (y := y) (N := N) (a := 0) (l := 0) (n := n) (p := p) he2 hN (by omega) (by omega) h3 X (by omega)
  have hc := fun (y' : z_T) (k' : kp z y') A f q l => (c_r (L := L) (xs := xs) (y := y') (e := e) (N := ii N) (A := A) (f := f) (p := q) (l := l) (by rw [show y'.2.2.2.2.1 = z.2.2.2.2.1 by rw [k'.1]]; exact he))
  have ha := fun (y' : z_T) (k' : kp z y') A f q l v => s_ans (L := L) (xs := xs) (z := y') (e := e) (cl := 13) (N := ii N) (A := A) (f := f) (p := q) (R := [.int l, .ref 7]) (v := v) (Or.inl rfl) (by rw [show y'.2.2.2.2.1 = z.2.2.2.2.1 by rw [k'.1]]; exact he)
  have endi : ∀ (y' : z_T) (k' : kp z y') A f q l, (pm_fI [(13, 5)] (cS L xs y' e (ii N) A f q l) e).bind (fun v12 => (if pm_cl_ (cS L xs y' e (ii N) A f q l) e = some 13 then F_X16_answer (cS L xs y' e (ii N) A f q l) e v12 else none).bind fun q13 => some (q13, cS L xs y' e (ii N) A f q l)) = some (if f = 0 then l else -1000 * f - q, cS L xs y' e (ii N) A f q l) := fun y' k' A f q l => by
    rw [(hc y' k' A f q l).1, Option.bind_some, if_pos (hc y' k' A f q l).2.2.1]
    unfold cS
    rw [ha y' k' A f q l l]
    rfl
  have hx : xO L xs z e N 1 (lnS z N 0 0 r) (F_X17_line n (cS L xs y e (ii N) 0 0 p 0) e) := hx
  have c0 := (hc y h3 0 0 p 0).2.2.1
  unfold rd0 F_X17_read
  rw [if_pos c0]
  cases eo : lnS z N 0 0 r with
  | inl v =>
    rw [eo] at hx
    obtain ⟨y1, A, f, q, g1, g2, g3, g4⟩ := hx
    obtain ⟨m, rfl⟩ : ∃ q, n = q + 1 := ⟨n - 1, by omega⟩
    have st : L_X17_read_4 (m + 1) e (cS L xs y1 e (ii N) A f q 1) = some (cS L xs y1 e (ii N) A f q 1) := by
      obtain ⟨s1, _, s3, _⟩ := cs_all (L := L) (xs := xs) (y := y1) (e := e) (by rw [show y1.2.2.2.2.1 = z.2.2.2.2.1 by rw [g4.1]]; exact he)
      rw [L_X17_read_4, if_pos (s1 _ _ _ _ _), s3, Option.bind_some, if_pos (good0 g2)]
    refine ⟨y1, _, ?_, g4, A, f, q, 1, rfl⟩
    rw [g1, Option.bind_some, st, Option.bind_some]
    refine (endi y1 g4 A f q 1).trans ?_
    rw [if_neg g2, g3]
  | inr o =>
    obtain ⟨a', r'⟩ := o
    rw [eo] at hx
    obtain ⟨y1, q, g1, g2, g3⟩ := hx
    have hle := lnS_le eo
    have h2 := x_rd (L := L) (xs := xs) (z := z) (e := e) (N := N) he hN 25 1 a' n y1 r' q (by omega) (by omega) (by omega) (by omega) (by omega) g2 g3
    have h2 : xQ L xs z e N (rdS z N 25 a' 1 r') (L_X17_read_4 n e (cS L xs y1 e (ii N) (ii a') 0 q 1)) := h2
    dsimp only
    rw [g1, Option.bind_some]
    cases e3 : rdS z N 25 a' 1 r' with
    | inl v =>
      rw [e3] at h2
      obtain ⟨y2, A, f, q, l, u1, u2, u3, u4⟩ := h2
      refine ⟨y2, _, ?_, u4, A, f, q, l, rfl⟩
      rw [u1, Option.bind_some]
      refine (endi y2 u4 A f q l).trans ?_
      rw [if_neg u2, u3]
    | inr o2 =>
      obtain ⟨l, r2⟩ := o2
      rw [e3] at h2
      obtain ⟨y2, A, q, u1, u2, u3⟩ := h2
      refine ⟨y2, _, ?_, u2, u3, A, 0, q, ii l, rfl⟩
      rw [u1, Option.bind_some]
      refine (endi y2 u2 A 0 q (ii l)).trans ?_
      rw [if_pos rfl]
end
