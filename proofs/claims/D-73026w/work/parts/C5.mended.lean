/-! THE PLAIN LAW: mended -/
set_option maxRecDepth 100000
theorem lwN_ge (s : Int32) : ∀ r k, lwN s r k = 32 ∨ (k ≤ lwN s r k ∧ lwN s r k < k + r ∧ hb s (lwN s r k) = true)
  | 0, k => Or.inl rfl
  | r + 1, k => by
    unfold lwN
    cases h : hb s k with
    | true => exact Or.inr ⟨Nat.le_refl _, by show k < _; omega, h⟩
    | false =>
      rcases lwN_ge s r (k + 1) with e | ⟨a, b, c⟩
      · exact Or.inl e
      · exact Or.inr ⟨by show k ≤ lwN s r (k + 1); omega, by show lwN s r (k + 1) < _; omega, c⟩
section
variable {L : Nat} {xs : Nat → Int32} {z : z_T}
/-- those of one's foes that are not of one's group -/
def dif (z : z_T) (p : Nat) : Int32 := z.1 10 p &&& (grp (frd (tld z) (z.1 10)) p ^^^ (-1))
/-- the first of them behind j -/
def men (z : z_T) (p j : Nat) : Int32 := if lwN (dif z p) (15 - j) (j + 1) = 32 then -2 else ii (16 * p + lwN (dif z p) (15 - j) (j + 1))
theorem ii_ne2 {k : Nat} (h : k < 2147483648) : ¬ ii k = -2 := fun e => by
  have := ii_nn h
  rw [e] at this
  exact this (by decide)
theorem m_men {p : Nat} (J : I_foe z) (hk : p < 16) : ∀ (d n : Nat), p + d ≤ 15 → d + 1 ≤ n → L_X6_mended_75 n 105 (men z p (p + d)) (ii p) (grp (frd (tld z) (z.1 10)) p) (ii (p + d)) (hp L xs z) = some (men z p p)
  | 0, n, h1, h2 => by
    obtain ⟨m, rfl⟩ : ∃ m, n = m + 1 := ⟨n - 1, by omega⟩
    rw [L_X6_mended_75, if_neg (by rw [ii_lt (by omega) (by omega)]; omega)]
    rfl
  | d + 1, n, h1, h2 => by
    obtain ⟨m, rfl⟩ : ∃ m, n = m + 1 := ⟨n - 1, by omega⟩
    have hj : p + (d + 1) < 16 := by omega
    have ih := m_men J hk d m (by omega) (by omega)
    have em : ii (p + (d + 1)) + -1 = ii (p + d) := by
      rw [← ii_add, ← ii_add, ← ii_add, show ii 1 = 1 from rfl, Int32.add_assoc, Int32.add_assoc, show (1 : Int32) + -1 = 0 from rfl, Int32.add_zero]
    have e16 : 16 * ii p + ii (p + (d + 1)) = ii (16 * p + (p + (d + 1))) := by
      rw [show 16 * ii p = ii (16 * p) from (Int32.ofNat_mul 16 p).symm, ii_add]
    have st : men z p (p + d) = if hb (dif z p) (p + (d + 1)) = true then ii (16 * p + (p + (d + 1))) else men z p (p + (d + 1)) := by
      unfold men
      rw [show 15 - (p + d) = (15 - (p + (d + 1))) + 1 by omega, show p + d + 1 = p + (d + 1) by omega]
      rw [show lwN (dif z p) (15 - (p + (d + 1)) + 1) (p + (d + 1)) = bif hb (dif z p) (p + (d + 1)) then p + (d + 1) else lwN (dif z p) (15 - (p + (d + 1))) (p + (d + 1) + 1) from rfl]
      cases hb (dif z p) (p + (d + 1)) with
      | true => show (if p + (d + 1) = 32 then _ else _) = _; rw [if_neg (by omega)]; rfl
      | false => rfl
    have body : (if ¬ hb (dif z p) (p + (d + 1)) = true then L_X6_mended_75 m 105 (men z p (p + (d + 1))) (ii p) (grp (frd (tld z) (z.1 10)) p) (ii (p + d)) (hp L xs z) else L_X6_mended_75 m 105 (ii (16 * p + (p + (d + 1)))) (ii p) (grp (frd (tld z) (z.1 10)) p) (ii (p + d)) (hp L xs z)) = some (men z p p) := by
      rw [st] at ih
      by_cases c : hb (dif z p) (p + (d + 1)) = true
      · rw [if_neg (fun e => e c)]
        rw [if_pos c] at ih
        exact ih
      · rw [if_pos c]
        rw [if_neg c] at ih
        exact ih
    rw [L_X6_mended_75, if_pos (by rw [ii_lt (by omega) (by omega)]; omega)]
    simp only [zr_0, zr_1, zr_2, zr_3, zr_4, zr_5, zr_6, za_0, za_1, za_2, za_3, za_4, za_5, hk, Option.bind_some, po_s, po_n, (J p hk).1, m_has (show p + (d + 1) < 32 by omega), b01, em, e16]
    by_cases c : men z p (p + (d + 1)) = -2
    · rw [if_pos c]
      exact body
    · rw [if_neg c, if_pos]
      · exact body
      · unfold men at c ⊢
        by_cases c2 : lwN (dif z p) (15 - (p + (d + 1))) (p + (d + 1) + 1) = 32
        · rw [if_pos c2] at c
          exact absurd rfl c
        · rw [if_neg c2]
          rcases lwN_ge (dif z p) (15 - (p + (d + 1))) (p + (d + 1) + 1) with e | ⟨a, b, _⟩
          · exact absurd e c2
          · generalize lwN (dif z p) (15 - (p + (d + 1))) (p + (d + 1) + 1) = q at a b
            have : ∀ p, p < 16 → ∀ q, q < 16 → ii (16 * p + q) / 16 = ii p := by decide
            exact this p hk q (by omega)
/-- the same, found upwards -/
def s_mi (z : z_T) (p q : Nat) (_ : Unit) : Int32 ⊕ Unit := if hb (dif z p) q = true then .inl (ii (16 * p + q)) else .inr ()
theorem le_mi {p : Nat} : ∀ r k, le (s_mi z p) r k () = if lwN (dif z p) r k = 32 then .inr () else .inl (ii (16 * p + lwN (dif z p) r k))
  | 0, k => rfl
  | r + 1, k => by
    rw [le, s_mi, show lwN (dif z p) (r + 1) k = bif hb (dif z p) k then k else lwN (dif z p) r (k + 1) from rfl]
    cases h : hb (dif z p) k with
    | true =>
      by_cases h32 : k = 32
      · rw [h32] at h
        rw [hb_ge (Nat.le_refl _)] at h
        cases h
      · show Sum.inl _ = (if k = 32 then _ else _)
        rw [if_neg h32]
        rfl
    | false => exact le_mi r (k + 1)
theorem x_mi {p n : Nat} (W : I_who z) (hk : p < 16) (ht : hb (tld z) p = true) (hn : 60 ≤ n) : L_X0_mended_37 n 7 (ii p) (ii (p + 1)) (hp L xs z) = some (if lwN (dif z p) (15 - p) (p + 1) = 32 then .inr () else .inl (ii (16 * p + lwN (dif z p) (15 - p) (p + 1)))) := by
  have h := le_r (G := fun n k (_ : Unit) => L_X0_mended_37 n 7 (ii p) (ii k) (hp L xs z)) (s_mi z p) (N := 16) (c := 40) (out := fun b => some (.inl b)) (fin := fun _ => some (.inr ()))
    (fun n k a hk2 hc => by
      show L_X0_mended_37 (n + 1) 7 (ii p) (ii k) (hp L xs z) = _
      rw [L_X0_mended_37, if_pos (lt16 hk2)]
      have e16 : 16 * ii p + ii k = ii (16 * p + k) := by rw [show 16 * ii p = ii (16 * p) from (Int32.ofNat_mul 16 p).symm, ii_add]
      simp only [zr_0, zr_1, zr_2, zr_3, zr_4, zr_5, zr_6, za_0, za_1, za_2, za_3, za_4, za_5, hk, Option.bind_some, po_s, po_n, x_told, isT_ii hk, ht, b01, e_has (show k < 32 by omega), x_grpE W hk (show 40 ≤ n by omega), ii_s, one_ne0, Bool.false_eq_true, not_true, not_false_eq_true, Classical.not_not, ↓reduceIte, e16]
      have hd : hb (dif z p) k = (hb (z.1 10 p) k && !hb (grp (frd (tld z) (z.1 10)) p) k) := by
        unfold dif
        rw [hb_and, hb_not, decide_eq_true (show k < 32 by omega), Bool.true_and]
      unfold s_mi
      rw [hd]
      cases hb (z.1 10 p) k <;> cases hb (grp (frd (tld z) (z.1 10)) p) k <;> rfl)
    (fun n a _ => by
      show L_X0_mended_37 (n + 1) 7 (ii p) (ii 16) (hp L xs z) = _
      rw [L_X0_mended_37, if_neg (by decide)]) (r := 15 - p) (k := p + 1) (n := n) (a := ()) (by omega) (by omega)
  rw [show L_X0_mended_37 n 7 (ii p) (ii (p + 1)) (hp L xs z) = _ from h, le_mi]
  by_cases c : lwN (dif z p) (15 - p) (p + 1) = 32
  · simp only [c, ↓reduceIte]; rfl
  · simp only [c, ↓reduceIte]; rfl
theorem x_mi0 {p n : Nat} (hk : p < 16) (ht : ¬ hb (tld z) p = true) (hn : 60 ≤ n) : L_X0_mended_37 n 7 (ii p) (ii (p + 1)) (hp L xs z) = some (.inr ()) := by
  have h := lp_r (G := fun n k (_ : Unit) => L_X0_mended_37 n 7 (ii p) (ii k) (hp L xs z)) (fun _ a => a) (N := 16) (c := 0) (fin := fun _ => some (.inr ()))
    (fun n k a hk2 hc => by
      show L_X0_mended_37 (n + 1) 7 (ii p) (ii k) (hp L xs z) = _
      rw [L_X0_mended_37, if_pos (lt16 hk2)]
      simp only [zr_0, zr_1, zr_2, zr_3, zr_4, zr_5, zr_6, Option.bind_some, po_s, po_n, x_told, isT_ii hk, ht, b01, ii_s, one_ne0, Bool.false_eq_true, not_true, not_false_eq_true, Classical.not_not, ↓reduceIte])
    (fun n a _ => by
      show L_X0_mended_37 (n + 1) 7 (ii p) (ii 16) (hp L xs z) = _
      rw [L_X0_mended_37, if_neg (by decide)]) (r := 15 - p) (k := p + 1) (n := n) (a := ()) (by omega) (by omega)
  exact h
def s_mx (z : z_T) (p : Nat) (_ : Unit) : Int32 ⊕ Unit := if hb (tld z) p = true then (if lwN (dif z p) (15 - p) (p + 1) = 32 then .inr () else .inl (ii (16 * p + lwN (dif z p) (15 - p) (p + 1)))) else .inr ()
theorem x_mx (W : I_who z) {n : Nat} (hn : 60 + 16 + 1 ≤ n) : L_X0_mended_27 n 7 0 (hp L xs z) = po_s (le (s_mx z) 16 0 ()) (fun b => some (.inl b)) (fun _ => some (.inr ())) :=
  le_r (G := fun n k a => L_X0_mended_27 n 7 (ii k) (hp L xs z)) (s_mx z) (N := 16) (c := 60) (out := fun b => some (.inl b)) (fin := fun _ => some (.inr ()))
    (fun n k a hk hc => by
      have hk32 : k < 32 := by omega
      show L_X0_mended_27 (n + 1) 7 (ii k) (hp L xs z) = _
      rw [L_X0_mended_27, if_pos (by rw [show (16 : Int32) = ii 16 from rfl, ii_lt (by omega) (by decide)]; exact hk)]
      simp only [ii_s, ii_s, btd, or0, Option.bind_some, po_s, po_n, one_ne0, Bool.false_eq_true, not_true, not_false_eq_true, Classical.not_not, ↓reduceIte]
      unfold s_mx
      by_cases c1 : hb (tld z) k = true
      · rw [x_mi W hk c1 (by omega)]
        by_cases c2 : lwN (dif z k) (15 - k) (k + 1) = 32 <;> simp only [c1, c2, one_ne0, Bool.false_eq_true, not_true, not_false_eq_true, Classical.not_not, ↓reduceIte, Option.bind_some, po_s, po_n]
      · rw [x_mi0 hk c1 (by omega)]
        simp only [c1, one_ne0, Bool.false_eq_true, not_true, not_false_eq_true, Classical.not_not, ↓reduceIte, Option.bind_some, po_s, po_n])
    (fun n a _ => by
      show L_X0_mended_27 (n + 1) 7 (ii 16) (hp L xs z) = _
      rw [L_X0_mended_27, if_neg (by decide)]) (Nat.zero_add _) (by omega)
theorem m_men1 {p n : Nat} (J : I_foe z) (hk : p < 16) (hn : 60 ≤ n) : L_X6_mended_75 n 105 (-2) (ii p) (grp (frd (tld z) (z.1 10)) p) 15 (hp L xs z) = some (men z p p) := by
  have h := m_men (L := L) (xs := xs) J hk (15 - p) n (by omega) (by omega)
  rw [show p + (15 - p) = 15 by omega] at h
  exact h
theorem m_men2 {p p' q n : Nat} {G : Int32} (hk : p < 16) (h1 : p' < p) (hq : q < 16) (hn : 60 ≤ n) : L_X6_mended_75 n 105 (ii (16 * p' + q)) (ii p) G 15 (hp L xs z) = some (ii (16 * p' + q)) := by
  obtain ⟨m, rfl⟩ : ∃ m, n = m + 1 := ⟨n - 1, by omega⟩
  have h16 : ∀ p, p < 16 → ∀ q, q < 16 → ii (16 * p + q) / 16 = ii p := by decide
  rw [L_X6_mended_75]
  by_cases c : ii p < 15
  · rw [if_pos c, if_neg (ii_ne2 (by omega)), if_neg]
    rw [h16 p' (by omega) q hq, ii_eq (by omega) (by omega)]
    omega
  · rw [if_neg c]
def s_mm (z : z_T) (k : Nat) (a : Int32 × Int32 × Int32) : Int32 × Int32 × Int32 := if hb (tld z) k = true then (if hb a.2.1 k = true then a.1 else a.1 + 1, a.2.1 ||| grp (frd (tld z) (z.1 10)) k, if a.2.2 = -2 then men z k k else a.2.2) else a
theorem m_mm {n : Nat} (W : I_who z) (J : I_foe z) (hn : 120 ≤ n) : L_X6_mended_22 n 105 0 0 (-2) (ii 0) (hp L xs z) = some ((lp (s_mm z) 16 0 ((0, 0, -2) : Int32 × Int32 × Int32)).1, (lp (s_mm z) 16 0 ((0, 0, -2) : Int32 × Int32 × Int32)).2.2) :=
  (lp_rule (G := fun n k (a : Int32 × Int32 × Int32) => L_X6_mended_22 n 105 a.1 a.2.1 a.2.2 (ii k) (hp L xs z)) (f := s_mm z) (N := 16) (c := 80) (fin := fun a => some (a.1, a.2.2)) (fun k a => a.2.2 = -2 ∨ ∃ p q, p < k ∧ q < 16 ∧ a.2.2 = ii (16 * p + q))
    (fun n k a hk hc I => by
      have hk32 : k < 32 := by omega
      refine ⟨?_, ?_⟩
      · show L_X6_mended_22 (n + 1) 105 a.1 a.2.1 a.2.2 (ii k) (hp L xs z) = _
        rw [L_X6_mended_22, if_pos (lt16 hk)]
        simp only [zr_0, zr_1, zr_2, zr_3, zr_4, zr_5, zr_6, Option.bind_some, po_s, po_n, m_told W, isT_ii hk, b01, W.2.1, m_grpE W J hk (show 40 ≤ n by omega), m_has hk32, ii_s]
        unfold s_mm
        by_cases c1 : hb (tld z) k = true
        · have e75 : L_X6_mended_75 n 105 a.2.2 (ii k) (grp (frd (tld z) (z.1 10)) k) 15 (hp L xs z) = some (if a.2.2 = -2 then men z k k else a.2.2) := by
            rcases I with e | ⟨p, q, h1, h2, e⟩
            · rw [if_pos e, e]
              exact m_men1 J hk (by omega)
            · rw [if_neg (by rw [e]; exact ii_ne2 (by omega)), e]
              exact m_men2 hk h1 h2 (by omega)
          by_cases c2 : hb a.2.1 k = true <;> simp only [c1, c2, one_ne0, Bool.false_eq_true, not_true, not_false_eq_true, Classical.not_not, ↓reduceIte, Option.bind_some, po_s, po_n, e75]
        · simp only [c1, one_ne0, Bool.false_eq_true, not_true, not_false_eq_true, Classical.not_not, ↓reduceIte, Option.bind_some, po_s, po_n]
      · unfold s_mm
        by_cases c1 : hb (tld z) k = true
        · rw [if_pos c1]
          show (if a.2.2 = -2 then men z k k else a.2.2) = -2 ∨ _
          rcases I with e | ⟨p, q, h1, h2, e⟩
          · show _ ∨ ∃ p q, p < k + 1 ∧ q < 16 ∧ (if a.2.2 = -2 then men z k k else a.2.2) = ii (16 * p + q)
            rw [if_pos e]
            unfold men
            by_cases c : lwN (dif z k) (15 - k) (k + 1) = 32
            · rw [if_pos c]; exact Or.inl rfl
            · rw [if_neg c]
              rcases lwN_ge (dif z k) (15 - k) (k + 1) with e | ⟨a, b, _⟩
              · exact absurd e c
              · exact Or.inr ⟨k, _, by omega, by omega, rfl⟩
          · refine Or.inr ⟨p, q, by omega, h2, ?_⟩
            show (if a.2.2 = -2 then men z k k else a.2.2) = _
            rw [if_neg (by rw [e]; exact ii_ne2 (by omega)), e]
        · rw [if_neg c1]
          rcases I with e | ⟨p, q, h1, h2, e⟩
          · exact Or.inl e
          · exact Or.inr ⟨p, q, by omega, h2, e⟩)
    (fun n a _ _ => by
      show L_X6_mended_22 (n + 1) 105 a.1 a.2.1 a.2.2 (ii 16) (hp L xs z) = _
      rw [L_X6_mended_22, if_neg (by decide)]) 16 0 n ((0, 0, -2) : Int32 × Int32 × Int32) rfl (by omega) (Or.inl rfl)).1
end
