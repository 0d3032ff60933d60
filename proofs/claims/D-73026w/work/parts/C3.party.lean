/-! THE PLAIN LAW: party -/
set_option maxRecDepth 100000
section
variable {L : Nat} {xs : Nat → Int32} {z : z_T}
def s_isP (z : z_T) (s : Int32) (k : Nat) (_ : Unit) : Int32 ⊕ Unit := if hb s k = true then (if z.1 10 k &&& s = 0 then .inr () else .inl 0) else .inr ()
theorem x_isP' {s : Int32} {n : Nat} (hn : 0 + 16 + 1 ≤ n) : L_X0_isParty_2 n 7 s 0 (hp L xs z) = po_s (le (s_isP z s) 16 0 ()) (fun b => some (.inl b)) (fun a => some (.inr a)) :=
  le_r (G := fun n k a => L_X0_isParty_2 n 7 s (ii k) (hp L xs z)) (s_isP z s) (N := 16) (c := 0) (out := fun b => some (.inl b)) (fin := fun a => some (.inr a))
    (fun n k a hk hc => by
      have hk32 : k < 32 := by omega
      show L_X0_isParty_2 (n + 1) 7 s (ii k) (hp L xs z) = _
      rw [L_X0_isParty_2, if_pos (by rw [show (16 : Int32) = ii 16 from rfl, ii_lt (by omega) (by decide)]; exact hk)]
      simp only [zr_0, zr_1, zr_2, zr_3, zr_4, zr_5, zr_6, za_0, za_1, za_2, za_3, za_4, za_5, hk, e_has hk32, b01, ii_s, btd, or0, Option.bind_some, po_s, po_n, one_ne0, Bool.false_eq_true, not_true, not_false_eq_true, Classical.not_not, ↓reduceIte]
      unfold s_isP
      by_cases c1 : hb s k = true
      · by_cases c2 : z.1 10 k &&& s = 0 <;> simp only [c1, c2, one_ne0, Bool.false_eq_true, not_true, not_false_eq_true, Classical.not_not, ↓reduceIte, Option.bind_some, po_s, po_n, eq_self]
      · simp only [c1, one_ne0, Bool.false_eq_true, not_true, not_false_eq_true, Classical.not_not, ↓reduceIte, Option.bind_some, po_s, po_n])
    (fun n a _ => by
      show L_X0_isParty_2 (n + 1) 7 s (ii 16) (hp L xs z) = _
      rw [L_X0_isParty_2, if_neg (by decide)]) (Nat.zero_add _) (by omega)
theorem m_isP' {s : Int32} (J : I_foe z) {n : Nat} (hn : 0 + 16 + 1 ≤ n) : L_X6_isParty_15 n 105 s 0 (hp L xs z) = po_s (le (s_isP z s) 16 0 ()) (fun b => some (.inl b)) (fun a => some (.inr a)) :=
  le_r (G := fun n k a => L_X6_isParty_15 n 105 s (ii k) (hp L xs z)) (s_isP z s) (N := 16) (c := 0) (out := fun b => some (.inl b)) (fin := fun a => some (.inr a))
    (fun n k a hk hc => by
      have hk32 : k < 32 := by omega
      show L_X6_isParty_15 (n + 1) 105 s (ii k) (hp L xs z) = _
      rw [L_X6_isParty_15, if_pos (by rw [show (16 : Int32) = ii 16 from rfl, ii_lt (by omega) (by decide)]; exact hk)]
      simp only [zr_0, zr_1, zr_2, zr_3, zr_4, zr_5, zr_6, za_0, za_1, za_2, za_3, za_4, za_5, hk, m_has hk32, b01, (J k hk).1, ii_s, btd, or0, Option.bind_some, po_s, po_n, one_ne0, Bool.false_eq_true, not_true, not_false_eq_true, Classical.not_not, ↓reduceIte]
      unfold s_isP
      by_cases c1 : hb s k = true
      · by_cases c2 : z.1 10 k &&& s = 0 <;> simp only [c1, c2, one_ne0, Bool.false_eq_true, not_true, not_false_eq_true, Classical.not_not, ↓reduceIte, Option.bind_some, po_s, po_n, eq_self]
      · simp only [c1, one_ne0, Bool.false_eq_true, not_true, not_false_eq_true, Classical.not_not, ↓reduceIte, Option.bind_some, po_s, po_n])
    (fun n a _ => by
      show L_X6_isParty_15 (n + 1) 105 s (ii 16) (hp L xs z) = _
      rw [L_X6_isParty_15, if_neg (by decide)]) (Nat.zero_add _) (by omega)
def pv (z : z_T) (s : Int32) : Int32 := match le (s_isP z s) 16 0 () with | .inl b => b | .inr _ => 1
theorem x_isP {s : Int32} {n : Nat} (hn : 17 ≤ n) : F_X0_isParty n (hp L xs z) 7 s = some (pv z s) := by
  unfold F_X0_isParty pv
  rw [x_isP' (by omega)]
  cases le (s_isP z s) 16 0 () <;> rfl
theorem m_isP {s : Int32} {n : Nat} (W : I_who z) (J : I_foe z) (hn : 17 ≤ n) : F_X6_isParty n (hp L xs z) 105 s = some (if s &&& (tld z ^^^ (-1)) = 0 then pv z s else 0) := by
  unfold F_X6_isParty pv
  simp only [zr_0, zr_1, zr_2, zr_3, zr_4, zr_5, zr_6, Option.bind_some, po_s, po_n, W.2.1]
  by_cases c : s &&& (tld z ^^^ (-1)) = 0
  · rw [if_pos c, if_pos c, m_isP' J (by omega)]
    cases le (s_isP z s) 16 0 () <;> rfl
  · rw [if_neg c, if_neg c]
def s_pty (z : z_T) (m : Nat) (a : Int32) : Int32 := if ii m &&& (tld z ^^^ (-1)) = 0 then (if pc a < pc (ii m) then (if pv z (ii m) = 0 then a else ii m) else a) else a
theorem s_pty16 {m : Nat} {a : Int32} (hm : m < 65536) (ha : s16 a) : s16 (s_pty z m a) := by
  unfold s_pty
  split
  · split
    · split
      · exact ha
      · exact ii_s16 hm
    · exact ha
  · exact ha
theorem sub_le {m t : Nat} (h : ii m &&& (ii t ^^^ (-1)) = 0) (hm : m < 65536) : m ≤ t := by
  have : m &&& t = m := Nat.eq_of_testBit_eq fun k => by
    rw [Nat.testBit_and]
    by_cases hk : k < 32
    · have := congrArg (fun q => hb q k) h
      rw [hb_and, hb_not, hb_0, hb_ii hk, hb_ii hk] at this
      cases a : m.testBit k <;> cases b : t.testBit k <;> rw [a, b] at this <;> simp [hk] at this ⊢
    · rw [Nat.testBit_lt_two_pow (Nat.lt_of_lt_of_le hm (Nat.pow_le_pow_right (n := 2) (i := 16) (by decide) (by omega)))]
      rfl
  rw [← this]
  exact Nat.and_le_right
theorem x_pty {T n : Nat} (hT : tld z = ii T) (h : T < 65536) (hn : T + 60 ≤ n) : L_X0_party_14 n 7 0 (ii 1) (hp L xs z) = some (lp (s_pty z) T 1 0) ∧ s16 (lp (s_pty z) T 1 0) :=
  lp_rule (G := fun n k a => L_X0_party_14 n 7 a (ii k) (hp L xs z)) (f := s_pty z) (N := T + 1) (c := 40) (fin := some) (fun _ a => s16 a)
    (fun n k a hk hc ha => by
      have h1 : ¬ tld z < ii k := by rw [hT, ii_lt (by omega) (by omega)]; omega
      refine ⟨?_, s_pty16 (by omega) ha⟩
      show L_X0_party_14 (n + 1) 7 a (ii k) (hp L xs z) = _
      rw [L_X0_party_14]
      simp only [zr_0, zr_1, zr_2, zr_3, zr_4, zr_5, zr_6, Option.bind_some, po_s, po_n, h1, one_ne0, Bool.false_eq_true, not_true, not_false_eq_true, Classical.not_not, ↓reduceIte, e_bits (ii_s16 (show k < 65536 by omega)), e_bits ha, x_isP (show 17 ≤ n by omega), ii_s, ii_lt (show pc a < 2147483648 by have := pc_le a; omega) (show pc (ii k) < 2147483648 by have := pc_le (ii k); omega)]
      unfold s_pty
      by_cases c1 : ii k &&& (tld z ^^^ (-1)) = 0
      · by_cases c2 : pc a < pc (ii k)
        · by_cases c3 : pv z (ii k) = 0 <;> simp only [c1, c2, c3, one_ne0, Bool.false_eq_true, not_true, not_false_eq_true, Classical.not_not, ↓reduceIte, eq_self]
        · simp only [c1, c2, one_ne0, Bool.false_eq_true, not_true, not_false_eq_true, Classical.not_not, ↓reduceIte, eq_self]
      · simp only [c1, one_ne0, Bool.false_eq_true, not_true, not_false_eq_true, Classical.not_not, ↓reduceIte])
    (fun n a hc _ => by
      show L_X0_party_14 (n + 1) 7 a (ii (T + 1)) (hp L xs z) = _
      have h1 : tld z < ii (T + 1) := by rw [hT, ii_lt (by omega) (by omega)]; omega
      rw [L_X0_party_14]
      simp only [zr_0, zr_1, zr_2, zr_3, zr_4, zr_5, zr_6, Option.bind_some, po_s, po_n, h1, one_ne0, Bool.false_eq_true, not_true, not_false_eq_true, Classical.not_not, ↓reduceIte]) T 1 n 0 (by omega) (by omega) s16_0
theorem m_pty {n : Nat} (W : I_who z) (J : I_foe z) (hn : 65600 ≤ n) : L_X6_party_15 n 105 0 (ii 1) (hp L xs z) = some (lp (s_pty z) 65535 1 0) :=
  lp_r (G := fun n k a => L_X6_party_15 n 105 a (ii k) (hp L xs z)) (s_pty z) (N := 65536) (c := 40) (fin := some)
    (fun n k a hk hc => by
      have h1 : ii k < 65536 := by rw [show (65536 : Int32) = ii 65536 from rfl, ii_lt (by omega) (by omega)]; exact hk
      show L_X6_party_15 (n + 1) 105 a (ii k) (hp L xs z) = _
      rw [L_X6_party_15, if_pos h1]
      simp only [zr_0, zr_1, zr_2, zr_3, zr_4, zr_5, zr_6, Option.bind_some, po_s, po_n, one_ne0, Bool.false_eq_true, not_true, not_false_eq_true, Classical.not_not, ↓reduceIte, m_bits (show 17 ≤ n by omega), m_isP W J (show 17 ≤ n by omega), ii_s, ii_lt (show pc a < 2147483648 by have := pc_le a; omega) (show pc (ii k) < 2147483648 by have := pc_le (ii k); omega)]
      unfold s_pty
      by_cases c1 : ii k &&& (tld z ^^^ (-1)) = 0
      · by_cases c2 : pc a < pc (ii k)
        · by_cases c3 : pv z (ii k) = 0 <;> simp only [c1, c2, c3, one_ne0, Bool.false_eq_true, not_true, not_false_eq_true, Classical.not_not, ↓reduceIte, eq_self]
        · simp only [c1, c2, one_ne0, Bool.false_eq_true, not_true, not_false_eq_true, Classical.not_not, ↓reduceIte, eq_self]
      · by_cases c2 : pc a < pc (ii k) <;> simp only [c1, c2, one_ne0, Bool.false_eq_true, not_true, not_false_eq_true, Classical.not_not, ↓reduceIte, eq_self])
    (fun n a _ => by
      show L_X6_party_15 (n + 1) 105 a (ii 65536) (hp L xs z) = _
      rw [L_X6_party_15, if_neg (by decide)]) rfl (by omega)
theorem lp_add {α : Type} (f : Nat → α → α) : ∀ (r s k : Nat) (a : α), lp f (r + s) k a = lp f s (k + r) (lp f r k a)
  | 0, s, k, a => by rw [Nat.zero_add]; rfl
  | r + 1, s, k, a => by
    rw [show r + 1 + s = (r + s) + 1 by omega]
    show lp f (r + s) (k + 1) (f k a) = lp f s (k + (r + 1)) (lp f r (k + 1) (f k a))
    rw [lp_add f r s (k + 1), show k + 1 + r = k + (r + 1) by omega]
theorem lp_id {α : Type} {f : Nat → α → α} {N : Nat} : ∀ (r k : Nat) (a : α), k + r ≤ N → (∀ j a, k ≤ j → j < N → f j a = a) → lp f r k a = a
  | 0, _, _, _, _ => rfl
  | r + 1, k, a, e, h => by
    show lp f r (k + 1) (f k a) = a
    rw [h k a (Nat.le_refl _) (by omega)]
    exact lp_id r (k + 1) a (by omega) fun j a h1 h2 => h j a (by omega) h2
theorem pty_eq {T : Nat} (hT : tld z = ii T) (h : T < 65536) : lp (s_pty z) 65535 1 0 = lp (s_pty z) T 1 0 := by
  rw [show 65535 = T + (65535 - T) by omega, lp_add]
  refine lp_id (N := 65536) _ _ _ (by omega) fun j a h1 h2 => ?_
  unfold s_pty
  rw [if_neg (fun e => by rw [hT] at e; have := sub_le e h2; omega)]
theorem o_party {w : Int32} {n : Nat} (I : Inv z) (hn : 65700 ≤ n) : Op L xs z (rd fun h => F_X0_party n h 7 w) (rd fun h => F_X6_party n h 105 w) := by
  obtain ⟨T, h, hT⟩ := s16_ii I.1.1
  obtain ⟨x1, x2⟩ := x_pty (L := L) (xs := xs) (n := n) hT h (by omega)
  have m1 := m_pty (L := L) (xs := xs) (n := n) I.1 I.2.2.1 (by omega)
  rw [pty_eq hT h] at m1
  have x1 : L_X0_party_14 n 7 0 1 (hp L xs z) = _ := x1
  have m1 : L_X6_party_15 n 105 0 1 (hp L xs z) = _ := m1
  by_cases hw : ¬ w < 0 ∧ ¬ (1 : Int32) < w
  · by_cases h0 : w = 0
    · subst h0
      refine Op.rd I (r := ii (pc (lp (s_pty z) T 1 0))) ?_ ?_
      · unfold F_X0_party
        rw [e_in, x1]
        simp only [Option.bind_some, po_s, po_n, n01, hw, b01, one_ne0, Bool.false_eq_true, not_true, not_false_eq_true, Classical.not_not, ↓reduceIte, and_self, eq_self, e_bits x2]
      · unfold F_X6_party
        rw [m_in, m1]
        simp only [Option.bind_some, po_s, po_n, hw, b01, one_ne0, Bool.false_eq_true, not_true, not_false_eq_true, Classical.not_not, ↓reduceIte, and_self, eq_self, m_bits (show 17 ≤ n by omega)]
    · refine Op.rd I (r := lp (s_pty z) T 1 0) ?_ ?_
      · unfold F_X0_party
        rw [e_in, x1]
        simp only [Option.bind_some, po_s, po_n, n01, hw, h0, b01, one_ne0, Bool.false_eq_true, not_true, not_false_eq_true, Classical.not_not, ↓reduceIte, and_self, eq_self]
      · unfold F_X6_party
        rw [m_in, m1]
        simp only [Option.bind_some, po_s, po_n, hw, h0, b01, one_ne0, Bool.false_eq_true, not_true, not_false_eq_true, Classical.not_not, ↓reduceIte, and_self, eq_self]
  · refine Op.rd I (r := -1) ?_ ?_
    · unfold F_X0_party
      rw [e_in]
      simp only [Option.bind_some, po_s, po_n, n01, hw, b01, one_ne0, Bool.false_eq_true, not_true, not_false_eq_true, Classical.not_not, ↓reduceIte]
    · unfold F_X6_party
      rw [m_in]
      simp only [Option.bind_some, po_s, po_n, hw, b01, one_ne0, Bool.false_eq_true, not_true, not_false_eq_true, Classical.not_not, ↓reduceIte]
end
