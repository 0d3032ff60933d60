/-! THE PLAIN LAW: chain -/
set_option maxRecDepth 100000
section
variable {L : Nat} {xs : Nat → Int32} {z : z_T}
theorem x_ch' {s t : Int32} {n : Nat} (hn : 0 + 16 + 1 ≤ n) : L_X0_chain_55 n 7 s t 0 (hp L xs z) = some (lp (fun a t => if hb s a = true then t ||| fr z a else t) 16 0 t) :=
  lp_r (G := fun n k a => L_X0_chain_55 n 7 s a (ii k) (hp L xs z)) (fun a t => if hb s a = true then t ||| fr z a else t) (N := 16) (c := 0) (fin := some)
    (fun n k a hk hc => by
      have hk32 : k < 32 := by omega
      show L_X0_chain_55 (n + 1) 7 s a (ii k) (hp L xs z) = _
      rw [L_X0_chain_55, if_pos (by rw [show (16 : Int32) = ii 16 from rfl, ii_lt (by omega) (by decide)]; exact hk)]
      simp only [zr_0, zr_1, zr_2, zr_3, zr_4, zr_5, zr_6, e_has hk32, b01, x_fr hk, ii_s, btd, or0, Option.bind_some, po_s, po_n, one_ne0, Bool.false_eq_true, not_true, not_false_eq_true, Classical.not_not, ↓reduceIte]
      by_cases c1 : hb s k = true <;> simp [c1])
    (fun n a _ => by
      show L_X0_chain_55 (n + 1) 7 s a (ii 16) (hp L xs z) = _
      rw [L_X0_chain_55, if_neg (by decide)]) (Nat.zero_add _) (by omega)
theorem m_ch' {s t : Int32} (W : I_who z) (J : I_foe z) {n : Nat} (hn : 0 + 16 + 1 ≤ n) : L_X6_chain_57 n 105 t s 0 (hp L xs z) = some (lp (fun a t => if hb s a = true then t ||| fr z a else t) 16 0 t) :=
  lp_r (G := fun n k a => L_X6_chain_57 n 105 a s (ii k) (hp L xs z)) (fun a t => if hb s a = true then t ||| fr z a else t) (N := 16) (c := 0) (fin := some)
    (fun n k a hk hc => by
      have hk32 : k < 32 := by omega
      show L_X6_chain_57 (n + 1) 105 a s (ii k) (hp L xs z) = _
      rw [L_X6_chain_57, if_pos (by rw [show (16 : Int32) = ii 16 from rfl, ii_lt (by omega) (by decide)]; exact hk)]
      simp only [zr_0, zr_1, zr_2, zr_3, zr_4, zr_5, zr_6, m_has hk32, b01, m_fr W J hk, ii_s, btd, or0, Option.bind_some, po_s, po_n, one_ne0, Bool.false_eq_true, not_true, not_false_eq_true, Classical.not_not, ↓reduceIte]
      by_cases c1 : hb s k = true <;> simp [c1])
    (fun n a _ => by
      show L_X6_chain_57 (n + 1) 105 a s (ii 16) (hp L xs z) = _
      rw [L_X6_chain_57, if_neg (by decide)]) (Nat.zero_add _) (by omega)
def s_ch (N : Nat → Int32) (q k : Nat) (s : Int32) : Int32 ⊕ Int32 := if hb s q = true then .inl (ii k) else .inr (stp N s)
theorem x_ch {p q : Nat} (hq : q < 16) {n : Nat} (hn : 17 + 16 + 1 ≤ n) : L_X0_chain_31 n 7 (ii q) (bt p) 0 (hp L xs z) = po_s (le (s_ch (fr z) q) 16 0 (bt p)) (fun b => some (.inl b)) (fun _ => some (.inr ())) :=
  le_r (G := fun n k a => L_X0_chain_31 n 7 (ii q) a (ii k) (hp L xs z)) (s_ch (fr z) q) (N := 16) (c := 17) (out := fun b => some (.inl b)) (fin := fun _ => some (.inr ()))
    (fun n k a hk hc => by
      have hk32 : k < 32 := by omega
      show L_X0_chain_31 (n + 1) 7 (ii q) a (ii k) (hp L xs z) = _
      rw [L_X0_chain_31, if_pos (by rw [show (16 : Int32) = ii 16 from rfl, ii_lt (by omega) (by decide)]; exact hk)]
      simp only [e_has (show q < 32 by omega), b01, x_ch' (show 0 + 16 + 1 ≤ n by omega), ii_s, btd, or0, Option.bind_some, po_s, po_n, one_ne0, Bool.false_eq_true, not_true, not_false_eq_true, Classical.not_not, ↓reduceIte]
      unfold s_ch
      by_cases c1 : hb a q = true
      · simp only [c1, one_ne0, Bool.false_eq_true, not_true, not_false_eq_true, Classical.not_not, ↓reduceIte, Option.bind_some, po_s, po_n]
      · simp only [c1, one_ne0, Bool.false_eq_true, not_true, not_false_eq_true, Classical.not_not, ↓reduceIte, Option.bind_some, po_s, po_n]
        rfl)
    (fun n a _ => by
      show L_X0_chain_31 (n + 1) 7 (ii q) a (ii 16) (hp L xs z) = _
      rw [L_X0_chain_31, if_neg (by decide)]) (Nat.zero_add _) (by omega)
def chv (r : Int32 ⊕ Int32) : Int32 := match r with | .inl b => b | .inr _ => -2
theorem le_stab {N : Nat → Int32} {q : Nat} {s : Int32} (h1 : ¬ hb s q = true) (h2 : stp N s = s) : ∀ r k, le (s_ch N q) r k s = .inr s
  | 0, _ => rfl
  | r + 1, k => by
    rw [le, s_ch, if_neg h1, h2]
    exact le_stab h1 h2 r (k + 1)
theorem pc_full {s : Int32} (hs : s16 s) (h : 16 ≤ pc s) {q : Nat} (hq : q < 16) : hb s q = true := by
  have e : s = ii 65535 := pc_eq hs (ii_s16 (by decide)) (fun k hk => by
    have := s16_lt hs hk
    rw [hb_ii (by omega), show (65535 : Nat) = 2 ^ 16 - 1 from rfl, Nat.testBit_two_pow_sub_one]
    exact decide_eq_true this) (by
      have h1 := pc_le s
      have : pc (ii 65535) = 16 := by rw [pc_ii]; rfl
      omega)
  rw [e, hb_ii (by omega), show (65535 : Nat) = 2 ^ 16 - 1 from rfl, Nat.testBit_two_pow_sub_one]
  exact decide_eq_true hq
theorem m_ch {q : Nat} (W : I_who z) (J : I_foe z) (hq : q < 16) : ∀ (d k n : Nat) (s b : Int32), k + d = 16 → d + 20 ≤ n → s16 s → k + 1 ≤ pc s → (s = b → stp (fr z) s = s) →
    (L_X6_chain_28 n 105 (ii q) s b (ii k) (hp L xs z)).bind (fun r => po_s r (fun r => some r) fun e => some e) = some (chv (le (s_ch (fr z) q) d k s))
  | 0, k, n, s, b, h1, h2, h3, h4, h5 => by
    have := pc_le s
    omega
  | d + 1, k, n, s, b, h1, h2, h3, h4, h5 => by
    obtain ⟨m, rfl⟩ : ∃ m, n = m + 1 := ⟨n - 1, by omega⟩
    rw [L_X6_chain_28]
    simp only [m_has (show q < 32 by omega), b01, Option.bind_some, po_s, po_n]
    by_cases c1 : hb s q = true
    · simp only [c1, one_ne0, Bool.false_eq_true, not_true, not_false_eq_true, Classical.not_not, ↓reduceIte, Option.bind_some, po_s, po_n]
      rw [le, s_ch, if_pos c1]
      rfl
    · simp only [c1, one_ne0, Bool.false_eq_true, not_true, not_false_eq_true, Classical.not_not, ↓reduceIte, Option.bind_some, po_s, po_n]
      by_cases c2 : s = b
      · rw [if_pos c2, le_stab c1 (h5 c2)]
        rfl
      · rw [if_neg c2, m_ch' W J (by omega), Option.bind_some, ii_s]
        have hs : sub s (stp (fr z) s) := fun k hk => hb_stp.mpr (Or.inl hk)
        have h6 := s16_stp (N := fr z) (fun a _ => s16_fr W) h3
        rw [le, s_ch, if_neg c1]
        show (L_X6_chain_28 m 105 (ii q) (stp (fr z) s) s (ii (k + 1)) (hp L xs z)).bind _ = some (chv (le (s_ch (fr z) q) d (k + 1) (stp (fr z) s)))
        by_cases c3 : stp (fr z) s = s
        · rw [c3]
          obtain ⟨j, rfl⟩ : ∃ j, m = j + 1 := ⟨m - 1, by omega⟩
          rw [L_X6_chain_28]
          simp only [m_has (show q < 32 by omega), b01, Option.bind_some, po_s, po_n, c1, one_ne0, Bool.false_eq_true, not_true, not_false_eq_true, Classical.not_not, ↓reduceIte]
          rw [le_stab c1 c3]
          rfl
        · have h7 : pc s < pc (stp (fr z) s) := by
            have a := pc_mono hs
            have b : pc s ≠ pc (stp (fr z) s) := fun e => c3 (pc_eq h3 h6 hs e).symm
            omega
          by_cases hd : d = 0
          · subst hd
            have := pc_le (stp (fr z) s)
            omega
          · exact m_ch W J hq d (k + 1) m _ s (by omega) (by omega) h6 (by omega) (fun e => absurd e c3)
theorem pc_bt {p : Nat} (h : p < 16) : pc (bt p) = 1 := by
  rw [bt_eq (by omega), pc_ii]
  have : ∀ p, p < 16 → pcF (2 ^ p) = 1 := by decide
  exact this p h
theorem o_chain {x y : Int32} {n : Nat} (I : Inv z) (hn : 60 ≤ n) : Op L xs z (rd fun h => F_X0_chain n h 7 x y) (rd fun h => F_X6_chain n h 105 x y) := by
  by_cases ht : isT (tld z) x = true
  · obtain ⟨p, hk, rfl, hp⟩ := isT_of ht
    by_cases hu : isT (tld z) y = true
    · obtain ⟨q, hq, rfl, hq2⟩ := isT_of hu
      have hb0 : bt p ≠ 0 := fun e => by
        have : hb (bt p) p = true := by rw [hb_bt (by omega)]; exact decide_eq_true rfl
        rw [e, hb_0] at this
        cases this
      refine Op.rd I (r := chv (le (s_ch (fr z) q) 16 0 (bt p))) ?_ ?_
      · unfold F_X0_chain
        simp only [zr_0, zr_1, zr_2, zr_3, zr_4, zr_5, zr_6, Option.bind_some, po_s, po_n, x_told, ht, hu, b01, one_ne0, Bool.false_eq_true, not_true, not_false_eq_true, Classical.not_not, ↓reduceIte, btd]
        rw [x_ch hq (by omega)]
        cases le (s_ch (fr z) q) 16 0 (bt p) <;> rfl
      · unfold F_X6_chain
        simp only [zr_0, zr_1, zr_2, zr_3, zr_4, zr_5, zr_6, m_told I.1, ht, hu, b01, one_ne0, Bool.false_eq_true, not_true, not_false_eq_true, Classical.not_not, ↓reduceIte, btd, Option.bind_some]
        exact m_ch I.1 I.2.2.1 hq 16 0 n (bt p) 0 rfl (by omega) (s16_bt hk) (by rw [pc_bt hk]; omega) (fun e => absurd e hb0)
    · refine Op.rd I (r := -1) ?_ ?_
      · unfold F_X0_chain
        simp only [zr_0, zr_1, zr_2, zr_3, zr_4, zr_5, zr_6, Option.bind_some, po_s, po_n, x_told, ht, hu, b01, one_ne0, Bool.false_eq_true, not_true, not_false_eq_true, Classical.not_not, ↓reduceIte]
      · unfold F_X6_chain
        simp only [zr_0, zr_1, zr_2, zr_3, zr_4, zr_5, zr_6, Option.bind_some, po_s, po_n, m_told I.1, ht, hu, b01, one_ne0, Bool.false_eq_true, not_true, not_false_eq_true, Classical.not_not, ↓reduceIte]
  · refine Op.rd I (r := -1) ?_ ?_
    · unfold F_X0_chain
      simp only [zr_0, zr_1, zr_2, zr_3, zr_4, zr_5, zr_6, Option.bind_some, po_s, po_n, x_told, ht, b01, one_ne0, Bool.false_eq_true, not_true, not_false_eq_true, Classical.not_not, ↓reduceIte]
    · unfold F_X6_chain
      simp only [zr_0, zr_1, zr_2, zr_3, zr_4, zr_5, zr_6, Option.bind_some, po_s, po_n, m_told I.1, ht, b01, one_ne0, Bool.false_eq_true, not_true, not_false_eq_true, Classical.not_not, ↓reduceIte]
end
