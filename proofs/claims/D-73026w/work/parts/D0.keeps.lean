/-! THE PLAIN LAW: keepsOut -/
set_option maxRecDepth 100000
theorem lp_cong2 {α : Type} {f g : Nat → α → α} {M N : Nat} (h : ∀ k a, M ≤ k → k < N → f k a = g k a) : ∀ (r k : Nat) (a : α), M ≤ k → k + r = N → lp f r k a = lp g r k a
  | 0, _, _, _, _ => rfl
  | r + 1, k, a, hm, e => by
    show lp f r (k + 1) (f k a) = lp g r (k + 1) (g k a)
    rw [h k a hm (by omega), lp_cong2 h r (k + 1) _ (by omega) (by omega)]
theorem lp_sh {α : Type} (f : Nat → α → α) (s : Nat) : ∀ (r k : Nat) (a : α), lp f r (s + k) a = lp (fun j a => f (s + j) a) r k a
  | 0, _, _ => rfl
  | r + 1, k, a => lp_sh f s r (k + 1) _
theorem lp_grid {α : Type} (f : Nat → α → α) (w : Nat) : ∀ (r p : Nat) (a : α), lp f (w * r) (w * p) a = lp (fun p a => lp (fun q a => f (w * p + q) a) w 0 a) r p a
  | 0, _, _ => rfl
  | r + 1, p, a => by
    rw [show w * (r + 1) = w + w * r by rw [Nat.mul_add, Nat.mul_one, Nat.add_comm], lp_add, show w * p + w = w * (p + 1) by rw [Nat.mul_add, Nat.mul_one], lp_grid f w r (p + 1)]
    show lp _ r (p + 1) (lp f w (w * p) a) = lp _ r (p + 1) (lp (fun q a => f (w * p + q) a) w 0 a)
    exact congrArg _ (lp_sh f (w * p) w 0 a)
section
variable {L : Nat} {xs : Nat → Int32} {z : z_T}
def now_ (z : z_T) : Nat := pc (outS (tld z) (lck z) (z.1 10))
def s_ko (z : z_T) (p q : Nat) (a : Int32 × Int32) : Int32 × Int32 := if hb (tld z) p = true ∧ hb (fr z p) q = true then (if pc (outS (tld z) (lck z) (adf (z.1 10) p q)) = now_ z then a else (a.1 + 1, if a.2 = -2 then ii (16 * p + q) else a.2)) else a
theorem kp_fr {y : z_T} (h : kp z y) (p : Nat) : fr y p = fr z p := by
  unfold fr
  rw [show tld y = tld z from h.2 8 2 rfl, h.2 10 p rfl]
theorem x_ko1 (W : I_who z) {p : Nat} (hp1 : p < 16) : ∀ (d q n : Nat) (a : Int32 × Int32) (y : z_T), q + d = 16 → d + 100 ≤ n → kp z y → ∃ y', kp z y' ∧ L_X0_keepsOut_43 n 7 (ii (now_ z)) a.1 a.2 (ii p) (ii q) (hp L xs y) = some ((lp (fun q a => s_ko z p q a) d q a).1, (lp (fun q a => s_ko z p q a) d q a).2, hp L xs y')
  | 0, q, n, a, y, h1, h2, h3 => by
    obtain ⟨m, rfl⟩ : ∃ m, n = m + 1 := ⟨n - 1, by omega⟩
    obtain rfl : q = 16 := by omega
    rw [L_X0_keepsOut_43, if_neg (by decide)]
    exact ⟨y, h3, rfl⟩
  | d + 1, q, n, a, y, h1, h2, h3 => by
    obtain ⟨m, rfl⟩ : ∃ m, n = m + 1 := ⟨n - 1, by omega⟩
    have hq : q < 16 := by omega
    have et : tld y = tld z := h3.2 8 2 rfl
    show ∃ y', kp z y' ∧ _ = some ((lp (fun q a => s_ko z p q a) d (q + 1) (s_ko z p q a)).1, (lp (fun q a => s_ko z p q a) d (q + 1) (s_ko z p q a)).2, hp L xs y')
    rw [L_X0_keepsOut_43, if_pos (lt16 hq)]
    simp only [zr_0, zr_1, zr_2, zr_3, zr_4, zr_5, zr_6, Option.bind_some, po_s, po_n, x_told, isT_ii hp1, b01, x_fr hp1, e_has (show q < 32 by omega), kp_fr h3, et, ii_s]
    by_cases c1 : hb (tld z) p = true
    · by_cases c2 : hb (fr z p) q = true
      · obtain ⟨y1, t1, t2, t3, t4, t5⟩ := x_takes (L := L) (xs := xs) (z := y) (n := m) (by omega)
        have hpq : p ≠ q := fun e => by
          rw [hb_fr hp1] at c2
          simp [e] at c2
        have hP : F_X1_parts (hp L xs y1) 11 (ii p) (ii q) 1 = some (hp L xs (ui (ui y1 13 p (y1.1 13 p ||| bt q)) 13 q ((ui y1 13 p (y1.1 13 p ||| bt q)).1 13 q ||| bt p))) := by
          unfold F_X1_parts
          simp only [zr_0, zr_1, zr_2, zr_3, zr_4, zr_5, zr_6, za_0, za_1, za_2, za_3, za_4, za_5, hp1, hq, one_ne0, ↓reduceIte, Option.bind_some, po_s, po_n, zw_0, zw_1, btd]
        have k2 : kp z (ui (ui y1 13 p (y1.1 13 p ||| bt q)) 13 q ((ui y1 13 p (y1.1 13 p ||| bt q)).1 13 q ||| bt p)) := ((h3.tr t2).ui rfl).ui rfl
        have e13 : ∀ j, j < 16 → (ui (ui y1 13 p (y1.1 13 p ||| bt q)) 13 q ((ui y1 13 p (y1.1 13 p ||| bt q)).1 13 q ||| bt p)).1 13 j = adf (z.1 10) p q j := fun j hj => by
          rw [ui_i, ui_i]
          unfold adf
          have g : ∀ i, i < 16 → y1.1 13 i = z.1 10 i := fun i hi => (t3 i hi).2.trans (h3.2 10 i rfl)
          unfold upd
          rw [g p hp1, g q hq]
          by_cases c : j = q
          · rw [if_pos c, if_pos c]
          · rw [if_neg c, if_neg c]
            by_cases c' : j = p
            · rw [if_pos c', if_pos c']
            · rw [if_neg c', if_neg c', g j hj]
        have e112 : (ui (ui y1 13 p (y1.1 13 p ||| bt q)) 13 q ((ui y1 13 p (y1.1 13 p ||| bt q)).1 13 q ||| bt p)).1 11 2 = tld z := by
          rw [ui_o (by decide), ui_o (by decide), t4, et]
        have e113 : (ui (ui y1 13 p (y1.1 13 p ||| bt q)) 13 q ((ui y1 13 p (y1.1 13 p ||| bt q)).1 13 q ||| bt p)).1 11 3 = lck z := by
          rw [ui_o (by decide), ui_o (by decide), t5]
          exact h3.2 8 3 rfl
        generalize ui (ui y1 13 p (y1.1 13 p ||| bt q)) 13 q ((ui y1 13 p (y1.1 13 p ||| bt q)).1 13 q ||| bt p) = y2 at hP k2 e13 e112 e113
        have hO : F_X0_outOf m (hp L xs y2) 11 = some (outS (tld z) (lck z) (adf (z.1 10) p q)) := by
          rw [x_outE11 (by rw [e112]; exact W.1) (by omega), e112, e113, outS_cong e13]
        obtain ⟨y', r1, r2⟩ := x_ko1 W hp1 d (q + 1) m (s_ko z p q a) y2 (by omega) (by omega) k2
        refine ⟨y', r1, ?_⟩
        have e16 : 16 * ii p + ii q = ii (16 * p + q) := by rw [show 16 * ii p = ii (16 * p) from (Int32.ofNat_mul 16 p).symm, ii_add]
        have hlt : ∀ s, pc s < 2147483648 := fun s => Nat.lt_of_le_of_lt (pc_le s) (by omega)
        have hnow : now_ z < 2147483648 := hlt _
        have es : s_ko z p q a = if pc (outS (tld z) (lck z) (adf (z.1 10) p q)) = now_ z then a else (a.1 + 1, if a.2 = -2 then ii (16 * p + q) else a.2) := by
          unfold s_ko
          rw [if_pos ⟨c1, c2⟩]
        rw [← r2, es]
        simp only [c1, c2, one_ne0, Bool.false_eq_true, not_true, not_false_eq_true, Classical.not_not, ↓reduceIte, t1, hP, hO, zr_0, zr_1, zr_2, zr_3, zr_4, zr_5, zr_6, Option.bind_some, po_s, po_n, e_bits s16_outS, ii_eq (hlt _) hnow, e16]
        by_cases c3 : pc (outS (tld z) (lck z) (adf (z.1 10) p q)) = now_ z
        · rw [if_pos c3, if_pos c3]
        · rw [if_neg c3, if_neg c3]
          by_cases c4 : a.2 = -2
          · rw [if_pos c4, if_pos c4]
          · rw [if_neg c4, if_neg c4]
      · have c2' : hb (fr z p) q = false := by simpa using c2
        have es : s_ko z p q a = a := by
          unfold s_ko
          rw [if_neg (fun h => c2 h.2)]
        rw [es]
        simp only [c1, c2', one_ne0, Bool.false_eq_true, not_true, not_false_eq_true, Classical.not_not, ↓reduceIte, Option.bind_some, po_s, po_n, b01]
        exact x_ko1 W hp1 d (q + 1) m a y (by omega) (by omega) h3
    · have c1' : hb (tld z) p = false := by simpa using c1
      have es : s_ko z p q a = a := by
        unfold s_ko
        rw [if_neg (fun h => c1 h.1)]
      rw [es]
      simp only [c1', one_ne0, Bool.false_eq_true, not_true, not_false_eq_true, Classical.not_not, ↓reduceIte, Option.bind_some, po_s, po_n, b01]
      exact x_ko1 W hp1 d (q + 1) m a y (by omega) (by omega) h3
theorem x_ko0 (W : I_who z) : ∀ (d p n : Nat) (a : Int32 × Int32) (y : z_T), p + d = 16 → d + 200 ≤ n → kp z y → ∃ y', kp z y' ∧ L_X0_keepsOut_30 n 7 (ii (now_ z)) a.1 a.2 (ii p) (hp L xs y) = some ((lp (fun p a => lp (fun q a => s_ko z p q a) (15 - p) (p + 1) a) d p a).1, (lp (fun p a => lp (fun q a => s_ko z p q a) (15 - p) (p + 1) a) d p a).2, hp L xs y')
  | 0, p, n, a, y, h1, h2, h3 => by
    obtain ⟨m, rfl⟩ : ∃ m, n = m + 1 := ⟨n - 1, by omega⟩
    obtain rfl : p = 16 := by omega
    rw [L_X0_keepsOut_30, if_neg (by decide)]
    exact ⟨y, h3, rfl⟩
  | d + 1, p, n, a, y, h1, h2, h3 => by
    obtain ⟨m, rfl⟩ : ∃ m, n = m + 1 := ⟨n - 1, by omega⟩
    have hp1 : p < 16 := by omega
    obtain ⟨y1, k1, e1⟩ := x_ko1 (L := L) (xs := xs) W hp1 (15 - p) (p + 1) m a y (by omega) (by omega) h3
    obtain ⟨y2, k2, e2⟩ := x_ko0 W d (p + 1) m (lp (fun q a => s_ko z p q a) (15 - p) (p + 1) a) y1 (by omega) (by omega) k1
    refine ⟨y2, k2, ?_⟩
    rw [L_X0_keepsOut_30, if_pos (lt16 hp1), ii_s, e1, Option.bind_some]
    exact e2
def s_km (z : z_T) (c : Nat) (a : Int32 × Int32) : Int32 × Int32 := if c / 16 < c % 16 then s_ko z (c / 16) (c % 16) a else a
abbrev fin3 (L : Nat) (xs : Nat → Int32) (z : z_T) (a : Int32 × Int32) : Option (Int32 × Int32 × pm_H) := some (a.1, a.2, hp L xs z)
theorem c16 : ∀ c, c < 256 → ii c / 16 = ii (c / 16) ∧ pm_rem (ii c) 16 = ii (c % 16) := by decide
theorem m_quT {p q : Nat} (hp1 : p < 16) (hq : q < 16) (y : z_T) : F_X6_quarrels (hp L xs y) 105 (ii p) (ii q) 1 = some (hp L xs (ui (ui y 110 p (y.1 110 p ||| bt q)) 110 q ((ui y 110 p (y.1 110 p ||| bt q)).1 110 q ||| bt p))) := by
  unfold F_X6_quarrels
  simp only [zr_0, zr_1, zr_2, zr_3, zr_4, zr_5, zr_6, za_0, za_1, za_2, za_3, za_4, za_5, hp1, hq, one_ne0, ↓reduceIte, Option.bind_some, po_s, po_n, zw_0, zw_1, btd]
theorem m_quF {p q : Nat} (hp1 : p < 16) (hq : q < 16) (y : z_T) : F_X6_quarrels (hp L xs y) 105 (ii p) (ii q) 0 = some (hp L xs (ui (ui y 110 p (y.1 110 p &&& (bt q ^^^ (-1)))) 110 q ((ui y 110 p (y.1 110 p &&& (bt q ^^^ (-1)))).1 110 q &&& (bt p ^^^ (-1))))) := by
  unfold F_X6_quarrels
  simp only [zr_0, zr_1, zr_2, zr_3, zr_4, zr_5, zr_6, za_0, za_1, za_2, za_3, za_4, za_5, hp1, hq, ↓reduceIte, Option.bind_some, po_s, po_n, zw_0, zw_1, btd]
theorem or_out {s : Int32} {q : Nat} (hq : q < 32) (h : hb s q = false) : (s ||| bt q) &&& (bt q ^^^ (-1)) = s := hb_ext fun k hk => by
  rw [hb_and, hb_or, hb_not, hb_bt hq, decide_eq_true hk]
  by_cases c : k = q
  · subst c; rw [h]; simp
  · simp [c]
theorem s_km_1 {c : Nat} {a : Int32 × Int32} (ht : s16 (tld z)) : s_km z c a = if c / 16 < c % 16 ∧ hb (tld z) (c / 16) = true ∧ hb (fr z (c / 16)) (c % 16) = true then (if now_ z < pc (outS (tld z) (lck z) (adf (z.1 10) (c / 16) (c % 16))) then (a.1 + 1, if a.2 = -2 then ii c else a.2) else a) else a := by
  unfold s_km s_ko
  by_cases c1 : c / 16 < c % 16
  · rw [if_pos c1]
    by_cases c2 : hb (tld z) (c / 16) = true ∧ hb (fr z (c / 16)) (c % 16) = true
    · rw [if_pos c2, if_pos (And.intro c1 c2), show 16 * (c / 16) + c % 16 = c by omega]
      have hm := pc_mono (outS_mono (l := lck z) ht (adf_frd (t := tld z) (f := z.1 10) (p := c / 16) (q := c % 16)))
      by_cases c3 : pc (outS (tld z) (lck z) (adf (z.1 10) (c / 16) (c % 16))) = now_ z
      · rw [if_pos c3, if_neg (by omega)]
      · rw [if_neg c3, if_pos (show now_ z < pc (outS (tld z) (lck z) (adf (z.1 10) (c / 16) (c % 16))) by unfold now_ at c3 ⊢; omega)]
    · rw [if_neg c2, if_neg (fun h => c2 h.2)]
  · rw [if_neg c1, if_neg (fun h => c1 h.1)]
theorem hb_adf {f : Nat → Int32} {p q a b : Nat} (hp1 : p < 16) (hq : q < 16) (h : p ≠ q) : hb (adf f p q a) b = (hb (f a) b || (decide (a = p) && decide (b = q) || decide (a = q) && decide (b = p))) := by
  unfold adf upd
  by_cases c1 : a = q
  · subst c1
    rw [if_pos rfl, if_neg (fun e => h e.symm), hb_or, hb_bt (by omega)]
    simp [show a ≠ p from fun e => h e.symm]
  · rw [if_neg c1]
    by_cases c2 : a = p
    · subst c2
      rw [if_pos rfl, hb_or, hb_bt (by omega)]
      simp [c1]
    · rw [if_neg c2]
      simp [c1, c2]
theorem sym_adf {t : Int32} {f : Nat → Int32} {p q : Nat} (S : sym t f) (hp1 : p < 16) (hq : q < 16) (h : p ≠ q) : sym t (adf f p q) := by
  refine ⟨S.1, fun a b ha hb' ta tb hab => ?_⟩
  rw [hb_adf hp1 hq h] at hab ⊢
  rw [Bool.or_eq_true, Bool.or_eq_true] at hab
  rcases hab with e | e | e
  · rw [S.2 a b ha hb' ta tb e]; rfl
  · rw [Bool.and_eq_true] at e
    rw [of_decide_eq_true e.1, of_decide_eq_true e.2]
    simp
  · rw [Bool.and_eq_true] at e
    rw [of_decide_eq_true e.1, of_decide_eq_true e.2]
    simp
theorem sym_cong {t : Int32} {f g : Nat → Int32} (h : ∀ a, a < 16 → g a = f a) (S : sym t f) : sym t g := ⟨S.1, fun a b ha hb' ta tb hab => by
  rw [h a ha] at hab
  rw [h b hb']
  exact S.2 a b ha hb' ta tb hab⟩
theorem adf_cong {f g : Nat → Int32} {p q : Nat} (h : ∀ a, a < 16 → g a = f a) (hp1 : p < 16) (hq : q < 16) : ∀ a, a < 16 → adf g p q a = adf f p q a := fun j hj => by
  unfold adf upd
  rw [h p hp1, h q hq]
  by_cases c : j = q
  · rw [if_pos c, if_pos c]
  · rw [if_neg c, if_neg c]
    by_cases c' : j = p
    · rw [if_pos c', if_pos c']
    · rw [if_neg c', if_neg c', h j hj]
theorem upd_bk {f : Nat → Int32} {p q : Nat} {A B C D : Int32} (hC : C = f p) (hD : D = f q) : upd (upd (upd (upd f p A) q B) p C) q D = f := funext fun j => by
  unfold upd
  by_cases c : j = q
  · rw [if_pos c, hD, c]
  · rw [if_neg c]
    by_cases c' : j = p
    · rw [if_pos c', hC, c']
    · rw [if_neg c', if_neg c, if_neg c']
theorem ui_bk {z : z_T} {b p q : Nat} {A B C D : Int32} (hC : C = z.1 b p) (hD : D = z.1 b q) : ui (ui (ui (ui z b p A) b q B) b p C) b q D = z := by
  refine Prod.ext (funext fun i => ?_) rfl
  by_cases e : i = b
  · subst e
    rw [ui_i, ui_i, ui_i, ui_i, upd_bk hC hD]
  · rw [ui_o e, ui_o e, ui_o e, ui_o e]
theorem m_ko (W : I_who z) (J : I_foe z) {n : Nat} (hn : 100 + 256 + 1 ≤ n) : L_X6_keepsOut_28 n 105 (ii (now_ z)) (((0, -2) : Int32 × Int32)).1 (((0, -2) : Int32 × Int32)).2 0 (hp L xs z) = (fin3 L xs z) (lp (s_km z) 256 0 ((0, -2) : Int32 × Int32)) :=
  lp_r (G := fun n k a => L_X6_keepsOut_28 n 105 (ii (now_ z)) (a).1 (a).2 (ii k) (hp L xs z)) (s_km z) (N := 256) (c := 100) (fin := (fin3 L xs z))
    (fun n k a hk hc => by
      show L_X6_keepsOut_28 (n + 1) 105 (ii (now_ z)) (a).1 (a).2 (ii k) (hp L xs z) = _
      rw [L_X6_keepsOut_28, if_pos (by rw [show (256 : Int32) = ii 256 from rfl, ii_lt (by omega) (by decide)]; exact hk)]
      simp only [zr_0, zr_1, zr_2, zr_3, zr_4, zr_5, zr_6, (c16 k hk).1, (c16 k hk).2, ii_s, btd, or0, Option.bind_some, po_s, po_n, one_ne0, Bool.false_eq_true, not_true, not_false_eq_true, Classical.not_not, ↓reduceIte]
      rw [s_km_1 W.1]
      have hp1 : k / 16 < 16 := by omega
      have hq : k % 16 < 16 := by omega
      simp only [ii_lt (a := k / 16) (b := k % 16) (by omega) (by omega), m_told W, isT_ii hp1, b01, m_fr W J hp1, m_has (show k % 16 < 32 by omega), Option.bind_some, po_s, po_n]
      by_cases c1 : k / 16 < k % 16
      · by_cases c2 : hb (tld z) (k / 16) = true
        · by_cases c3 : hb (fr z (k / 16)) (k % 16) = true
          · have hpq : k / 16 ≠ k % 16 := by omega
            have e110 : (ui (ui z 110 (k / 16) (z.1 110 (k / 16) ||| bt (k % 16))) 110 (k % 16) ((ui z 110 (k / 16) (z.1 110 (k / 16) ||| bt (k % 16))).1 110 (k % 16) ||| bt (k / 16))).1 110 = adf (z.1 110) (k / 16) (k % 16) := by
              rw [ui_i, ui_i]
              rfl
            have hq0 : hb (z.1 10 (k / 16)) (k % 16) = false := by
              rw [hb_fr hp1] at c3
              cases e : hb (z.1 10 (k / 16)) (k % 16) with
              | false => rfl
              | true => rw [e] at c3; simp at c3
            have hp0 : hb (z.1 10 (k % 16)) (k / 16) = false := by
              cases e : hb (z.1 10 (k % 16)) (k / 16) with
              | false => rfl
              | true => rw [((J _ hq).2 _ e).2.2.2] at hq0; cases hq0
            have hC : (ui (ui z 110 (k / 16) (z.1 110 (k / 16) ||| bt (k % 16))) 110 (k % 16) ((ui z 110 (k / 16) (z.1 110 (k / 16) ||| bt (k % 16))).1 110 (k % 16) ||| bt (k / 16))).1 110 (k / 16) &&& (bt (k % 16) ^^^ (-1)) = z.1 110 (k / 16) := by
              rw [e110]
              unfold adf upd
              rw [if_neg hpq, if_pos rfl, (J _ hp1).1]
              exact or_out (by omega) hq0
            have hD : ∀ C, (ui (ui (ui z 110 (k / 16) (z.1 110 (k / 16) ||| bt (k % 16))) 110 (k % 16) ((ui z 110 (k / 16) (z.1 110 (k / 16) ||| bt (k % 16))).1 110 (k % 16) ||| bt (k / 16))) 110 (k / 16) C).1 110 (k % 16) &&& (bt (k / 16) ^^^ (-1)) = z.1 110 (k % 16) := fun C => by
              rw [ui_i, e110]
              unfold adf upd
              rw [if_neg (fun e => hpq e.symm), if_pos rfl, if_neg (fun e => hpq e.symm), (J _ hq).1]
              exact or_out (by omega) hp0
            have h1 := m_quT (L := L) (xs := xs) hp1 hq z
            have h2 := m_quF (L := L) (xs := xs) hp1 hq (ui (ui z 110 (k / 16) (z.1 110 (k / 16) ||| bt (k % 16))) 110 (k % 16) ((ui z 110 (k / 16) (z.1 110 (k / 16) ||| bt (k % 16))).1 110 (k % 16) ||| bt (k / 16)))
            rw [ui_bk hC (hD _)] at h2
            have W2 : I_who (ui (ui z 110 (k / 16) (z.1 110 (k / 16) ||| bt (k % 16))) 110 (k % 16) ((ui z 110 (k / 16) (z.1 110 (k / 16) ||| bt (k % 16))).1 110 (k % 16) ||| bt (k / 16))) := W
            have hsy := sym_adf (sym_I W J) hp1 hq hpq
            have hac := adf_cong (fun a ha => (J a ha).1) hp1 hq
            have h3 := m_mustEQ (L := L) (xs := xs) (n := n) W2 (by rw [e110]; exact sym_cong hac hsy) (by omega)
            rw [e110, outS_cong hac] at h3
            have h3 : F_X6_mustStay n (hp L xs (ui (ui z 110 (k / 16) (z.1 110 (k / 16) ||| bt (k % 16))) 110 (k % 16) ((ui z 110 (k / 16) (z.1 110 (k / 16) ||| bt (k % 16))).1 110 (k % 16) ||| bt (k / 16)))) 105 = some (outS (tld z) (lck z) (adf (z.1 10) (k / 16) (k % 16))) := h3
            have hlt : ∀ s, pc s < 2147483648 := fun s => Nat.lt_of_le_of_lt (pc_le s) (by omega)
            have hnow : now_ z < 2147483648 := hlt _
            simp only [c1, c2, c3, and_self, one_ne0, Bool.false_eq_true, not_true, not_false_eq_true, Classical.not_not, ↓reduceIte, zr_0, zr_1, zr_2, zr_3, zr_4, zr_5, zr_6, Option.bind_some, po_s, po_n, h1, h2, h3, m_bits (show 17 ≤ n by omega), ii_lt hnow (hlt _)]
            by_cases c4 : now_ z < pc (outS (tld z) (lck z) (adf (z.1 10) (k / 16) (k % 16)))
            · by_cases c5 : a.2 = -2 <;> simp only [c4, c5, one_ne0, Bool.false_eq_true, not_true, not_false_eq_true, Classical.not_not, ↓reduceIte, Option.bind_some, po_s, po_n]
            · simp only [c4, one_ne0, Bool.false_eq_true, not_true, not_false_eq_true, Classical.not_not, ↓reduceIte, Option.bind_some, po_s, po_n]
          · simp only [c1, c2, c3, and_false, one_ne0, Bool.false_eq_true, not_true, not_false_eq_true, Classical.not_not, ↓reduceIte, Option.bind_some, po_s, po_n]
        · simp only [c1, c2, and_false, false_and, one_ne0, Bool.false_eq_true, not_true, not_false_eq_true, Classical.not_not, ↓reduceIte, Option.bind_some, po_s, po_n]
      · simp only [c1, false_and, one_ne0, Bool.false_eq_true, not_true, not_false_eq_true, Classical.not_not, ↓reduceIte, Option.bind_some, po_s, po_n])
    (fun n a _ => by
      show L_X6_keepsOut_28 (n + 1) 105 (ii (now_ z)) (a).1 (a).2 (ii 256) (hp L xs z) = _
      rw [L_X6_keepsOut_28, if_neg (by decide)]) (Nat.zero_add _) (by omega)
theorem km_ko (a : Int32 × Int32) : lp (s_km z) 256 0 a = lp (fun p a => lp (fun q a => s_ko z p q a) (15 - p) (p + 1) a) 16 0 a := by
  have h := lp_grid (s_km z) 16 16 0 a
  rw [show lp (s_km z) 256 0 a = lp (s_km z) (16 * 16) (16 * 0) a from rfl, h]
  refine lp_cong (N := 16) (fun p b hp1 => ?_) 16 0 a rfl
  have e1 : lp (fun q a => s_km z (16 * p + q) a) 16 0 b = lp (fun q a => s_km z (16 * p + q) a) (15 - p) (p + 1) b := by
    have e16 : (16 : Nat) = (p + 1) + (15 - p) := by omega
    rw [show lp (fun q a => s_km z (16 * p + q) a) 16 0 b = lp (fun q a => s_km z (16 * p + q) a) ((p + 1) + (15 - p)) 0 b by rw [← e16], lp_add, Nat.zero_add]
    rw [lp_id (N := p + 1) (p + 1) 0 b (by omega) fun j c _ hj => by
      show s_km z (16 * p + j) c = c
      unfold s_km
      rw [if_neg (by omega)]]
  rw [e1]
  refine lp_cong2 (M := p + 1) (N := 16) (fun q c hm hq => ?_) (15 - p) (p + 1) b (Nat.le_refl _) (by omega)
  show s_km z (16 * p + q) c = s_ko z p q c
  unfold s_km
  rw [show (16 * p + q) / 16 = p by omega, show (16 * p + q) % 16 = q by omega, if_pos (by omega)]
theorem km_kp {y : z_T} (h : kp z y) (a : Int32 × Int32) : lp (s_km y) 256 0 a = lp (s_km z) 256 0 a := by
  have e1 : s_ko y = s_ko z := by
    funext p q a
    unfold s_ko now_
    rw [kp_fr h, show tld y = tld z from h.2 8 2 rfl, show lck y = lck z from h.2 8 3 rfl, show y.1 10 = z.1 10 from funext fun k => h.2 10 k rfl]
  unfold s_km
  rw [e1]
theorem now_kp {y : z_T} (h : kp z y) : now_ y = now_ z := by
  unfold now_
  rw [show tld y = tld z from h.2 8 2 rfl, show lck y = lck z from h.2 8 3 rfl, show y.1 10 = z.1 10 from funext fun k => h.2 10 k rfl]
theorem o_keepsOut {w : Int32} {n : Nat} (I : Inv z) (hn : 400 ≤ n) : Op L xs z (fun h => F_X0_keepsOut n h 7 w) (fun h => F_X6_keepsOut n h 105 w) := by
  by_cases hw : ¬ w < 0 ∧ ¬ (1 : Int32) < w
  · obtain ⟨y, k1, hx⟩ := x_ko0 (L := L) (xs := xs) I.1 16 0 n ((0, -2) : Int32 × Int32) z rfl (by omega) kp.rf
    rw [← km_ko] at hx
    have hx : L_X0_keepsOut_30 n 7 (ii (now_ z)) 0 (-2) 0 (hp L xs z) = some ((lp (s_km z) 256 0 ((0, -2) : Int32 × Int32)).1, (lp (s_km z) 256 0 ((0, -2) : Int32 × Int32)).2, hp L xs y) := hx
    have I2 := I.kp k1
    have hm : L_X6_keepsOut_28 n 105 (ii (now_ y)) 0 (-2) 0 (hp L xs y) = _ := m_ko (L := L) (xs := xs) (z := y) I2.1 I2.2.2.1 (n := n) (by omega)
    rw [now_kp k1, km_kp k1] at hm
    have ho := x_outE (L := L) (xs := xs) (n := n) I.1 (by omega)
    have hmu := m_mustE (L := L) (xs := xs) (n := n) I2.1 I2.2.2.1 (by omega)
    rw [show tld y = tld z from k1.2 8 2 rfl, show lck y = lck z from k1.2 8 3 rfl, show y.1 10 = z.1 10 from funext fun k => k1.2 10 k rfl] at hmu
    have hb1 : F_J6_bitCount (outS (tld z) (lck z) (z.1 10)) = some (ii (now_ z)) := e_bits s16_outS
    have hb2 : F_X6_bits n (outS (tld z) (lck z) (z.1 10)) = some (ii (now_ z)) := m_bits (by omega)
    generalize lp (s_km z) 256 0 ((0, -2) : Int32 × Int32) = r at hx hm
    refine Op.kp I (r := if w = 0 then r.1 else r.2) (z1 := y) (z2 := y) ?_ ?_ k1
    · unfold F_X0_keepsOut
      rw [e_in]
      simp only [zr_0, zr_1, zr_2, zr_3, zr_4, zr_5, zr_6, Option.bind_some, po_s, po_n, n01, hw, b01, one_ne0, Bool.false_eq_true, not_true, not_false_eq_true, Classical.not_not, ↓reduceIte, and_self, ho, hb1, hx]
      by_cases h0 : w = 0
      · rw [if_pos h0, if_pos h0]
      · rw [if_neg h0, if_neg h0]
    · unfold F_X6_keepsOut
      rw [m_in]
      simp only [zr_0, zr_1, zr_2, zr_3, zr_4, zr_5, zr_6, Option.bind_some, po_s, po_n, hw, b01, one_ne0, Bool.false_eq_true, not_true, not_false_eq_true, Classical.not_not, ↓reduceIte, and_self, hmu, hb2, hm]
      by_cases h0 : w = 0
      · rw [if_pos h0, if_pos h0]
      · rw [if_neg h0, if_neg h0]
  · refine Op.kp I (r := -1) (z1 := z) (z2 := z) ?_ ?_ kp.rf
    · unfold F_X0_keepsOut
      rw [e_in]
      simp only [Option.bind_some, po_s, po_n, n01, hw, b01, one_ne0, Bool.false_eq_true, not_true, not_false_eq_true, Classical.not_not, ↓reduceIte]
    · unfold F_X6_keepsOut
      rw [m_in]
      simp only [Option.bind_some, po_s, po_n, hw, b01, one_ne0, Bool.false_eq_true, not_true, not_false_eq_true, Classical.not_not, ↓reduceIte]
end
