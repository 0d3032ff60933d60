/-! THE PLAIN LAW: feed, seed -/
set_option maxRecDepth 100000
/-- a cell with other content, a field that counts in it -/
def zt (z : z_T) (c o f : Nat) (g : Nat → Int32) (t : Nat) : z_T := (fun j => if j = c then g else if j = o then upd (z.1 o) f (ii t) else z.1 j, z.2)
theorem upd_same {f : Nat → Int32} {k : Nat} {v : Int32} (h : f k = v) : upd f k v = f := funext fun j => by
  unfold upd
  by_cases e : j = k
  · rw [if_pos e, e, h]
  · rw [if_neg e]
theorem zt_0 {z : z_T} {c o f t : Nat} (hn : c ≠ o) (h : z.1 o f = ii t) : zt z c o f (z.1 c) t = z := by
  unfold zt
  refine Prod.ext (funext fun j => ?_) rfl
  dsimp only
  by_cases h1 : j = c
  · rw [if_pos h1, h1]
  · rw [if_neg h1]
    by_cases h2 : j = o
    · rw [if_pos h2, h2, upd_same h]
    · rw [if_neg h2]
theorem zt_s {z : z_T} {c o f t : Nat} {g : Nat → Int32} {v : Int32} (hn : c ≠ o) : ui (ui (zt z c o f g t) c t v) o f (ii (t + 1)) = zt z c o f (upd g t v) (t + 1) := by
  unfold ui zt
  refine Prod.ext (funext fun j => ?_) rfl
  dsimp only
  by_cases h1 : j = c
  · subst h1
    rw [if_neg hn, if_pos rfl, if_pos rfl, if_pos rfl]
  · by_cases h2 : j = o
    · subst h2
      rw [if_pos rfl, if_neg h1, if_neg h1, if_neg h1, if_pos rfl, if_pos rfl]
      funext q
      unfold upd
      by_cases hq : q = f <;> simp [hq]
    · rw [if_neg h2, if_neg h1, if_neg h1, if_neg h1, if_neg h2, if_neg h2]
theorem zt_c {z : z_T} {c o f t : Nat} {g : Nat → Int32} : (zt z c o f g t).1 c = g := if_pos rfl
theorem zt_f {z : z_T} {c o f t : Nat} {g : Nat → Int32} (hn : c ≠ o) : (zt z c o f g t).1 o f = ii t := by
  unfold zt
  dsimp only
  rw [if_neg (Ne.symm hn), if_pos rfl]
  exact if_pos rfl
theorem zt_o {z : z_T} {c o f t j : Nat} {g : Nat → Int32} (h1 : j ≠ c) (h2 : j ≠ o) : (zt z c o f g t).1 j = z.1 j := by
  unfold zt
  dsimp only
  rw [if_neg h1, if_neg h2]
section
variable {L : Nat} {xs : Nat → Int32} {z : z_T}
def byt (v s : Int32) : Int32 := vp_nar .byte (pm_i2b (pm_shr v s))
def ps4 (g : Nat → Int32) (t : Nat) (v : Int32) : Nat → Int32 := upd (upd (upd (upd g t (byt v 24)) (t + 1) (byt v 16)) (t + 2) (byt v 8)) (t + 3) (byt v 0)
theorem x_push1 {g : Nat → Int32} {t n : Nat} {v s : Int32} (ht : t < 260) (hs : ¬ s < 0) : L_X0_push_3 (n + 1) 7 v s (hp L xs (zt z 75 7 8 g t)) = L_X0_push_3 n 7 v (s + (-8)) (hp L xs (zt z 75 7 8 (upd g t (byt v s)) (t + 1))) := by
  rw [L_X0_push_3, if_neg hs]
  simp only [zr_0, zr_1, zr_2, zr_3, zr_4, zr_5, zr_6, zw_0, zw_1, za_0, za_1, za_2, za_3, za_4, za_5, Option.bind_some, po_s, po_n, zt_f (show 75 ≠ 7 by decide), ht]
  rw [show (ui (zt z 75 7 8 g t) 75 t (vp_nar .byte (pm_i2b (pm_shr v s)))).1 7 8 = (zt z 75 7 8 g t).1 7 8 from rfl, zt_f (show 75 ≠ 7 by decide), ii_s, zt_s (show 75 ≠ 7 by decide)]
  rfl
theorem x_push {g : Nat → Int32} {t n : Nat} {v : Int32} (ht : t + 4 ≤ 260) (hn : 5 ≤ n) : F_X0_push n (hp L xs (zt z 75 7 8 g t)) 7 v = some (hp L xs (zt z 75 7 8 (ps4 g t v) (t + 4))) := by
  obtain ⟨m, rfl⟩ : ∃ m, n = m + 5 := ⟨n - 5, by omega⟩
  unfold F_X0_push
  rw [x_push1 (by omega) (by decide), x_push1 (by omega) (by decide), x_push1 (by omega) (by decide), x_push1 (by omega) (by decide), L_X0_push_3, if_pos (by decide)]
  rfl
theorem m_push1 {g : Nat → Int32} {t n : Nat} {v s : Int32} (ht : t < 260) (hs : ¬ s < 0) : L_X6_types_2 (n + 1) 105 v s (hp L xs (zt z 113 105 12 g t)) = L_X6_types_2 n 105 v (s + (-1)) (hp L xs (zt z 113 105 12 (upd g t (byt v (8 * s))) (t + 1))) := by
  rw [L_X6_types_2, if_neg hs]
  simp only [zr_0, zr_1, zr_2, zr_3, zr_4, zr_5, zr_6, zw_0, zw_1, za_0, za_1, za_2, za_3, za_4, za_5, Option.bind_some, po_s, po_n, zt_f (show 113 ≠ 105 by decide), ht]
  rw [show (ui (zt z 113 105 12 g t) 113 t (vp_nar .byte (pm_i2b (pm_shr v (8 * s))))).1 105 12 = (zt z 113 105 12 g t).1 105 12 from rfl, zt_f (show 113 ≠ 105 by decide), ii_s, zt_s (show 113 ≠ 105 by decide)]
  rfl
theorem m_push {g : Nat → Int32} {t n : Nat} {v : Int32} (ht : t + 4 ≤ 260) (hn : 5 ≤ n) : F_X6_types n (hp L xs (zt z 113 105 12 g t)) 105 v = some (hp L xs (zt z 113 105 12 (ps4 g t v) (t + 4))) := by
  obtain ⟨m, rfl⟩ : ∃ m, n = m + 5 := ⟨n - 5, by omega⟩
  unfold F_X6_types
  rw [m_push1 (by omega) (by decide), m_push1 (by omega) (by decide), m_push1 (by omega) (by decide), m_push1 (by omega) (by decide), L_X6_types_2, if_pos (by decide)]
  rfl
def ps20 (g : Nat → Int32) (t : Nat) (a b c d e : Int32) : Nat → Int32 := ps4 (ps4 (ps4 (ps4 (ps4 g t a) (t + 4) b) (t + 4 + 4) c) (t + 4 + 4 + 4) d) (t + 4 + 4 + 4 + 4) e
theorem ps4_c {g g2 : Nat → Int32} {t : Nat} {v : Int32} (h : ∀ i, i < 260 → g i = g2 i) : ∀ i, i < 260 → ps4 g t v i = ps4 g2 t v i := by
  intro i hi
  unfold ps4 upd
  rw [h i hi]
theorem o_feed {a b c d e : Int32} {n : Nat} (I : Inv z) (hn : 5 ≤ n) : Op L xs z (fun h => F_X0_feed n h 7 a b c d e) (fun h => F_X6_feed n h 105 a b c d e) := by
  obtain ⟨t, ht, et⟩ := I.2.2.2.2.2.1.2.2
  have em : z.1 105 12 = ii t := I.2.2.2.2.2.1.2.1.trans et
  have e20 : ii t + 20 = ii (t + 20) := ii_add t 20
  have h260 : ((260 : Int32) < ii (t + 20)) = (260 < t + 20) := by
    rw [show (260 : Int32) = ii 260 from rfl, ii_lt (by decide) (by omega)]
  by_cases hq : 260 < t + 20
  · refine Op.no I (r := -1) ?_ ?_
    · unfold F_X0_feed
      simp only [zr_0, zr_1, zr_2, zr_3, zr_4, zr_5, zr_6, Option.bind_some, po_s, po_n, et, e20, h260, hq, one_ne0, Bool.false_eq_true, not_true, not_false_eq_true, Classical.not_not, ↓reduceIte]
    · unfold F_X6_feed
      simp only [zr_0, zr_1, zr_2, zr_3, zr_4, zr_5, zr_6, Option.bind_some, po_s, po_n, em, e20, h260, hq, one_ne0, Bool.false_eq_true, not_true, not_false_eq_true, Classical.not_not, ↓reduceIte]
  · have z1 : zt z 75 7 8 (z.1 75) t = z := zt_0 (by decide) et
    have hx : F_X0_feed n (hp L xs (zt z 75 7 8 (z.1 75) t)) 7 a b c d e = some (ii (t + 20), hp L xs (zt z 75 7 8 (ps20 (z.1 75) t a b c d e) (t + 20))) := by
      unfold F_X0_feed
      simp only [zr_0, zr_1, zr_2, zr_3, zr_4, zr_5, zr_6, Option.bind_some, po_s, po_n, zt_f (show 75 ≠ 7 by decide), e20, h260, hq, one_ne0, Bool.false_eq_true, not_true, not_false_eq_true, Classical.not_not, ↓reduceIte, x_push (show t + 4 ≤ 260 by omega) hn, x_push (show t + 4 + 4 ≤ 260 by omega) hn, x_push (show t + 4 + 4 + 4 ≤ 260 by omega) hn, x_push (show t + 4 + 4 + 4 + 4 ≤ 260 by omega) hn, x_push (show t + 4 + 4 + 4 + 4 + 4 ≤ 260 by omega) hn]
      rfl
    rw [z1] at hx
    have z2 : ∀ w : z_T, w.1 105 12 = ii t → zt w 113 105 12 (w.1 113) t = w := fun w h => zt_0 (by decide) h
    have hm : ∀ w : z_T, w.1 105 12 = ii t → F_X6_feed n (hp L xs w) 105 a b c d e = some (ii (t + 20), hp L xs (zt w 113 105 12 (ps20 (w.1 113) t a b c d e) (t + 20))) := by
      intro w hw
      have : F_X6_feed n (hp L xs (zt w 113 105 12 (w.1 113) t)) 105 a b c d e = some (ii (t + 20), hp L xs (zt w 113 105 12 (ps20 (w.1 113) t a b c d e) (t + 20))) := by
        unfold F_X6_feed
        simp only [zr_0, zr_1, zr_2, zr_3, zr_4, zr_5, zr_6, Option.bind_some, po_s, po_n, zt_f (show 113 ≠ 105 by decide), e20, h260, hq, one_ne0, Bool.false_eq_true, not_true, not_false_eq_true, Classical.not_not, ↓reduceIte, m_push (show t + 4 ≤ 260 by omega) hn, m_push (show t + 4 + 4 ≤ 260 by omega) hn, m_push (show t + 4 + 4 + 4 ≤ 260 by omega) hn, m_push (show t + 4 + 4 + 4 + 4 ≤ 260 by omega) hn, m_push (show t + 4 + 4 + 4 + 4 + 4 ≤ 260 by omega) hn]
        rfl
      rwa [z2 w hw] at this
    refine ⟨_, _, _, hx, hm _ em, ?_, ?_, ?_⟩
    · obtain ⟨h1, h2, h3, h4, h5, h6, h7⟩ := I
      have eo : ∀ (g g2 : Nat → Int32) (i : Nat), i ≠ 75 → i ≠ 7 → i ≠ 113 → i ≠ 105 → (zt (zt z 75 7 8 g (t + 20)) 113 105 12 g2 (t + 20)).1 i = z.1 i := fun g g2 i a b c d => (zt_o c d).trans (zt_o a b)
      refine ⟨h1, h2, h3, h4.kp rfl rfl rfl rfl rfl (fun p q _ => congrFun (eo _ _ _ (by omega) (by omega) (by omega) (by omega)) q), h5.kp rfl rfl rfl rfl rfl (fun p q hp => congrFun (eo _ _ _ ?_ (by omega) ?_ (by omega)) q), ⟨?_, ?_, t + 20, by omega, ?_⟩, h7⟩
      · omega
      · omega
      · exact ps4_c (ps4_c (ps4_c (ps4_c (ps4_c h6.1))))
      · rfl
      · rfl
    · exact ⟨rfl, fun _ _ => rfl, Nat.le_refl _, fun i h1 h2 => (zt_o (by omega) (by omega)).trans (zt_o (by omega) (by omega)), rfl⟩
    · exact ⟨by show z.2.2.2.2.1 ≤ _; omega, by show z.2.2.2.2.2 ≤ _; omega⟩
/-- seed -/
theorem o_seed {w : Int32} (I : Inv z) : Op L xs z (fun h => F_X0_seed h 7 w) (fun h => F_X6_seed h 105 w) := by
  have e : (w < 65536) = ¬ ((65535 : Int32) < w) := lt_le 65535 65536 (by decide) rfl
  by_cases hw : ¬ w < 0 ∧ ¬ (65535 : Int32) < w
  · obtain ⟨N, _, hN, rfl⟩ := in_of 0 65535 (by decide) (by decide) hw
    have e273 : (273 : Int32) = ii 273 := rfl
    refine ⟨1, ui z 15 4 (ii N), ui (ui z 15 4 (ii N)) 106 273 (ii N), ?_, ?_, ?_, ?_, ?_⟩
    · unfold F_X0_seed
      rw [e_in]
      simp only [zr_0, zr_1, zr_2, zr_3, zr_4, zr_5, zr_6, zw_0, zw_1, Option.bind_some, po_s, po_n, b01, e, hw, one_ne0, Bool.false_eq_true, not_true, not_false_eq_true, Classical.not_not, ↓reduceIte, and_self]
    · unfold F_X6_seed
      rw [m_in]
      simp only [zr_0, zr_1, zr_2, zr_3, zr_4, zr_5, zr_6, za_0, za_1, za_2, za_3, za_4, za_5, e273, show 273 < 274 by decide, Option.bind_some, po_s, po_n, b01, hw, one_ne0, Bool.false_eq_true, not_true, not_false_eq_true, Classical.not_not, ↓reduceIte, and_self]
    · obtain ⟨h1, h2, h3, h4, h5, h6, h7⟩ := I
      have eo : ∀ i, i ≠ 15 → i ≠ 106 → (ui (ui z 15 4 (ii N)) 106 273 (ii N)).1 i = z.1 i := fun i a b => (ui_o b).trans (ui_o a)
      refine ⟨h1, h2, h3, ⟨fun p hk => ?_, fun p q hk hq => ?_, h4.2.2.1, rfl, N, by omega, rfl⟩, h5.kp rfl rfl rfl rfl rfl (fun p q hp => congrFun (eo _ (by omega) (by omega)) q), h6, h7⟩
      · have := h4.1 p hk
        refine ⟨?_, this.2⟩
        rw [ui_i, upd, if_neg (by omega)]
        exact this.1
      · have := h4.2.1 p q hk hq
        rw [eo (17 + p) (by omega) (by omega), ui_i, upd, if_neg (by omega)]
        exact this
    · exact ⟨rfl, fun _ _ => rfl, Nat.le_refl _, fun i h1 h2 => (ui_o (by omega)).trans (ui_o (by omega)), rfl⟩
    · exact ⟨by show z.2.2.2.2.1 ≤ _; omega, by show z.2.2.2.2.2 ≤ _; omega⟩
  · refine Op.no I (r := 0) ?_ ?_
    · unfold F_X0_seed
      rw [e_in]
      simp only [Option.bind_some, po_s, po_n, b01, e, hw, one_ne0, Bool.false_eq_true, not_true, not_false_eq_true, Classical.not_not, ↓reduceIte]
    · unfold F_X6_seed
      rw [m_in]
      simp only [Option.bind_some, po_s, po_n, b01, hw, one_ne0, Bool.false_eq_true, not_true, not_false_eq_true, Classical.not_not, ↓reduceIte]
end
