/-! THE PLAIN LAW: orders, the model's walk -/
set_option maxRecDepth 100000
/-- what the model keeps while it reads -/
def mkc (i k : Nat) : Bool := match i with
  | 109 => false
  | 110 => false
  | 105 => !(k == 7 || k == 8 || k == 13 || k == 14 || k == 15 || k == 16 || k == 35)
  | _ => true
def mq (z y : z_T) : Prop := y.2.2 = z.2.2 ∧ ∀ i k, mkc i k = true → y.1 i k = z.1 i k
theorem mq.rf {z : z_T} : mq z z := ⟨rfl, fun _ _ _ => rfl⟩
theorem mq_ui {z y : z_T} {i k : Nat} {v : Int32} (h : mq z y) (hk : mkc i k = false ∨ (i = 105 ∧ (k = 7 ∨ k = 8)) ∨ i = 109 ∨ i = 110) : mq z (ui y i k v) := ⟨h.1, fun j q hq => by
  by_cases e : j = i
  · subst e
    rw [ui_i, upd]
    by_cases e2 : q = k
    · subst e2
      have : mkc j q = false := by
        rcases hk with hk | ⟨rfl, rfl | rfl⟩ | rfl | rfl
        · exact hk
        · rfl
        · rfl
        · rfl
        · rfl
      rw [this] at hq
      cases hq
    · rw [if_neg e2]; exact h.2 j q hq
  · rw [ui_o e]; exact h.2 j q hq⟩
def hm (z : z_T) (N a : Nat) : Int32 := if a < N then by_ z a else -1
def mrl (y : z_T) (r : RL) : Prop := y.1 105 7 = r.1 ∧ y.1 105 8 = r.2.1 ∧ (∀ p, p < 16 → y.1 109 p = r.2.2.1 p) ∧ (∀ p, p < 16 → y.1 110 p = r.2.2.2 p)
def mst (y : z_T) (N a l : Nat) (r : RL) : Prop := y.1 105 13 = ii a ∧ y.1 105 14 = ii N ∧ y.1 105 35 = ii l ∧ mrl y r
theorem hm_ltr {z : z_T} {N a : Nat} : (¬ hm z N a - 97 < 0 ∧ ¬ 15 < hm z N a - 97) ↔ ltr (hr z N a) := by
  unfold hm hr
  by_cases c : a < N
  · rw [if_pos c, if_pos c]
    show _ ↔ (¬ by_ z a - 97 < 0 ∧ by_ z a - 97 < 16)
    rw [show (by_ z a - 97 < 16) = ¬ ((15 : Int32) < by_ z a - 97) from lt_le 15 16 (by decide) rfl]
  · rw [if_neg c, if_neg c]
    decide
theorem hm_dg {z : z_T} {N a : Nat} : (¬ hm z N a < 48 ∧ ¬ 57 < hm z N a) ↔ dg (hr z N a) := by
  unfold hm hr
  by_cases c : a < N
  · rw [if_pos c, if_pos c]
  · rw [if_neg c, if_neg c]
    decide
theorem hm_eq {z : z_T} {N a : Nat} {v : Int32} (h0 : v ≠ 0) (h1 : v ≠ -1) : (hm z N a = v) = (hr z N a = v) := by
  unfold hm hr
  by_cases c : a < N
  · rw [if_pos c, if_pos c]
  · rw [if_neg c, if_neg c]
    exact propext ⟨fun e => absurd e.symm h1, fun e => absurd e.symm h0⟩
theorem hm_at {z : z_T} {N a : Nat} (h : dg (hr z N a) ∨ ltr (hr z N a)) : hm z N a = hr z N a := by
  unfold hm hr at *
  by_cases c : a < N
  · rw [if_pos c, if_pos c]
  · rw [if_neg c] at h
    exact absurd h (by decide)
section
variable {L : Nat} {xs : Nat → Int32} {z : z_T}
theorem m_hereY {y : z_T} {N a : Nat} (T : ∀ i, i < 260 → z.1 113 i = z.1 75 i) (h3 : mq z y) (hN : N ≤ 260) (ha : a < 10000) (e1 : y.1 105 13 = ii a) (e2 : y.1 105 14 = ii N) : F_X6_here (hp L xs y) 105 = some (hm z N a) := by
  unfold F_X6_here hm by_
  simp only [zr_0, zr_1, zr_2, zr_3, zr_4, zr_5, zr_6, Option.bind_some, po_s, po_n, e1, e2, ii_lt (show a < 2147483648 by omega) (show N < 2147483648 by omega)]
  by_cases c : a < N
  · simp only [c, ↓reduceIte, zr_0, zr_1, zr_2, zr_3, zr_4, zr_5, zr_6, Option.bind_some, po_s, po_n, za_0, za_1, za_2, za_3, za_4, za_5, show a < 260 by omega, show y.1 113 a = z.1 75 a from (h3.2 113 a rfl).trans (T a (by omega))]
  · simp only [c, ↓reduceIte]
theorem m_letY {y : z_T} {N a : Nat} (T : ∀ i, i < 260 → z.1 113 i = z.1 75 i) (h3 : mq z y) (hN : N ≤ 260) (ha : a < 10000) (e1 : y.1 105 13 = ii a) (e2 : y.1 105 14 = ii N) : F_X6_isLetter (hp L xs y) 105 = some (if ltr (hr z N a) then 1 else 0) := by
  unfold F_X6_isLetter
  rw [if_pos (show pm_cl_ (hp L xs y) 105 = some 5 by simp only [zr_0, zr_1, zr_2, zr_3, zr_4, zr_5, zr_6]), m_hereY T h3 hN ha e1 e2, Option.bind_some, m_in, Option.bind_some]
  by_cases c : ltr (hr z N a)
  · rw [if_pos (hm_ltr.mpr c), if_pos c]
    rfl
  · rw [if_neg (fun h => c (hm_ltr.mp h)), if_neg c]
    rfl
theorem m_digY {y : z_T} {N a : Nat} (T : ∀ i, i < 260 → z.1 113 i = z.1 75 i) (h3 : mq z y) (hN : N ≤ 260) (ha : a < 10000) (e1 : y.1 105 13 = ii a) (e2 : y.1 105 14 = ii N) : F_X6_isDigit (hp L xs y) 105 = some (if dg (hr z N a) then 1 else 0) := by
  unfold F_X6_isDigit
  rw [if_pos (show pm_cl_ (hp L xs y) 105 = some 5 by simp only [zr_0, zr_1, zr_2, zr_3, zr_4, zr_5, zr_6]), m_hereY T h3 hN ha e1 e2, Option.bind_some]
  by_cases c1 : hm z N a < 48
  · rw [if_pos c1, if_neg (fun h => (hm_dg.mpr h).1 c1)]
  · rw [if_neg c1, Option.bind_some]
    by_cases c2 : 57 < hm z N a
    · rw [if_pos c2, if_neg (fun h => (hm_dg.mpr h).2 c2)]
    · rw [if_neg c2, if_pos (hm_dg.mp ⟨c1, c2⟩)]
theorem m_wrong {y : z_T} {w v : Int32} : F_X6_wrongAt (hp L xs y) 105 w v = some (0, hp L xs (ui y 105 15 (-1000 * w - v))) := by
  unfold F_X6_wrongAt
  simp only [zw_0, zw_1, Option.bind_some, po_s, po_n]
/-- what a step of the model leaves -/
def mO (L : Nat) (xs : Nat → Int32) (z : z_T) (N l : Nat) (o : Int32 ⊕ (Nat × RL)) (s : Option (Int32 × pm_H)) : Prop := match o with
  | .inl v => ∃ y, s = some (0, hp L xs y) ∧ y.1 105 15 = v ∧ mq z y
  | .inr (a, r) => ∃ y, s = some (1, hp L xs y) ∧ mst y N a l r ∧ mq z y
theorem b01o {x : Int32 × pm_H} (h : x.1 = 0 ∨ x.1 = 1) : (if x.1 = 0 ∨ x.1 = 1 then some (x.1, x.2) else none) = some x := by rw [if_pos h]
theorem mr27_N {y : z_T} {N a n : Nat} {x2 : Int32} (T : ∀ i, i < 260 → z.1 113 i = z.1 75 i) (h3 : mq z y) (hN : N ≤ 260) (ha : a < 10000) (e1 : y.1 105 13 = ii a) (e2 : y.1 105 14 = ii N) (h : ¬ dg (hr z N a)) : L_X6_readsHouse_27 (n + 1) 105 x2 (hp L xs y) = some (.inr (hp L xs y)) := by
  rw [L_X6_readsHouse_27, if_pos (show pm_cl_ (hp L xs y) 105 = some 5 by simp only [zr_0, zr_1, zr_2, zr_3, zr_4, zr_5, zr_6]), m_digY T h3 hN ha e1 e2, Option.bind_some, if_neg h, if_pos rfl]
theorem mr27_Y {y : z_T} {N a b n : Nat} (T : ∀ i, i < 260 → z.1 113 i = z.1 75 i) (h3 : mq z y) (hN : N ≤ 260) (ha : a < 10000) (hb1 : b < 10000) (e1 : y.1 105 13 = ii a) (e2 : y.1 105 14 = ii N) (h : dg (hr z N a)) (hne : a ≠ b + 2) : L_X6_readsHouse_27 (n + 1) 105 (ii b) (hp L xs y) = L_X6_readsHouse_27 n 105 (ii b) (hp L xs (ui (ui y 105 16 (((10 * y.1 105 16) + hr z N a) - 48)) 105 13 (ii (a + 1)))) := by
  have e3 : ¬ ii a = ii b + 2 := by
    rw [show ii b + 2 = ii (b + 2) from ii_add b 2, ii_eq (by omega) (by omega)]
    exact hne
  rw [L_X6_readsHouse_27, if_pos (show pm_cl_ (hp L xs y) 105 = some 5 by simp only [zr_0, zr_1, zr_2, zr_3, zr_4, zr_5, zr_6]), m_digY T h3 hN ha e1 e2, Option.bind_some, if_pos h, if_neg one_ne]
  simp only [zr_0, zr_1, zr_2, zr_3, zr_4, zr_5, zr_6, Option.bind_some, po_s, po_n, e1, e3, ↓reduceIte, m_hereY T h3 hN ha e1 e2, hm_at (Or.inl h), zw_0, zw_1]
  rw [show (ui y 105 16 (((10 * y.1 105 16) + hr z N a) - 48)).1 105 13 = ii a from e1, ii_s]
theorem mr27_B {y : z_T} {N b n : Nat} (T : ∀ i, i < 260 → z.1 113 i = z.1 75 i) (h3 : mq z y) (hN : N ≤ 260) (hb1 : b < 9000) (e1 : y.1 105 13 = ii (b + 2)) (e2 : y.1 105 14 = ii N) (h : dg (hr z N (b + 2))) : L_X6_readsHouse_27 (n + 1) 105 (ii b) (hp L xs y) = some (.inl (0, hp L xs (ui y 105 15 (-1000 * 2 - ii (b + 2))))) := by
  have e3 : ii (b + 2) = ii b + 2 := (ii_add b 2).symm
  rw [L_X6_readsHouse_27, if_pos (show pm_cl_ (hp L xs y) 105 = some 5 by simp only [zr_0, zr_1, zr_2, zr_3, zr_4, zr_5, zr_6]), m_digY T h3 hN (by omega) e1 e2, Option.bind_some, if_pos h, if_neg one_ne, show pm_fI [(5, 13)] (hp L xs y) 105 = some (ii (b + 2)) by simp only [zr_0, zr_1, zr_2, zr_3, zr_4, zr_5, zr_6, e1], Option.bind_some, if_pos e3, Option.bind_some, if_pos (show pm_cl_ (hp L xs y) 105 = some 5 by simp only [zr_0, zr_1, zr_2, zr_3, zr_4, zr_5, zr_6]), m_wrong, Option.bind_some, if_pos (Or.inl rfl)]
end
