/-! THE PLAIN LAW: orders, the roll stays well formed -/
set_option maxRecDepth 100000
def wf (r : RL) : Prop := s16 r.1 ∧ (∀ k, hb r.2.1 k = true → hb r.1 k = true) ∧ (∀ p, p < 16 → ∃ v, v < 100 ∧ r.2.2.1 p = ii v) ∧ (∀ p, p < 16 → ∀ q, hb (r.2.2.2 p) q = true → q < 16 ∧ q ≠ p ∧ hb r.1 q = true ∧ hb (r.2.2.2 q) p = true)
theorem dg_s {z : z_T} {N a : Nat} (h : dg (hr z N a)) : ∃ d, d < 10 ∧ hr z N a = ii (48 + d) := by
  obtain ⟨v, hv, e⟩ := hr_v (z := z) (N := N) (a := a)
  rw [e] at h ⊢
  obtain ⟨h1, h2⟩ := h
  rw [show (48 : Int32) = ii 48 from rfl, ii_lt (by omega) (by omega)] at h1
  rw [show (57 : Int32) = ii 57 from rfl, ii_lt (by omega) (by omega)] at h2
  exact ⟨v - 48, by omega, by rw [show 48 + (v - 48) = v by omega]⟩
theorem dg_1 {d : Nat} (h : d < 10) : 10 * 0 + ii (48 + d) - 48 = ii d := by
  have : ∀ d, d < 10 → 10 * 0 + ii (48 + d) - 48 = ii d := by decide
  exact this d h
theorem dg_2 {d f : Nat} (h : d < 10) (hf : f < 10) : 10 * ii d + ii (48 + f) - 48 = ii (10 * d + f) := by
  have : ∀ d, d < 10 → ∀ f, f < 10 → 10 * ii d + ii (48 + f) - 48 = ii (10 * d + f) := by decide
  exact this d h f hf
theorem wf_H {r : RL} {p v : Nat} (W : wf r) (hp1 : p < 16) (hv : v < 100) : wf (setH r p (ii v)) ∧ sub r.1 (setH r p (ii v)).1 := by
  obtain ⟨w1, w2, w3, w4⟩ := W
  refine ⟨⟨s16_or w1 (s16_bt hp1), fun k hk => ?_, fun q hq => ?_, fun a ha q hq => ?_⟩, sub_l⟩
  · have hk : hb (r.2.1 ||| (if hb r.1 p = true then 0 else bt p)) k = true := hk
    show hb (r.1 ||| bt p) k = true
    rw [hb_or, Bool.or_eq_true] at hk ⊢
    rcases hk with hk | hk
    · exact Or.inl (w2 k hk)
    · split at hk
      · rw [hb_0] at hk; cases hk
      · exact Or.inr hk
  · show ∃ u, u < 100 ∧ upd r.2.2.1 p (ii v) q = ii u
    unfold upd
    split
    · exact ⟨v, hv, rfl⟩
    · exact w3 q hq
  · obtain ⟨a1, a2, a3, a4⟩ := w4 a ha q hq
    exact ⟨a1, a2, sub_l q a3, a4⟩
theorem hb_one {v : Int32} {q j : Nat} {b : Bool} (hq : q < 32) : hb (one_ v q b) j = (if b = true then (hb v j || decide (j = q)) else (hb v j && !decide (j = q))) := by
  unfold one_
  cases b
  · simp only [Bool.false_eq_true, ↓reduceIte]
    exact hb_out hq
  · simp only [↓reduceIte]
    rw [hb_or, hb_bt hq]
theorem hb_prt {F : Nat → Int32} {p q a j : Nat} {b : Bool} (hp1 : p < 16) (hq : q < 16) (hne : p ≠ q) : hb (prt F p q b a) j = (if (a = p ∧ j = q) ∨ (a = q ∧ j = p) then b else hb (F a) j) := by
  unfold prt upd
  by_cases c1 : a = q
  · subst c1
    rw [if_pos rfl, if_neg (fun e => hne e.symm), hb_one (by omega)]
    by_cases c2 : j = p
    · rw [if_pos (Or.inr ⟨rfl, c2⟩), decide_eq_true c2]
      cases b <;> simp
    · rw [if_neg (show ¬ ((a = p ∧ j = a) ∨ (a = a ∧ j = p)) from fun h => h.elim (fun x => hne x.1.symm) (fun x => c2 x.2)), decide_eq_false c2]
      cases b <;> simp
  · rw [if_neg c1]
    by_cases c2 : a = p
    · subst c2
      rw [if_pos rfl, hb_one (by omega)]
      by_cases c3 : j = q
      · rw [if_pos (Or.inl ⟨rfl, c3⟩), decide_eq_true c3]
        cases b <;> simp
      · rw [if_neg (show ¬ ((a = a ∧ j = q) ∨ (a = q ∧ j = a)) from fun h => h.elim (fun x => c3 x.2) (fun x => c1 x.1)), decide_eq_false c3]
        cases b <;> simp
    · rw [if_neg c2, if_neg (show ¬ ((a = p ∧ j = q) ∨ (a = q ∧ j = p)) from fun h => h.elim (fun x => c2 x.1) (fun x => c1 x.1))]
theorem wf_P {r : RL} {p q : Nat} {b : Bool} (W : wf r) (hp1 : p < 16) (hq : q < 16) (hne : p ≠ q) (tp : hb r.1 p = true) (tq : hb r.1 q = true) : wf (r.1, r.2.1, r.2.2.1, prt r.2.2.2 p q b) := by
  obtain ⟨w1, w2, w3, w4⟩ := W
  refine ⟨w1, w2, w3, fun a ha j hj => ?_⟩
  have hj : hb (prt r.2.2.2 p q b a) j = true := hj
  show j < 16 ∧ j ≠ a ∧ hb r.1 j = true ∧ hb (prt r.2.2.2 p q b j) a = true
  rw [hb_prt hp1 hq hne] at hj
  rw [hb_prt hp1 hq hne]
  by_cases c : (a = p ∧ j = q) ∨ (a = q ∧ j = p)
  · rw [if_pos c] at hj
    rw [if_pos (show (j = p ∧ a = q) ∨ (j = q ∧ a = p) from c.elim (fun x => Or.inr ⟨x.2, x.1⟩) (fun x => Or.inl ⟨x.2, x.1⟩))]
    rcases c with ⟨h1, h2⟩ | ⟨h1, h2⟩
    · rw [h1, h2]; exact ⟨hq, fun e => hne e.symm, tq, hj⟩
    · rw [h1, h2]; exact ⟨hp1, hne, tp, hj⟩
  · rw [if_neg c] at hj
    rw [if_neg (show ¬ ((j = p ∧ a = q) ∨ (j = q ∧ a = p)) from fun h => h.elim (fun x => c (Or.inr ⟨x.2, x.1⟩)) (fun x => c (Or.inl ⟨x.2, x.1⟩)))]
    exact w4 a ha j hj
theorem wf_ln {z : z_T} {N a l a' : Nat} {r r' : RL} (W : wf r) (h : lnS z N a l r = .inr (a', r')) : wf r' ∧ sub r.1 r'.1 := by
  unfold lnS at h
  by_cases c : ltr (hr z N a)
  · obtain ⟨k1, _⟩ := pn_s c
    rw [if_pos c] at h
    by_cases c1 : l = 24
    · rw [if_pos c1] at h; cases h
    · rw [if_neg c1] at h
      by_cases c2 : sg (hr z N (a + 1))
      · rw [if_pos c2] at h
        by_cases c3 : hr z N (a + 1) = 64
        · rw [if_pos c3] at h
          unfold hsS at h
          by_cases d1 : dg (hr z N (a + 2))
          · obtain ⟨v1, u1, u2⟩ := dg_s d1
            rw [if_pos d1] at h
            by_cases d2 : dg (hr z N (a + 2 + 1))
            · obtain ⟨v2, u3, u4⟩ := dg_s d2
              rw [if_pos d2] at h
              by_cases d3 : dg (hr z N (a + 2 + 2))
              · rw [if_pos d3] at h; cases h
              · rw [if_neg d3] at h
                cases h
                rw [u2, u4, dg_1 u1, dg_2 u1 u3]
                exact wf_H W k1 (by omega)
            · rw [if_neg d2] at h
              cases h
              rw [u2, dg_1 u1]
              exact wf_H W k1 (by omega)
          · rw [if_neg d1] at h; cases h
        · rw [if_neg c3] at h
          by_cases c4 : hb r.1 (pn (hr z N a)) = true
          · rw [if_pos c4] at h
            by_cases c5 : hr z N (a + 1) = 35
            · rw [if_pos c5] at h
              cases h
              refine ⟨⟨W.1, fun k hk => ?_, W.2.2.1, W.2.2.2⟩, sub.rf⟩
              have hk : hb (r.2.1 &&& (bt (pn (hr z N a)) ^^^ (-1))) k = true := hk
              rw [hb_and, Bool.and_eq_true] at hk
              exact W.2.1 k hk.1
            · rw [if_neg c5] at h
              by_cases c6 : hr z N (a + 1) = 61
              · rw [if_pos c6] at h
                cases h
                refine ⟨⟨W.1, fun k hk => ?_, W.2.2.1, W.2.2.2⟩, sub.rf⟩
                have hk : hb (r.2.1 ||| bt (pn (hr z N a))) k = true := hk
                rw [hb_or, Bool.or_eq_true] at hk
                rcases hk with hk | hk
                · exact W.2.1 k hk
                · rw [hb_bt (by omega)] at hk
                  show hb r.1 k = true
                  rw [of_decide_eq_true hk]
                  exact c4
              · rw [if_neg c6] at h
                unfold otS at h
                by_cases d : ltr (hr z N (a + 2))
                · obtain ⟨k2, _⟩ := pn_s d
                  rw [if_pos d] at h
                  by_cases d1 : pn (hr z N a) = pn (hr z N (a + 2))
                  · rw [if_pos d1] at h; cases h
                  · rw [if_neg d1] at h
                    by_cases d2 : hb r.1 (pn (hr z N (a + 2))) = true
                    · rw [if_pos d2] at h
                      cases h
                      exact ⟨wf_P W k1 k2 d1 c4 d2, sub.rf⟩
                    · rw [if_neg d2] at h; cases h
                · rw [if_neg d] at h; cases h
          · rw [if_neg c4] at h; cases h
      · rw [if_neg c2] at h; cases h
  · rw [if_neg c] at h; cases h
theorem wf_rd {z : z_T} {N : Nat} : ∀ (k a l l' : Nat) (r r' : RL), wf r → l + k ≤ 26 → rdS z N k a l r = .inr (l', r') → wf r' ∧ sub r.1 r'.1 ∧ l' ≤ 26
  | 0, a, l, l', r, r', W, hl, h => by cases h; exact ⟨W, sub.rf, by omega⟩
  | k + 1, a, l, l', r, r', W, hl, h => by
    unfold rdS at h
    by_cases c1 : a < N
    · rw [if_pos c1] at h
      by_cases c2 : hr z N a = 59
      · rw [if_pos c2] at h
        cases eo : lnS z N (a + 1) l r with
        | inl v => rw [eo] at h; cases h
        | inr o =>
          obtain ⟨a2, r2⟩ := o
          rw [eo] at h
          obtain ⟨w1, w2⟩ := wf_ln W eo
          obtain ⟨w3, w4, w5⟩ := wf_rd k a2 (l + 1) l' r2 r' w1 (by omega) h
          exact ⟨w3, w2.tr w4, w5⟩
      · rw [if_neg c2] at h; cases h
    · rw [if_neg c1] at h
      cases h
      exact ⟨W, sub.rf, by omega⟩
theorem wf_0 {z : z_T} {N l' : Nat} {r r' : RL} (W : wf r) (h : rd0 z N r = .inr (l', r')) : wf r' ∧ sub r.1 r'.1 ∧ l' ≤ 26 := by
  unfold rd0 at h
  cases eo : lnS z N 0 0 r with
  | inl v => rw [eo] at h; cases h
  | inr o =>
    obtain ⟨a2, r2⟩ := o
    rw [eo] at h
    obtain ⟨w1, w2⟩ := wf_ln W eo
    obtain ⟨w3, w4, w5⟩ := wf_rd 25 a2 1 l' r2 r' w1 (by omega) h
    exact ⟨w3, w2.tr w4, w5⟩
section
variable {L : Nat} {xs : Nat → Int32} {z : z_T}
theorem m_rd {N : Nat} (T : ∀ i, i < 260 → z.1 113 i = z.1 75 i) (hN : N ≤ 260) : ∀ (k l a n : Nat) (y : z_T) (r : RL), k + l = 26 → 1 ≤ l → l ≤ 24 → a ≤ 6 * l → k + 260 ≤ n → mq z y → mst y N a l r →
    match rdS z N k a l r with
    | .inl v => ∃ y', L_X6_orders_40 n 105 1 (hp L xs y) = some (0, hp L xs y') ∧ y'.1 105 15 = v ∧ mq z y'
    | .inr (l', r') => ∃ y', L_X6_orders_40 n 105 1 (hp L xs y) = some (1, hp L xs y') ∧ y'.1 105 35 = ii l' ∧ mrl y' r' ∧ mq z y'
  | 0, l, a, n, y, r, h1, h2, h3, h4, h5, h6, S => by omega
  | k + 1, l, a, n, y, r, h1, h2, h3, h4, h5, h6, S => by
    obtain ⟨n, rfl⟩ : ∃ m, n = m + 1 := ⟨n - 1, by omega⟩
    obtain ⟨s1, s2, s3, X⟩ := S
    have stop : ∀ (m : Nat) (y' : z_T), 1 ≤ m → L_X6_orders_40 m 105 0 (hp L xs y') = some (0, hp L xs y') := fun m y' hm => by
      obtain ⟨m, rfl⟩ : ∃ q, m = q + 1 := ⟨m - 1, by omega⟩
      rw [L_X6_orders_40, if_pos rfl]
    have elt : (ii a < ii N) = (a < N) := ii_lt (by omega) (by omega)
    have p13 : pm_fI [(5, 13)] (hp L xs y) 105 = some (ii a) := by simp only [zr_0, zr_1, zr_2, zr_3, zr_4, zr_5, zr_6, s1]
    have p14 : pm_fI [(5, 14)] (hp L xs y) 105 = some (ii N) := by simp only [zr_0, zr_1, zr_2, zr_3, zr_4, zr_5, zr_6, s2]
    unfold rdS
    rw [L_X6_orders_40, if_neg one_ne, p13, Option.bind_some, p14, Option.bind_some]
    by_cases c1 : a < N
    · rw [if_pos c1, if_pos (show ii a < ii N by rw [elt]; exact c1), if_pos mcl]
      unfold F_X6_takes
      rw [if_pos mcl, m_hereY T h6 hN (by omega) s1 s2, Option.bind_some]
      by_cases c2 : hr z N a = 59
      · have c2' : hm z N a = 59 := by rw [hm_eq (by decide) (by decide)]; exact c2
        rw [if_pos c2, if_pos c2', p13, Option.bind_some, ii_s, show pm_put [(5, 13, 0)] (hp L xs y) 105 (.int (ii (a + 1))) = some (hp L xs (ui y 105 13 (ii (a + 1)))) by simp only [zw_0, zw_1], Option.bind_some, Option.bind_some]
        have k1 : mq z (ui y 105 13 (ii (a + 1))) := mq_ui h6 (Or.inl rfl)
        have hx := m_line (L := L) (xs := xs) (n := n) T hN (show a + 1 < 4000 by omega) h3 k1 (show mst (ui y 105 13 (ii (a + 1))) N (a + 1) l r from ⟨rfl, s2, s3, X⟩) (by omega)
        dsimp only
        rw [if_neg one_ne, if_pos mcl]
        cases eo : lnS z N (a + 1) l r with
        | inl v =>
          rw [eo] at hx
          obtain ⟨y1, g1, g2, g3⟩ := hx
          rw [g1, Option.bind_some, if_pos rfl, stop n y1 (by omega)]
          exact ⟨y1, rfl, g2, g3⟩
        | inr o =>
          obtain ⟨a', r'⟩ := o
          rw [eo] at hx
          obtain ⟨y1, g1, g2, g3⟩ := hx
          have hle := lnS_le eo
          have hl24 := lnS_24 eo
          rw [g1, Option.bind_some, if_neg one_ne]
          exact m_rd T hN k (l + 1) a' n y1 r' (by omega) (by omega) (by omega) (by omega) (by omega) g3 g2
      · have c2' : ¬ hm z N a = 59 := by rw [hm_eq (by decide) (by decide)]; exact c2
        rw [if_neg c2, if_neg c2', p13, Option.bind_some, if_pos mcl, m_wrong, Option.bind_some, if_pos (Or.inl rfl), Option.bind_some, if_pos rfl, stop n _ (by omega)]
        exact ⟨_, rfl, ui_a, mq_ui h6 (Or.inl rfl)⟩
    · rw [if_neg c1, if_neg (show ¬ ii a < ii N by rw [elt]; exact c1)]
      exact ⟨y, rfl, s3, X, h6⟩
end
