/-! THE PLAIN LAW: orders, the model's call -/
set_option maxRecDepth 100000
/-- what the model's orders leave alone -/
def kq (i k : Nat) : Bool := match i with
  | 109 => false
  | 110 => false
  | 111 => false
  | 112 => false
  | 105 => !(k == 7 || k == 8 || k == 9 || k == 10 || k == 12 || k == 13 || k == 14 || k == 15 || k == 16 || k == 18 || k == 20 || k == 35)
  | _ => true
def kqs (z y : z_T) : Prop := y.2.2 = z.2.2 ∧ ∀ i k, kq i k = true → y.1 i k = z.1 i k
theorem kqs.tr {a b c : z_T} (h1 : kqs a b) (h2 : kqs b c) : kqs a c := ⟨h2.1.trans h1.1, fun i k h => (h2.2 i k h).trans (h1.2 i k h)⟩
theorem kq_mkc {i k : Nat} (h : kq i k = true) : mkc i k = true := by
  unfold kq at h
  unfold mkc
  split at h
  · cases h
  · cases h
  · cases h
  · cases h
  · simp only [Bool.not_eq_true', Bool.or_eq_false_iff] at h ⊢
    simp [h]
  · next h1 h2 h3 h4 h5 =>
    split
    · exact absurd rfl h1
    · exact absurd rfl h2
    · exact absurd rfl h5
    · rfl
theorem mq_kqs {z y : z_T} (h : mq z y) : kqs z y := ⟨h.1, fun i k hk => h.2 i k (kq_mkc hk)⟩
theorem kqs_ui {z y : z_T} {i k : Nat} {v : Int32} (h : kqs z y) (hk : kq i k = false) : kqs z (ui y i k v) := ⟨h.1, fun j q hq => by
  by_cases e : j = i
  · subst e
    rw [ui_i, upd]
    by_cases e2 : q = k
    · subst e2
      rw [hk] at hq
      cases hq
    · rw [if_neg e2]; exact h.2 j q hq
  · rw [ui_o e]; exact h.2 j q hq⟩
theorem kq_ne {i k : Nat} (h : kq i k = true) : ¬ (i = 105 ∧ (k = 9 ∨ k = 10)) ∧ ¬ (i = 105 ∧ (k = 7 ∨ k = 8)) ∧ i ≠ 109 ∧ i ≠ 110 ∧ i ≠ 111 ∧ i ≠ 112 := by
  refine ⟨?_, ?_, ?_, ?_, ?_, ?_⟩
  · rintro ⟨rfl, rfl | rfl⟩ <;> cases h
  · rintro ⟨rfl, rfl | rfl⟩ <;> cases h
  · rintro rfl; cases h
  · rintro rfl; cases h
  · rintro rfl; cases h
  · rintro rfl; cases h
section
variable {L : Nat} {xs : Nat → Int32} {z : z_T}
theorem m_orders {N n : Nat} {r : RL} (T : ∀ i, i < 260 → z.1 113 i = z.1 75 i) (hN : N ≤ 160) (h1 : 1 ≤ N) (ht : ¬ z.1 105 12 < ii N) (X : mrl z r) (hn : 600 ≤ n) : match rd0 z N r with
    | .inl v => ∃ y, F_X6_orders n (hp L xs z) 105 (ii N) = some (v, hp L xs y) ∧ mrl y r ∧ y.1 105 12 = 0 ∧ kqs z y
    | .inr (l, r') => ∃ y, F_X6_orders n (hp L xs z) 105 (ii N) = some (ii l, hp L xs y) ∧ mrl y r' ∧ y.1 105 12 = 0 ∧ kqs z y := by
  have b : ∃ z1, z1 = ui (ui (ui (ui (ui z 105 13 0) 105 14 (ii N)) 105 18 0) 105 20 0) 105 35 0 := ⟨_, rfl⟩
  obtain ⟨z1, ez⟩ := b
  have q1 : kqs z z1 := by
    rw [ez]
    exact kqs_ui (kqs_ui (kqs_ui (kqs_ui (kqs_ui ⟨rfl, fun _ _ _ => rfl⟩ rfl) rfl) rfl) rfl) rfl
  have X1 : mrl z1 r := by
    rw [ez]
    exact X
  have p13 : z1.1 105 13 = ii 0 := by rw [ez]; rfl
  have p14 : z1.1 105 14 = ii N := by rw [ez]; rfl
  have p35 : z1.1 105 35 = ii 0 := by rw [ez]; rfl
  obtain ⟨zb, a1, a2, a3, a4, a5, a6⟩ := m_aside (L := L) (xs := xs) (z := z1) (n := n) (by omega)
  have q2 : kqs z1 zb := ⟨by rw [a2], fun i k hk => a3 i k (kq_ne hk).1 (kq_ne hk).2.2.2.2.1 (kq_ne hk).2.2.2.2.2⟩
  have Tb : ∀ i, i < 260 → zb.1 113 i = zb.1 75 i := fun i hi => by
    rw [(q1.tr q2).2 113 i rfl, (q1.tr q2).2 75 i rfl]
    exact T i hi
  have Sb : mst zb N 0 0 r := ⟨(a3 105 13 (by decide) (by decide) (by decide)).trans p13, (a3 105 14 (by decide) (by decide) (by decide)).trans p14, (a3 105 35 (by decide) (by decide) (by decide)).trans p35, (a3 105 7 (by decide) (by decide) (by decide)).trans X1.1, (a3 105 8 (by decide) (by decide) (by decide)).trans X1.2.1, fun p hp1 => (a3 109 p (fun h => absurd h.1 (by decide)) (by decide) (by decide)).trans (X1.2.2.1 p hp1), fun p hp1 => (a3 110 p (fun h => absurd h.1 (by decide)) (by decide) (by decide)).trans (X1.2.2.2 p hp1)⟩
  have hrd : rd0 z N r = rd0 zb N r := rd0_by (hr_by (funext fun i => by
    unfold by_
    rw [(q1.tr q2).2 75 i rfl])) N r
  have hln := m_line (L := L) (xs := xs) (z := zb) (n := n) Tb (by omega) (show 0 < 4000 by omega) (show 0 ≤ 24 by omega) mq.rf Sb (by omega)
  have begin_ : ∀ {v : Option (Int32 × pm_H)}, ((F_X6_readsOrder n (hp L xs zb) 105).bind fun q6 =>
      (L_X6_orders_40 n 105 q6.1 q6.2).bind fun q11 =>
      (pm_put [(5, 12, 0)] q11.2 105 (.int 0)).bind fun h12 =>
      if q11.1 = 0 then
        (if pm_cl_ h12 105 = some 5 then F_X6_putsBack n h12 105 else none).bind fun q13 =>
        (pm_fI [(5, 15)] q13 105).bind fun v14 =>
        some (v14, q13)
      else
        (pm_fI [(5, 35)] h12 105).bind fun v15 =>
        some (v15, h12)) = v → F_X6_orders n (hp L xs z) 105 (ii N) = v := fun {v} ev => by
    unfold F_X6_orders
    rw [m_in, Option.bind_some, if_pos (show ¬ ii N < 1 ∧ ¬ (160 : Int32) < ii N by rw [show (1 : Int32) = ii 1 from rfl, show (160 : Int32) = ii 160 from rfl, ii_lt (by omega) (by omega), ii_lt (by omega) (by omega)]; omega), if_neg one_ne, show pm_fI [(5, 12)] (hp L xs z) 105 = some (z.1 105 12) by simp only [zr_0, zr_1, zr_2, zr_3, zr_4, zr_5, zr_6], Option.bind_some, if_neg ht, if_pos mcl]
    have eb : F_X6_beginsText (hp L xs z) 105 (ii N) = some (hp L xs (ui (ui (ui (ui z 105 13 0) 105 14 (ii N)) 105 18 0) 105 20 0)) := by
      unfold F_X6_beginsText
      simp only [zw_0, zw_1, Option.bind_some, po_s, po_n]
    rw [eb, Option.bind_some, show pm_put [(5, 35, 0)] (hp L xs (ui (ui (ui (ui z 105 13 0) 105 14 (ii N)) 105 18 0) 105 20 0)) 105 (.int 0) = some (hp L xs z1) by rw [ez]; simp only [zw_0, zw_1], Option.bind_some, if_pos mcl, a1, Option.bind_some, if_pos mcl]
    exact ev
  have fin0 : ∀ (y : z_T) (v : Int32), mq zb y → y.1 105 15 = v → ∃ y2, ((pm_put [(5, 12, 0)] (hp L xs y) 105 (.int 0)).bind fun h12 =>
        (if pm_cl_ h12 105 = some 5 then F_X6_putsBack n h12 105 else none).bind fun q13 =>
        (pm_fI [(5, 15)] q13 105).bind fun v14 =>
        some (v14, q13)) = some (v, hp L xs y2) ∧ mrl y2 r ∧ y2.1 105 12 = 0 ∧ kqs z y2 := fun y v hq hv => by
    obtain ⟨y2, b1, b2, b3, b4, b5, b6⟩ := m_back (L := L) (xs := xs) (z := ui y 105 12 0) (n := n) (by omega)
    have q3 : kqs zb (ui y 105 12 0) := kqs_ui (mq_kqs hq) rfl
    have q4 : kqs (ui y 105 12 0) y2 := ⟨by rw [b2], fun i k hk => b3 i k (kq_ne hk).2.1 (kq_ne hk).2.2.1 (kq_ne hk).2.2.2.1⟩
    refine ⟨y2, ?_, ⟨?_, ?_, fun p hp1 => ?_, fun p hp1 => ?_⟩, ?_, (q1.tr q2).tr (q3.tr q4)⟩
    · rw [show pm_put [(5, 12, 0)] (hp L xs y) 105 (.int 0) = some (hp L xs (ui y 105 12 0)) by simp only [zw_0, zw_1], Option.bind_some, if_pos mcl, b1, Option.bind_some, show pm_fI [(5, 15)] (hp L xs y2) 105 = some (y2.1 105 15) by simp only [zr_0, zr_1, zr_2, zr_3, zr_4, zr_5, zr_6], Option.bind_some, b3 105 15 (by decide) (by decide) (by decide)]
      exact congrArg (fun q => some (q, hp L xs y2)) hv
    · exact b5.trans (((hq.2 105 9 rfl).trans a5).trans X1.1)
    · exact b6.trans (((hq.2 105 10 rfl).trans a6).trans X1.2.1)
    · exact (b4 p hp1).1.trans (((hq.2 111 p rfl).trans (a4 p hp1).1).trans (X1.2.2.1 p hp1))
    · exact (b4 p hp1).2.trans (((hq.2 112 p rfl).trans (a4 p hp1).2).trans (X1.2.2.2 p hp1))
    · exact (b3 105 12 (by decide) (by decide) (by decide)).trans rfl
  have fin1 : ∀ (y : z_T) (l : Nat) (r' : RL), mq zb y → y.1 105 35 = ii l → mrl y r' → ∃ y2, ((pm_put [(5, 12, 0)] (hp L xs y) 105 (.int 0)).bind fun h12 =>
        (pm_fI [(5, 35)] h12 105).bind fun v15 =>
        some (v15, h12)) = some (ii l, hp L xs y2) ∧ mrl y2 r' ∧ y2.1 105 12 = 0 ∧ kqs z y2 := fun y l r' hq hl X' => by
    refine ⟨ui y 105 12 0, ?_, X', ui_a, (q1.tr q2).tr (kqs_ui (mq_kqs hq) rfl)⟩
    rw [show pm_put [(5, 12, 0)] (hp L xs y) 105 (.int 0) = some (hp L xs (ui y 105 12 0)) by simp only [zw_0, zw_1], Option.bind_some, show pm_fI [(5, 35)] (hp L xs (ui y 105 12 0)) 105 = some (y.1 105 35) by simp only [zr_0, zr_1, zr_2, zr_3, zr_4, zr_5, zr_6]; rfl, Option.bind_some, hl]
  rw [hrd]
  unfold rd0
  cases eo : lnS zb N 0 0 r with
  | inl v =>
    rw [eo] at hln
    obtain ⟨y1, g1, g2, g3⟩ := hln
    obtain ⟨y2, f1, f2⟩ := fin0 y1 v g3 g2
    refine ⟨y2, begin_ ?_, f2⟩
    obtain ⟨m, rfl⟩ : ∃ q, n = q + 1 := ⟨n - 1, by omega⟩
    rw [g1, Option.bind_some]
    dsimp only
    rw [L_X6_orders_40, if_pos rfl, Option.bind_some]
    simp only [↓reduceIte]
    exact f1
  | inr o =>
    obtain ⟨a', r'⟩ := o
    rw [eo] at hln
    obtain ⟨y1, g1, g2, g3⟩ := hln
    have hle := lnS_le eo
    have h2 := m_rd (L := L) (xs := xs) (z := zb) (N := N) Tb (by omega) 25 1 a' n y1 r' (by omega) (by omega) (by omega) (by omega) (by omega) g3 g2
    dsimp only
    cases e3 : rdS zb N 25 a' 1 r' with
    | inl v =>
      rw [e3] at h2
      obtain ⟨y3, u1, u2, u3⟩ := h2
      obtain ⟨y2, f1, f2⟩ := fin0 y3 v u3 u2
      refine ⟨y2, begin_ ?_, f2⟩
      rw [g1, Option.bind_some]
      dsimp only
      rw [u1, Option.bind_some]
      simp only [↓reduceIte]
      exact f1
    | inr o2 =>
      obtain ⟨l, r2⟩ := o2
      rw [e3] at h2
      obtain ⟨y3, u1, u2, u3, u4⟩ := h2
      obtain ⟨y2, f1, f2⟩ := fin1 y3 l r2 u4 u2 u3
      refine ⟨y2, begin_ ?_, f2⟩
      rw [g1, Option.bind_some]
      dsimp only
      rw [u1, Option.bind_some]
      simp only [one_ne0, ↓reduceIte]
      exact f1
end
