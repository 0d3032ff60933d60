/-! THE PLAIN LAW: dances, joined -/
set_option maxRecDepth 100000
section
variable {L : Nat} {xs : Nat → Int32} {z : z_T}
theorem m_rdD {N : Nat} (W : I_who z) (H : I_hou z) (J : I_foe z) (T : ∀ i, i < 260 → z.1 113 i = z.1 75 i) (hN : N ≤ 100) : ∀ (k a n : Nat) (y : z_T) (s : DL), 104 ≤ 2 * k + a → a < 102 → k + 10 ≤ n → kp z y → dst y N a s → a = 0 ∨ a < N → match dnR z N k a s with
    | .inl v => ∃ y', ((F_X6_readsDance (hp L xs y) 105).bind fun q13 => L_X6_dance_80 n 105 q13.1 q13.2) = some (0, hp L xs y') ∧ y'.1 105 15 = v ∧ kp z y'
    | .inr s' => ∃ y' a', ((F_X6_readsDance (hp L xs y) 105).bind fun q13 => L_X6_dance_80 n 105 q13.1 q13.2) = some (1, hp L xs y') ∧ dst y' N a' s' ∧ kp z y'
  | 0, a, n, y, s, h1, h2, h3, k, D, _ => by omega
  | j + 1, a, n, y, s, h1, h2, h3, k, D, _ => by
    obtain ⟨n, rfl⟩ : ∃ m, n = m + 1 := ⟨n - 1, by omega⟩
    have hx := m_dn (L := L) (xs := xs) W H J T (show N ≤ 260 by omega) (show a < 5000 by omega) k D
    unfold dnR
    cases eo : dnS z N a s with
    | inl v =>
      rw [eo] at hx
      obtain ⟨y', g1, g2, g3⟩ := hx
      rw [g1, Option.bind_some]
      dsimp only
      rw [L_X6_dance_80, if_pos rfl]
      exact ⟨y', rfl, g2, g3⟩
    | inr o =>
      obtain ⟨a', s'⟩ := o
      obtain ⟨e1, _⟩ := dnS_in eo
      rw [eo] at hx
      obtain ⟨y', g1, g2, g3⟩ := hx
      obtain ⟨d1, d2, d3⟩ := g2
      have elt : (ii a' < ii N) = (a' < N) := ii_lt (by omega) (by omega)
      rw [g1, Option.bind_some]
      dsimp only
      rw [L_X6_dance_80, if_neg one_ne, show pm_fI [(5, 13)] (hp L xs y') 105 = some (ii a') by simp only [zr_0, zr_1, zr_2, zr_3, zr_4, zr_5, zr_6, d1], Option.bind_some, show pm_fI [(5, 14)] (hp L xs y') 105 = some (ii N) by simp only [zr_0, zr_1, zr_2, zr_3, zr_4, zr_5, zr_6, d2], Option.bind_some]
      by_cases c : a' < N
      · rw [if_pos c, if_pos (show ii a' < ii N by rw [elt]; exact c), if_pos mcl]
        exact m_rdD W H J T hN j a' n y' s' (by omega) (by omega) (by omega) g3 ⟨d1, d2, d3⟩ (Or.inr c)
      · rw [if_neg c, if_neg (show ¬ ii a' < ii N by rw [elt]; exact c)]
        exact ⟨y', a', rfl, ⟨d1, d2, d3⟩, g3⟩
theorem m_51  {n : Nat} (hn : 0 + 16 + 1 ≤ n) : L_X6_dance_51 n 105 0 (hp L xs (z)) = (hpf L xs) (lp (fun k y => ui y 127 k (y.1 109 k)) 16 0 z) :=
  lp_r (G := fun n k a => L_X6_dance_51 n 105 (ii k) (hp L xs (a))) (fun k y => ui y 127 k (y.1 109 k)) (N := 16) (c := 0) (fin := (hpf L xs))
    (fun n k a hk hc => by
      have hk32 : k < 32 := by omega
      show L_X6_dance_51 (n + 1) 105 (ii k) (hp L xs (a)) = _
      rw [L_X6_dance_51, if_pos (by rw [show (16 : Int32) = ii 16 from rfl, ii_lt (by omega) (by decide)]; exact hk)]
      simp only [zr_0, zr_1, zr_2, zr_3, zr_4, zr_5, zr_6, za_0, za_1, za_2, za_3, za_4, za_5, hk, ii_s, btd, or0, Option.bind_some, po_s, po_n, one_ne0, Bool.false_eq_true, not_true, not_false_eq_true, Classical.not_not, ↓reduceIte]
      all_goals rfl)
    (fun n a _ => by
      show L_X6_dance_51 (n + 1) 105 (ii 16) (hp L xs (a)) = _
      rw [L_X6_dance_51, if_neg (by decide)]; rfl) (Nat.zero_add _) (by omega)
theorem m_51s {y : z_T} : ∀ r, kp y (lp (fun k y => ui y 127 k (y.1 109 k)) r 0 y) ∧ (∀ k, (lp (fun k y => ui y 127 k (y.1 109 k)) r 0 y).1 105 k = y.1 105 k) ∧ ∀ j, j < r → (lp (fun k y => ui y 127 k (y.1 109 k)) r 0 y).1 127 j = y.1 109 j
  | 0 => ⟨kp.rf, fun _ => rfl, fun j hj => absurd hj (by omega)⟩
  | r + 1 => by
    obtain ⟨i1, i2, i3⟩ := m_51s (y := y) r
    rw [lp_s, Nat.zero_add]
    generalize lp (fun k y => ui y 127 k (y.1 109 k)) r 0 y = A at i1 i2 i3 ⊢
    refine ⟨i1.ui rfl, fun k => i2 k, fun j hj => ?_⟩
    by_cases e : j = r
    · rw [e]
      exact ui_a.trans (i1.2 109 r rfl)
    · exact (ui_b e).trans (i3 j (by omega))
end
