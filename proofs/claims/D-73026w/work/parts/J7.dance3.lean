/-! THE PLAIN LAW: dances, the component's end -/
set_option maxRecDepth 100000
def dnR (z : z_T) (N : Nat) : Nat → Nat → DL → Int32 ⊕ DL
  | 0, _, s => .inr s
  | k + 1, a, s => match dnS z N a s with | .inl v => .inl v | .inr (a', s') => if a' < N then dnR z N k a' s' else .inr s'
theorem dnS_in {z : z_T} {N a a' : Nat} {s s' : DL} (h : dnS z N a s = .inr (a', s')) : a' = a + 2 ∧ s'.2.1 = s.2.1 + 1 := by
  unfold dnS at h
  split at h
  · split at h
    · split at h
      · split at h
        · split at h
          · cases h
          · split at h
            · split at h
              · cases h
                exact ⟨rfl, rfl⟩
              · cases h
            · cases h
        · cases h
      · cases h
    · cases h
  · cases h
theorem neg_8 {a : Nat} (ha : a < 100000) : -1000 * 8 - ii a < 0 := neg_c (m := 8000) rfl (by omega) (by omega) ha
theorem neg_9 {a : Nat} (ha : a < 100000) : -1000 * 9 - ii a < 0 := neg_c (m := 9000) rfl (by omega) (by omega) ha
theorem dnS_neg {z : z_T} {N a : Nat} {s : DL} {v : Int32} (ha : a < 90000) (h : dnS z N a s = .inl v) : v < 0 := by
  unfold dnS at h
  split at h
  · split at h
    · split at h
      · split at h
        · split at h
          · rw [← Sum.inl.inj h]; exact neg_6 (by omega)
          · split at h
            · split at h
              · cases h
              · rw [← Sum.inl.inj h]; exact neg_9 (by omega)
            · rw [← Sum.inl.inj h]; exact neg_7 (by omega)
        · rw [← Sum.inl.inj h]; exact neg_1 (by omega)
      · rw [← Sum.inl.inj h]; exact neg_8 (by omega)
    · rw [← Sum.inl.inj h]; exact neg_7 (by omega)
  · rw [← Sum.inl.inj h]; exact neg_1 (by omega)
theorem dnR_neg {z : z_T} {N : Nat} : ∀ (k a : Nat) (s : DL) (v : Int32), a + 2 * k < 90000 → dnR z N k a s = .inl v → v < 0
  | 0, a, s, v, _, h => by cases h
  | k + 1, a, s, v, hl, h => by
    unfold dnR at h
    cases eo : dnS z N a s with
    | inl w =>
      rw [eo] at h
      rw [← Sum.inl.inj h]
      exact dnS_neg (by omega) eo
    | inr o =>
      obtain ⟨a', s'⟩ := o
      obtain ⟨e1, _⟩ := dnS_in eo
      rw [eo] at h
      dsimp only at h
      by_cases c : a' < N
      · rw [if_pos c] at h
        exact dnR_neg k a' s' v (by omega) h
      · rw [if_neg c] at h
        cases h
theorem dnR_c {z : z_T} {N : Nat} : ∀ (k a c : Nat) (s s' : DL), s.2.1 = ii c → dnR z N k a s = .inr s' → ∃ c', c' ≤ c + k ∧ s'.2.1 = ii c'
  | 0, a, c, s, s', h1, h => by cases h; exact ⟨c, by omega, h1⟩
  | k + 1, a, c, s, s', h1, h => by
    unfold dnR at h
    cases eo : dnS z N a s with
    | inl w => rw [eo] at h; cases h
    | inr o =>
      obtain ⟨a', s2⟩ := o
      obtain ⟨_, e2⟩ := dnS_in eo
      have h2 : s2.2.1 = ii (c + 1) := by rw [e2, h1, ii_s]
      rw [eo] at h
      dsimp only at h
      by_cases cc : a' < N
      · rw [if_pos cc] at h
        obtain ⟨c', q1, q2⟩ := dnR_c k a' (c + 1) s2 s' h2 h
        exact ⟨c', by omega, q2⟩
      · rw [if_neg cc] at h
        cases h
        exact ⟨c + 1, by omega, h2⟩
section
variable {L : Nat} {xs : Nat → Int32} {z : z_T} {e : Nat}
theorem x_rdD {y : z_T} {N : Nat} (he : 135 ≤ e ∧ e + 1 < 135 + y.2.2.2.2.1) (hN : N ≤ 100) : ∀ (k a n : Nat) (p : Int32) (s : DL), 104 ≤ 2 * k + a → a < 102 → k + 10 ≤ n → match dnR y N k a s with
    | .inl v => ∃ A f p' s', L_X18_read_2 n e 1 (dS L xs y e (ii N) (ii a) 0 p s) = some (dS L xs y e (ii N) A f p' s') ∧ f ≠ 0 ∧ -1000 * f - p' = v
    | .inr s' => ∃ A p', L_X18_read_2 n e 1 (dS L xs y e (ii N) (ii a) 0 p s) = some (dS L xs y e (ii N) A 0 p' s')
  | 0, a, n, p, s, h1, h2, h3 => by omega
  | k + 1, a, n, p, s, h1, h2, h3 => by
    obtain ⟨n, rfl⟩ : ∃ m, n = m + 2 := ⟨n - 2, by omega⟩
    obtain ⟨t1, t2, t3, t4, t5, t6, t7, t8, t9, t10, t11, t12, t13, t14, t15⟩ := ds_all (L := L) (xs := xs) (y := y) he
    have hx := x_two (L := L) (xs := xs) (y := y) (e := e) (N := N) (a := a) (p := p) (s := s) he (by omega) (by omega)
    have stop : ∀ (m : Nat) (h : pm_H), L_X18_read_2 (m + 1) e 0 h = some h := fun m h => by rw [L_X18_read_2, if_pos rfl]
    unfold dnR
    rw [L_X18_read_2, if_neg one_ne, if_pos (t1 _ _ _ _ _)]
    cases eo : dnS y N a s with
    | inl v =>
      rw [eo] at hx
      obtain ⟨A, f, p', s', g1, g2, g3⟩ := hx
      rw [g1, Option.bind_some, if_pos (t1 _ _ _ _ _), t3, Option.bind_some, if_pos (good0 g2), stop]
      exact ⟨A, f, p', s', rfl, g2, g3⟩
    | inr o =>
      obtain ⟨a', s'⟩ := o
      obtain ⟨e1, _⟩ := dnS_in eo
      rw [eo] at hx
      obtain ⟨p', g1⟩ := hx
      have elt : (ii a' < ii N) = (a' < N) := ii_lt (by omega) (by omega)
      dsimp only
      rw [g1, Option.bind_some, if_pos (t1 _ _ _ _ _), t3, Option.bind_some, if_pos rfl, if_neg one_ne, if_pos (t1 _ _ _ _ _), t13, Option.bind_some]
      by_cases c : a' < N
      · rw [if_pos c, if_pos (show ii a' < ii N by rw [elt]; exact c), if_pos rfl]
        exact x_rdD he hN k a' (n + 1) p' s' (by omega) (by omega) (by omega)
      · rw [if_neg c, if_neg (show ¬ ii a' < ii N by rw [elt]; exact c), if_neg one_ne, stop]
        exact ⟨_, p', rfl⟩
theorem ze_a {c : pm_C} {k : Nat} : pm_a (hp L xs z) c k = hp L xs (ue (nx z k) (135 + z.2.2.2.2.1) c) := by
  unfold pm_a hp
  refine Prod.ext (funext fun j => ?_) rfl
  dsimp only
  by_cases hj : j = 135 + z.2.2.2.2.1
  · subst hj
    rw [if_pos rfl, if_neg (by omega), if_neg (by omega)]
    exact (if_pos rfl).symm
  · rw [if_neg hj]
    by_cases h1 : j < 7
    · rw [if_pos h1, if_pos h1]
    · rw [if_neg h1, if_neg h1]
      by_cases h2 : j < 135
      · rw [if_pos h2, if_pos h2]
        unfold z_c
        split
        · rename_i fs h
          have : ∀ (fs : List (Option (Option Nat))) (q : Nat), z_fs z j fs q = z_fs (ue (nx z k) (135 + z.2.2.2.2.1) c) j fs q := by
            intro fs
            induction fs with
            | nil => exact fun _ => rfl
            | cons x r ih =>
              intro q
              match x with
              | none => exact congrArg _ (ih _)
              | some none => exact congrArg _ (ih _)
              | some (some a) => exact congrArg _ (ih _)
          rw [this]
        · rfl
        · show z.2.2.2.1 j = if j = 135 + z.2.2.2.2.1 then _ else z.2.2.2.1 j
          rw [if_neg hj]
      · rw [if_neg h2, if_neg h2]
        show z.2.2.2.1 j = if j = 135 + z.2.2.2.2.1 then _ else z.2.2.2.1 j
        rw [if_neg hj]
end
