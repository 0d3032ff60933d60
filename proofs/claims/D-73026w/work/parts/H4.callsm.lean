/-! THE PLAIN LAW: calls, the tables filled -/
set_option maxRecDepth 100000
theorem x100 {x : Int32} : (x < 100) = ¬ ((99 : Int32) < x) := lt_le 99 100 (by decide) rfl
theorem Mt_b {n : Nat} {h d : Nat → Nat} {f : Nat} (hd : ∀ l, d l < 256) : ∀ (k : Nat) (S : Int32) (l : Nat), Mt n h d f k S l ≤ 1000000 := fun k S l => by
  have key : ∀ v, tm d v l ≤ 1000000 := fun v => by
    have := hd l
    unfold tm
    split <;> omega
  cases k with
  | zero => exact key _
  | succ k => exact key _
section
variable {L : Nat} {xs : Nat → Int32} {z : z_T}
theorem x_79 {m f s : Nat} (hm : m ≤ 8) (hf : f < 100) {o : Nat → Nat} (S : srt m (hN z) o) (hs : s < m) : ∀ (d i n : Nat) (y : z_T), i + s + d = m → d + 1 ≤ n → kp z y → (∀ a, a < m → y.1 85 a = ii (o a)) → (∀ w i', w < s → i' + w < m → tbl z f o y w i') → (∀ i', i' < i → tbl z f o y s i') →
    ∃ y', kp z y' ∧ (∀ a, a < m → y'.1 85 a = ii (o a)) ∧ L_X0_calls_79 n 7 (ii m) (ii f) (ii s) (ii i) (hp L xs y) = some (hp L xs y') ∧ (∀ w i', w < s + 1 → i' + w < m → tbl z f o y' w i')
  | 0, i, n, y, h1, h2, h3, h5, h6, h7 => by
    obtain ⟨q, rfl⟩ : ∃ q, n = q + 1 := ⟨n - 1, by omega⟩
    rw [L_X0_calls_79, if_neg (by rw [ii_add, ii_lt (by omega) (by omega)]; omega)]
    refine ⟨y, h3, h5, rfl, fun w i' a b => ?_⟩
    by_cases e : w = s
    · subst e; exact h7 i' (by omega)
    · exact h6 w i' (by omega) b
  | d + 1, i, n, y, h1, h2, h3, h5, h6, h7 => by
    obtain ⟨q, rfl⟩ : ∃ q, n = q + 1 := ⟨n - 1, by omega⟩
    obtain ⟨y1, k1, a1, a2, a3, a4⟩ := x_lay (L := L) (xs := xs) (z := z) (f := f) (s := s) (i := i) hm hf S h3 h5 (by omega) (fun w hw => ⟨h6 w (i + 1) (by omega) (by omega), h6 w i (by omega) (by omega)⟩)
    rw [L_X0_calls_79, if_pos (by rw [ii_add, ii_lt (by omega) (by omega)]; omega)]
    simp only [zr_0, zr_1, zr_2, zr_3, zr_4, zr_5, zr_6, Option.bind_some, po_s, po_n, ii_add, a2, ↓reduceIte, ii_s]
    exact x_79 hm hf S hs d (i + 1) q y1 (by omega) (by omega) k1 (fun a ha => by rw [a1]; exact h5 a ha) (fun w i' a b => a4 w i' (by omega) (by omega) (h6 w i' a b)) (fun i' a => by
      by_cases e : i' = i
      · subst e; exact a3
      · exact a4 s i' (by omega) (by omega) (h7 i' (by omega)))
theorem x_71 {m f : Nat} (hm : m ≤ 8) (hf : f < 100) {o : Nat → Nat} (S : srt m (hN z) o) : ∀ (d s n : Nat) (y : z_T), s + d = m → d + 20 ≤ n → kp z y → (∀ a, a < m → y.1 85 a = ii (o a)) → (∀ w i', w < s → i' + w < m → tbl z f o y w i') →
    ∃ y', kp z y' ∧ L_X0_calls_71 n 7 (ii m) (ii f) (ii s) (hp L xs y) = some (hp L xs y') ∧ (∀ w i', i' + w < m → tbl z f o y' w i')
  | 0, s, n, y, h1, h2, h3, h5, h6 => by
    obtain ⟨q, rfl⟩ : ∃ q, n = q + 1 := ⟨n - 1, by omega⟩
    rw [L_X0_calls_71, if_neg (by rw [ii_lt (by omega) (by omega)]; omega)]
    exact ⟨y, h3, rfl, fun w i' b => h6 w i' (by omega) b⟩
  | d + 1, s, n, y, h1, h2, h3, h5, h6 => by
    obtain ⟨q, rfl⟩ : ∃ q, n = q + 1 := ⟨n - 1, by omega⟩
    obtain ⟨y1, k1, a1, a2, a3⟩ := x_79 (L := L) (xs := xs) (z := z) hm hf S (show s < m by omega) (m - s) 0 q y (by omega) (by omega) h3 h5 h6 (fun i' a => absurd a (by omega))
    have a2 : L_X0_calls_79 q 7 (ii m) (ii f) (ii s) 0 (hp L xs y) = some (hp L xs y1) := a2
    rw [L_X0_calls_71, if_pos (by rw [ii_lt (by omega) (by omega)]; omega), a2, Option.bind_some, ii_s]
    exact x_71 hm hf S d (s + 1) q y1 (by omega) (by omega) k1 a1 a3
theorem ai134 {k : Nat} (h : k < 2048) : pm_ai 0 (hp L xs z) 134 (ii k) = some (z.1 134 k) := by simp only [za_0, za_1, za_2, za_3, za_4, za_5, h]
theorem si134 {k : Nat} {v : Int32} (h : k < 2048) : pm_si 0 (hp L xs z) 134 (ii k) v = some (hp L xs (ui z 134 k v)) := by simp only [za_0, za_1, za_2, za_3, za_4, za_5, h]
theorem ii_8 (a b : Nat) : 8 * ii a + ii b = ii (8 * a + b) := by
  rw [show 8 * ii a = ii (8 * a) from (Int32.ofNat_mul 8 a).symm, ii_add]
theorem m_octN {y : z_T} (T : ∀ i, i < 260 → z.1 113 i = z.1 75 i) (h3 : kp z y) {k : Nat} (hk : k < 260) : F_X6_octet (hp L xs y) 105 (ii k) = some (ii (sn (by_ z k))) := by
  rw [m_octY T h3 hk, ii_sn]
/-- what stands in the model's table -/
def tbm (z : z_T) (m f : Nat) (y : z_T) (T : Int32) (l : Nat) : Prop := y.1 134 (8 * sn T + l) = ii (if hb T l = true then Mt m (hN z) (dN z) f (pc T - 1) T l else 1000000)
theorem m_43 {m f l : Nat} (hT : ∀ i, i < 260 → z.1 113 i = z.1 75 i) (hm : m ≤ 8) {R : Int32} (hR : sub R (full m)) (hl : l < 8) {y : z_T} (h3 : kp z y) (ht : ∀ q, q < m → hb R q = true → tbm z m f y R q) {A : Nat} (hA : A ≤ 1000000) {n : Nat} (hn : 40 ≤ n) :
    L_X6_callsAt_43 n 105 (ii m) R (ii (hN z l)) (ii A) 0 (hp L xs y) = some (ii (lp (fun q a => if hb R q = true then mnN a (Mt m (hN z) (dN z) f (pc R - 1) R q + ad (hN z l) (hN z q)) else a) m 0 A)) := by
  have h2m := p2 hm
  have hsn := (full_sub hm).mp hR
  have hlb : hN z l < 256 := by_lt
  exact (lp_rule (G := fun n k a => L_X6_callsAt_43 n 105 (ii m) R (ii (hN z l)) (ii a) (ii k) (hp L xs y)) (f := fun q a => if hb R q = true then mnN a (Mt m (hN z) (dN z) f (pc R - 1) R q + ad (hN z l) (hN z q)) else a) (N := m) (c := 0) (fin := fun a => some (ii a)) (fun _ a => a ≤ 1000000)
    (fun n k a hk hc I => by
      have hqb : hN z k < 256 := by_lt
      have eq0 : sn (by_ z (2 * k)) = hN z k := rfl
      refine ⟨?_, ?_⟩
      · show L_X6_callsAt_43 (n + 1) 105 (ii m) R (ii (hN z l)) (ii a) (ii k) (hp L xs y) = _
        rw [L_X6_callsAt_43, if_pos (by rw [ii_lt (by omega) (by omega)]; omega)]
        have eR : R = ii (sn R) := (ii_sn R).symm
        have e8 : 8 * R + ii k = ii (8 * sn R + k) := by
          rw [← ii_8, ii_sn]
        simp only [zr_0, zr_1, zr_2, zr_3, zr_4, zr_5, zr_6, Option.bind_some, po_s, po_n, m_has (show k < 32 by omega), b01, ii_s]
        by_cases c : hb R k = true
        · have tv := ht k hk c
          unfold tbm at tv
          rw [if_pos c] at tv
          have hMb := Mt_b (n := m) (h := hN z) (d := dN z) (f := f) (fun l => by_lt) (pc R - 1) R k
          have had : ad (hN z l) (hN z k) < 256 := by unfold ad; split <;> omega
          simp only [c, one_ne0, Bool.false_eq_true, not_true, not_false_eq_true, Classical.not_not, ↓reduceIte, Option.bind_some, po_s, po_n, zr_0, zr_1, zr_2, zr_3, zr_4, zr_5, zr_6, e8, ai134 (show 8 * sn R + k < 2048 by omega), tv, ii_2, m_octN hT h3 (show 2 * k < 260 by omega), eq0, m_size, ab_ad (show hN z l < 1000000 by omega) (show hN z k < 1000000 by omega), ii_add, m_min, mn_ii (show a < 2147483648 by omega) (show Mt m (hN z) (dN z) f (pc R - 1) R k + ad (hN z l) (hN z k) < 2147483648 by omega)]
        · have c' : hb R k = false := by simpa using c
          simp only [c', one_ne0, Bool.false_eq_true, not_true, not_false_eq_true, Classical.not_not, ↓reduceIte, Option.bind_some, po_s, po_n]
      · show (if hb R k = true then mnN a _ else a) ≤ 1000000
        split
        · exact Nat.le_trans mnN_l I
        · exact I)
    (fun n a _ _ => by
      show L_X6_callsAt_43 (n + 1) 105 (ii m) R (ii (hN z l)) (ii a) (ii m) (hp L xs y) = _
      rw [L_X6_callsAt_43, if_neg (by rw [ii_lt (by omega) (by omega)]; omega)]) m 0 n A (Nat.zero_add _) (by omega) hA).1
theorem m_cAt {m f l : Nat} (hT : ∀ i, i < 260 → z.1 113 i = z.1 75 i) (hm : m ≤ 8) (hf : f < 100) {S : Int32} (hS : sub S (full m)) (hl : l < m) (hbl : hb S l = true) {y : z_T} (h3 : kp z y) (ht : ∀ T q, q < m → T ≠ 0 → sn T < sn S → tbm z m f y T q) {n : Nat} (hn : 60 ≤ n) :
    F_X6_callsAt n (hp L xs y) 105 (ii m) (ii f) S (ii l) = some (ii (Mt m (hN z) (dN z) f (pc S - 1) S l)) := by
  have S16 := sub16 hS (full16 hm)
  have hpo := pc_out (A := S) (j := l) (by omega) hbl
  have hlb : hN z l < 256 := by_lt
  have hdb : dN z l < 256 := by_lt
  have had : ad (hN z l) f < 256 := by unfold ad; split <;> omega
  have eq0 : sn (by_ z (2 * l)) = hN z l := rfl
  have eq1 : sn (by_ z (2 * l + 1)) = dN z l := rfl
  have hR16 : s16 (S &&& (bt l ^^^ (-1))) := s16_al S16
  have fin : ∀ v, v ≤ 1000000 → ((if ii (dN z l) < ii v then some 1000000 else some (ii v)) : Option Int32) = some (ii (tm (dN z) v l)) := fun v hv => by
    simp only [ii_lt (show dN z l < 2147483648 by omega) (show v < 2147483648 by omega)]
    unfold tm
    by_cases c : dN z l < v
    · rw [if_pos c, if_pos c]
      rfl
    · rw [if_neg c, if_neg c]
  unfold F_X6_callsAt
  simp only [zr_0, zr_1, zr_2, zr_3, zr_4, zr_5, zr_6, Option.bind_some, po_s, po_n, ii_2, m_octN hT h3 (show 2 * l < 260 by omega), eq0, btd, m_size, ab_ad (show hN z l < 1000000 by omega) (show f < 1000000 by omega), ↓reduceIte, ii_s, m_octN hT h3 (show 2 * l + 1 < 260 by omega), eq1]
  by_cases c : S &&& (bt l ^^^ (-1)) = 0
  · have hp0 : pc S - 1 = 0 := by
      rw [c, pc_0] at hpo
      omega
    have h43 := m_43 (L := L) (xs := xs) (z := z) (f := f) (l := l) hT hm (R := 0) (fun k hk => by rw [hb_0] at hk; cases hk) (by omega) h3 (fun q _ h => by rw [hb_0] at h; cases h) (A := ad (hN z l) f) (by omega) (show 40 ≤ n by omega)
    rw [lp_id (N := m) m 0 _ (by omega) fun j a _ _ => by rw [hb_0, if_neg (by decide)]] at h43
    rw [c, if_pos rfl, Option.bind_some, h43, Option.bind_some, fin _ (by omega), hp0]
    rfl
  · have hp1 : pc (S &&& (bt l ^^^ (-1))) ≠ 0 := fun e => c ((pc_z hR16).mp e)
    obtain ⟨k, hk⟩ : ∃ k, pc S - 1 = k + 1 := ⟨pc S - 2, by omega⟩
    have h43 := m_43 (L := L) (xs := xs) (z := z) (f := f) (l := l) hT hm (R := S &&& (bt l ^^^ (-1))) (sub_out.tr hS) (by omega) h3 (fun q hq hb1 => ht _ q hq c (sn_lt2 hR16 sub_out fun e => out_ne (S := S) (p := l) (by omega) hbl (by rw [e]))) (A := 1000000) (Nat.le_refl _) (show 40 ≤ n by omega)
    have h43 : L_X6_callsAt_43 n 105 (ii m) (S &&& (bt l ^^^ (-1))) (ii (hN z l)) 1000000 0 (hp L xs y) = _ := h43
    have hle := (fold_s (c := hb (S &&& (bt l ^^^ (-1)))) (g := fun q => Mt m (hN z) (dN z) f (pc (S &&& (bt l ^^^ (-1))) - 1) (S &&& (bt l ^^^ (-1))) q + ad (hN z l) (hN z q)) (A := 1000000) m).1
    rw [if_neg c, Option.bind_some, h43, Option.bind_some, fin _ hle, hk, show pc (S &&& (bt l ^^^ (-1))) - 1 = k by omega]
    rfl
theorem m_77 {m f : Nat} (hT : ∀ i, i < 260 → z.1 113 i = z.1 75 i) (hm : m ≤ 8) (hf : f < 100) {S : Int32} (hS : sub S (full m)) : ∀ (d l n : Nat) (y : z_T), l + d = m → d + 80 ≤ n → kp z y → (∀ T q, q < m → T ≠ 0 → sn T < sn S → tbm z m f y T q) → (∀ q, q < l → tbm z m f y S q) →
    ∃ y', kp z y' ∧ L_X6_calls_77 n 105 (ii m) (ii f) S (ii l) (hp L xs y) = some (hp L xs y') ∧ (∀ T q, q < m → T ≠ 0 → sn T < sn S + 1 → tbm z m f y' T q)
  | 0, l, n, y, h1, h2, h3, h4, h5 => by
    obtain ⟨q, rfl⟩ : ∃ q, n = q + 1 := ⟨n - 1, by omega⟩
    obtain rfl : l = m := by omega
    rw [L_X6_calls_77, if_neg (by rw [ii_lt (by omega) (by omega)]; omega)]
    refine ⟨y, h3, rfl, fun T q a b c => ?_⟩
    by_cases e : sn T = sn S
    · rw [sn_inj e]; exact h5 q a
    · exact h4 T q a b (by omega)
  | d + 1, l, n, y, h1, h2, h3, h4, h5 => by
    obtain ⟨n, rfl⟩ : ∃ q, n = q + 1 := ⟨n - 1, by omega⟩
    have h2m := p2 hm
    have hsn := (full_sub hm).mp hS
    have e8 : 8 * S + ii l = ii (8 * sn S + l) := by rw [← ii_8, ii_sn]
    have next : ∀ v, v = ii (if hb S l = true then Mt m (hN z) (dN z) f (pc S - 1) S l else 1000000) → ∃ y', kp z y' ∧ L_X6_calls_77 n 105 (ii m) (ii f) S (ii (l + 1)) (hp L xs (ui y 134 (8 * sn S + l) v)) = some (hp L xs y') ∧ (∀ T q, q < m → T ≠ 0 → sn T < sn S + 1 → tbm z m f y' T q) := fun v hv =>
      m_77 hT hm hf hS d (l + 1) n (ui y 134 (8 * sn S + l) v) (by omega) (by omega) (h3.ui rfl) (fun T q a b c => by
        unfold tbm
        rw [ui_b (by omega)]
        exact h4 T q a b c) (fun q hq => by
        unfold tbm
        by_cases e : q = l
        · rw [e, ui_a]
          exact hv
        · rw [ui_b (by omega)]
          exact h5 q (by omega))
    rw [L_X6_calls_77, if_pos (by rw [ii_lt (by omega) (by omega)]; omega)]
    simp only [zr_0, zr_1, zr_2, zr_3, zr_4, zr_5, zr_6, Option.bind_some, po_s, po_n, m_has (show l < 32 by omega), b01, ii_s, e8]
    by_cases c : hb S l = true
    · simp only [c, one_ne0, Bool.false_eq_true, not_true, not_false_eq_true, Classical.not_not, ↓reduceIte, Option.bind_some, po_s, po_n, zr_0, zr_1, zr_2, zr_3, zr_4, zr_5, zr_6, m_cAt hT hm hf hS (show l < m by omega) c h3 h4 (show 60 ≤ n by omega), si134 (show 8 * sn S + l < 2048 by omega)]
      exact next _ (by rw [if_pos c])
    · have c' : hb S l = false := by simpa using c
      simp only [c', one_ne0, Bool.false_eq_true, not_true, not_false_eq_true, Classical.not_not, ↓reduceIte, Option.bind_some, po_s, po_n, zr_0, zr_1, zr_2, zr_3, zr_4, zr_5, zr_6, si134 (show 8 * sn S + l < 2048 by omega)]
      exact next _ (by rw [if_neg c]; rfl)
theorem m_67 {m f : Nat} (hT : ∀ i, i < 260 → z.1 113 i = z.1 75 i) (hm : m ≤ 8) (hf : f < 100) : ∀ (d s n : Nat) (y : z_T), s + d = 2 ^ m → d + 120 ≤ n → kp z y → (∀ T q, q < m → T ≠ 0 → sn T < s → tbm z m f y T q) →
    ∃ y', kp z y' ∧ L_X6_calls_67 n 105 (ii m) (ii f) (ii s) (hp L xs y) = some (hp L xs y') ∧ (∀ T q, q < m → T ≠ 0 → sn T < 2 ^ m → tbm z m f y' T q)
  | 0, s, n, y, h1, h2, h3, h4 => by
    obtain ⟨q, rfl⟩ : ∃ q, n = q + 1 := ⟨n - 1, by omega⟩
    have h2m := p2 hm
    obtain rfl : s = 2 ^ m := by omega
    rw [L_X6_calls_67, if_neg (by rw [btd, bt_eq (by omega), ii_lt (by omega) (by omega)]; omega)]
    exact ⟨y, h3, rfl, h4⟩
  | d + 1, s, n, y, h1, h2, h3, h4 => by
    obtain ⟨q, rfl⟩ : ∃ q, n = q + 1 := ⟨n - 1, by omega⟩
    have h2m := p2 hm
    have hsn : sn (ii s) = s := sn_ii (by omega)
    have hS : sub (ii s) (full m) := (full_sub hm).mpr (by omega)
    obtain ⟨y1, k1, a1, a2⟩ := m_77 (L := L) (xs := xs) (z := z) (f := f) hT hm hf hS m 0 q y (by omega) (by omega) h3 (by rw [hsn]; exact h4) (fun q hq => absurd hq (by omega))
    rw [hsn] at a2
    have a1 : L_X6_calls_77 q 105 (ii m) (ii f) (ii s) 0 (hp L xs y) = some (hp L xs y1) := a1
    rw [L_X6_calls_67, if_pos (by rw [btd, bt_eq (by omega), ii_lt (by omega) (by omega)]; omega), a1, Option.bind_some, ii_s]
    exact m_67 hT hm hf d (s + 1) q y1 (by omega) (by omega) k1 a2
theorem m_138 {m f n : Nat} (hm : m ≤ 8) (h1 : 1 ≤ m) {y : z_T} (ht : ∀ q, q < m → tbm z m f y (full m) q) (hn : 40 ≤ n) : L_X6_calls_138 n 105 (ii m) 1000000 0 (hp L xs y) = some (ii (lp (fun q a => mnN a (Mt m (hN z) (dN z) f (m - 1) (full m) q)) m 0 1000000)) := by
  have h2m := p2 hm
  have ef : pm_shl 1 (ii m) - 1 = ii (2 ^ m - 1) := by
    have : ∀ m, m < 9 → pm_shl 1 (ii m) - 1 = ii (2 ^ m - 1) := by decide
    exact this m (by omega)
  exact (lp_rule (G := fun n k a => L_X6_calls_138 n 105 (ii m) (ii a) (ii k) (hp L xs y)) (f := fun q a => mnN a (Mt m (hN z) (dN z) f (m - 1) (full m) q)) (N := m) (c := 0) (fin := fun a => some (ii a)) (fun _ a => a ≤ 1000000)
    (fun n k a hk hc I => by
      refine ⟨?_, Nat.le_trans mnN_l I⟩
      have tv := ht k hk
      unfold tbm at tv
      rw [if_pos (by rw [hb_full hm]; exact decide_eq_true hk), pc_fullm hm, sn_full hm] at tv
      have hMb := Mt_b (n := m) (h := hN z) (d := dN z) (f := f) (fun l => by_lt) (m - 1) (full m) k
      show L_X6_calls_138 (n + 1) 105 (ii m) (ii a) (ii k) (hp L xs y) = _
      rw [L_X6_calls_138, if_pos (by rw [ii_lt (by omega) (by omega)]; omega)]
      simp only [zr_0, zr_1, zr_2, zr_3, zr_4, zr_5, zr_6, Option.bind_some, po_s, po_n, ef, ii_8, ai134 (show 8 * (2 ^ m - 1) + k < 2048 by omega), tv, m_min, ii_s, mn_ii (show a < 2147483648 by omega) (show Mt m (hN z) (dN z) f (m - 1) (full m) k < 2147483648 by omega)])
    (fun n a _ _ => by
      show L_X6_calls_138 (n + 1) 105 (ii m) (ii a) (ii m) (hp L xs y) = _
      rw [L_X6_calls_138, if_neg (by rw [ii_lt (by omega) (by omega)]; omega)]) m 0 n 1000000 (Nat.zero_add _) (by omega) (Nat.le_refl _)).1
end
