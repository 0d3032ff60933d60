/-! THE PLAIN LAW: calls, the component's table -/
set_option maxRecDepth 100000
theorem kc_lr {i k : Nat} (hi : i < 8) : kc (87 + i) k = false ∧ kc (96 + i) k = false := match i, hi with
  | 0, _ => ⟨rfl, rfl⟩ | 1, _ => ⟨rfl, rfl⟩ | 2, _ => ⟨rfl, rfl⟩ | 3, _ => ⟨rfl, rfl⟩ | 4, _ => ⟨rfl, rfl⟩ | 5, _ => ⟨rfl, rfl⟩ | 6, _ => ⟨rfl, rfl⟩ | 7, _ => ⟨rfl, rfl⟩
  | j + 8, h => absurd h (by omega)
theorem LR_b {h d : Nat → Nat} {f : Nat} {o : Nat → Nat} (hh : ∀ l, h l < 256) (hf : f < 256) : ∀ (s i : Nat), (LR h d f o s i).1 ≤ 268435456 + 256 * s ∧ (LR h d f o s i).2 ≤ 268435456 + 256 * s
  | 0, i => by
    have key : inT d o (ad (h (o i)) f) i ≤ 268435456 := by
      have := hh (o i)
      unfold inT ad
      split <;> split <;> omega
    exact ⟨key, key⟩
  | s + 1, i => by
    obtain ⟨a1, a2⟩ := LR_b hh hf (d := d) (o := o) s (i + 1)
    obtain ⟨b1, b2⟩ := LR_b hh hf (d := d) (o := o) s i
    have l1 := hh (o (i + 1))
    have l2 := hh (o (i + s + 1))
    refine ⟨?_, ?_⟩
    · show inT d o (mnN ((LR h d f o s (i + 1)).1 + h (o (i + 1)) - h (o i)) ((LR h d f o s (i + 1)).2 + h (o (i + s + 1)) - h (o i))) i ≤ _
      have := mnN_l (a := (LR h d f o s (i + 1)).1 + h (o (i + 1)) - h (o i)) (b := (LR h d f o s (i + 1)).2 + h (o (i + s + 1)) - h (o i))
      unfold inT
      split <;> omega
    · show inT d o (mnN ((LR h d f o s i).2 + h (o (i + s + 1)) - h (o (i + s))) ((LR h d f o s i).1 + h (o (i + s + 1)) - h (o i))) (i + s + 1) ≤ _
      have := mnN_l (a := (LR h d f o s i).2 + h (o (i + s + 1)) - h (o (i + s))) (b := (LR h d f o s i).1 + h (o (i + s + 1)) - h (o i))
      unfold inT
      split <;> omega
section
variable {L : Nat} {xs : Nat → Int32} {z : z_T}
theorem x_hA {m : Nat} (hm : m ≤ 8) {o : Nat → Nat} (S : srt m (hN z) o) {y : z_T} (h3 : kp z y) (h5 : ∀ a, a < m → y.1 85 a = ii (o a)) {a : Nat} (ha : a < m) : F_X0_houseAt (hp L xs y) 7 (ii a) = some (ii (hN z (o a))) := by
  have := S.2.2.2 a ha
  unfold F_X0_houseAt hN
  simp only [zr_0, zr_1, zr_2, zr_3, zr_4, zr_5, zr_6, Option.bind_some, po_s, po_n, za_0, za_1, za_2, za_3, za_4, za_5, show a < 8 by omega, h5 a ha, ii_2, x_fedY h3 (show 2 * o a < 260 by omega), ↓reduceIte]
theorem x_inT {m : Nat} (hm : m ≤ 8) {o : Nat → Nat} (S : srt m (hN z) o) {y : z_T} (h3 : kp z y) (h5 : ∀ a, a < m → y.1 85 a = ii (o a)) {a v : Nat} (ha : a < m) (hv : v < 2147483648) : F_X0_inTime (hp L xs y) 7 (ii v) (ii a) = some (ii (inT (dN z) o v a)) := by
  have := S.2.2.2 a ha
  have hd : dN z (o a) < 256 := by_lt
  have e : (sn (by_ z (2 * o a + 1)) < v) = (dN z (o a) < v) := rfl
  unfold F_X0_inTime inT
  simp only [zr_0, zr_1, zr_2, zr_3, zr_4, zr_5, zr_6, Option.bind_some, po_s, po_n, za_0, za_1, za_2, za_3, za_4, za_5, show a < 8 by omega, h5 a ha, ii_2, ii_s, x_fedY h3 (show 2 * o a + 1 < 260 by omega), ↓reduceIte, ii_lt (show sn (by_ z (2 * o a + 1)) < 2147483648 by have := by_lt (z := z) (j := 2 * o a + 1); omega) hv, e]
  by_cases c : dN z (o a) < v
  · rw [if_pos c, if_pos c]
    rfl
  · rw [if_neg c, if_neg c]
/-- what stands in the two tables -/
def tbl (z : z_T) (f : Nat) (o : Nat → Nat) (y : z_T) (s i : Nat) : Prop := y.1 (87 + i) (i + s) = ii (LR (hN z) (dN z) f o s i).1 ∧ y.1 (96 + i) (i + s) = ii (LR (hN z) (dN z) f o s i).2
theorem x_lay {m f s i : Nat} (hm : m ≤ 8) (hf : f < 100) {o : Nat → Nat} (S : srt m (hN z) o) {y : z_T} (h3 : kp z y) (h5 : ∀ a, a < m → y.1 85 a = ii (o a)) (hi : i + s < m) (ht : ∀ w, s = w + 1 → tbl z f o y w (i + 1) ∧ tbl z f o y w i) :
    ∃ y', kp z y' ∧ (∀ a, y'.1 85 a = y.1 85 a) ∧ F_X0_laysCalls (hp L xs y) 7 (ii i) (ii (i + s)) (ii f) = some (hp L xs y') ∧ tbl z f o y' s i ∧ ∀ s' i', i' < 8 → ¬ (s' = s ∧ i' = i) → tbl z f o y s' i' → tbl z f o y' s' i' := by
  have hh : ∀ l, hN z l < 256 := fun l => by_lt
  have keep : ∀ {v1 v2 : Int32} {s' i' : Nat}, i' < 8 → ¬ (s' = s ∧ i' = i) → tbl z f o y s' i' → tbl z f o (ui (ui y (87 + i) (i + s) v1) (96 + i) (i + s) v2) s' i' := fun {v1 v2 s' i'} h8 hne ⟨t1, t2⟩ => by
    refine ⟨?_, ?_⟩
    · rw [ui_o (by omega)]
      by_cases e : i' = i
      · subst e
        rw [ui_b (by omega)]
        exact t1
      · rw [ui_o (by omega)]
        exact t1
    · by_cases e : i' = i
      · subst e
        rw [ui_b (by omega), ui_o (by omega)]
        exact t2
      · rw [ui_o (by omega), ui_o (by omega)]
        exact t2
  have fin : ∀ (v1 v2 : Nat), v1 = (LR (hN z) (dN z) f o s i).1 → v2 = (LR (hN z) (dN z) f o s i).2 → F_X0_laysCalls (hp L xs y) 7 (ii i) (ii (i + s)) (ii f) = some (hp L xs (ui (ui y (87 + i) (i + s) (ii v1)) (96 + i) (i + s) (ii v2))) → ∃ y', kp z y' ∧ (∀ a, y'.1 85 a = y.1 85 a) ∧ F_X0_laysCalls (hp L xs y) 7 (ii i) (ii (i + s)) (ii f) = some (hp L xs y') ∧ tbl z f o y' s i ∧ ∀ s' i', i' < 8 → ¬ (s' = s ∧ i' = i) → tbl z f o y s' i' → tbl z f o y' s' i' := fun v1 v2 e1 e2 e => by
    refine ⟨_, (h3.ui (kc_lr (by omega)).1).ui (kc_lr (by omega)).2, fun a => by rw [ui_o (by omega), ui_o (by omega)], e, ⟨?_, ?_⟩, fun s' i' a b c => keep a b c⟩
    · rw [ui_o (by omega), ui_a, e1]
    · rw [ui_a, e2]
  match s, hi, ht, fin with
  | 0, hi, ht, fin =>
    have hA := x_hA (L := L) (xs := xs) hm S h3 h5 (a := i) (by omega)
    have h1 := hh (o i)
    have eT := x_inT (L := L) (xs := xs) hm S h3 h5 (a := i) (v := ad (hN z (o i)) f) (by omega) (by unfold ad; split <;> omega)
    refine fin (inT (dN z) o (ad (hN z (o i)) f) i) (inT (dN z) o (ad (hN z (o i)) f) i) rfl rfl ?_
    unfold F_X0_laysCalls
    simp only [Nat.add_zero, zr_0, zr_1, zr_2, zr_3, zr_4, zr_5, zr_6, Option.bind_some, po_s, po_n, za_0, za_1, za_2, za_3, za_4, za_5, show i < 8 by omega, hA, e_abs, ab_ad (show hN z (o i) < 1000000 by omega) (show f < 1000000 by omega), eT, ↓reduceIte, ui_a]
  | w + 1, hi, ht, fin =>
    obtain ⟨⟨a1, a2⟩, ⟨b1, b2⟩⟩ := ht w rfl
    have e1 : i + 1 + w = i + w + 1 := by omega
    rw [e1] at a1 a2
    have hA0 := x_hA (L := L) (xs := xs) hm S h3 h5 (a := i) (by omega)
    have hA1 := x_hA (L := L) (xs := xs) hm S h3 h5 (a := i + 1) (by omega)
    have hAj := x_hA (L := L) (xs := xs) hm S h3 h5 (a := i + w + 1) (by omega)
    have s1 := S.1 i (i + 1) (by omega) (by omega)
    have s2 := S.1 i (i + w + 1) (by omega) (by omega)
    have s3 := S.1 (i + w) (i + w + 1) (by omega) (by omega)
    have l0 := hh (o i)
    have l1 := hh (o (i + 1))
    have l2 := hh (o (i + w + 1))
    have l3 := hh (o (i + w))
    obtain ⟨c1, c2⟩ := LR_b (h := hN z) (d := dN z) (f := f) (o := o) hh (by omega) w (i + 1)
    obtain ⟨d1, d2⟩ := LR_b (h := hN z) (d := dN z) (f := f) (o := o) hh (by omega) w i
    have hw8 : w < 8 := by omega
    refine fin (LR (hN z) (dN z) f o (w + 1) i).1 (LR (hN z) (dN z) f o (w + 1) i).2 rfl rfl ?_
    have m1 := mnN_l (a := (LR (hN z) (dN z) f o w (i + 1)).1 + hN z (o (i + 1)) - hN z (o i)) (b := (LR (hN z) (dN z) f o w (i + 1)).2 + hN z (o (i + w + 1)) - hN z (o i))
    have m2 := mnN_l (a := (LR (hN z) (dN z) f o w i).2 + hN z (o (i + w + 1)) - hN z (o (i + w))) (b := (LR (hN z) (dN z) f o w i).1 + hN z (o (i + w + 1)) - hN z (o i))
    have eT1 := x_inT (L := L) (xs := xs) hm S h3 h5 (a := i) (v := mnN ((LR (hN z) (dN z) f o w (i + 1)).1 + hN z (o (i + 1)) - hN z (o i)) ((LR (hN z) (dN z) f o w (i + 1)).2 + hN z (o (i + w + 1)) - hN z (o i))) (by omega) (by omega)
    have k2 : ∀ v, kp z (ui y (87 + i) (i + w + 1) v) := fun v => h3.ui (kc_lr (by omega)).1
    have h52 : ∀ v, ∀ a, a < m → (ui y (87 + i) (i + w + 1) v).1 85 a = ii (o a) := fun v a ha => by rw [ui_o (by omega)]; exact h5 a ha
    have eT2 := fun v => x_inT (L := L) (xs := xs) hm S (k2 v) (h52 v) (a := i + w + 1) (v := mnN ((LR (hN z) (dN z) f o w i).2 + hN z (o (i + w + 1)) - hN z (o (i + w))) ((LR (hN z) (dN z) f o w i).1 + hN z (o (i + w + 1)) - hN z (o i))) (by omega) (by omega)
    have hB0 := fun v => x_hA (L := L) (xs := xs) hm S (k2 v) (h52 v) (a := i) (by omega)
    have hBm := fun v => x_hA (L := L) (xs := xs) hm S (k2 v) (h52 v) (a := i + w) (by omega)
    have hBj := fun v => x_hA (L := L) (xs := xs) hm S (k2 v) (h52 v) (a := i + w + 1) (by omega)
    have e87 : ∀ v, (ui y (87 + i) (i + w + 1) v).1 (87 + i) (i + w) = ii (LR (hN z) (dN z) f o w i).1 := fun v => by rw [ui_b (by omega)]; exact b1
    have e96 : ∀ v, (ui y (87 + i) (i + w + 1) v).1 (96 + i) (i + w) = ii (LR (hN z) (dN z) f o w i).2 := fun v => by rw [ui_o (by omega)]; exact b2
    have eij : ¬ ii i = ii (i + w + 1) := by rw [ii_eq (by omega) (by omega)]; omega
    have eLR1 : (LR (hN z) (dN z) f o (w + 1) i).1 = inT (dN z) o (mnN ((LR (hN z) (dN z) f o w (i + 1)).1 + hN z (o (i + 1)) - hN z (o i)) ((LR (hN z) (dN z) f o w (i + 1)).2 + hN z (o (i + w + 1)) - hN z (o i))) i := rfl
    have eLR2 : (LR (hN z) (dN z) f o (w + 1) i).2 = inT (dN z) o (mnN ((LR (hN z) (dN z) f o w i).2 + hN z (o (i + w + 1)) - hN z (o (i + w))) ((LR (hN z) (dN z) f o w i).1 + hN z (o (i + w + 1)) - hN z (o i))) (i + w + 1) := rfl
    rw [← Nat.add_assoc] at hi
    show F_X0_laysCalls (hp L xs y) 7 (ii i) (ii (i + w + 1)) (ii f) = some (hp L xs (ui (ui y (87 + i) (i + w + 1) (ii (LR (hN z) (dN z) f o (w + 1) i).1)) (96 + i) (i + w + 1) (ii (LR (hN z) (dN z) f o (w + 1) i).2)))
    unfold F_X0_laysCalls
    rw [if_neg eij]
    simp only [zr_0, zr_1, zr_2, zr_3, zr_4, zr_5, zr_6, Option.bind_some, po_s, po_n, za_0, za_1, za_2, za_3, za_4, za_5, ii_s, ii_m1, show i < 8 by omega, show i + 1 < 8 by omega, show i + w + 1 < 8 by omega, show i + w < 8 by omega, a1, a2, hA0, hA1, hAj, ii_add, e_min, ↓reduceIte,
      ii_sub (show hN z (o i) ≤ (LR (hN z) (dN z) f o w (i + 1)).1 + hN z (o (i + 1)) by omega), ii_sub (show hN z (o i) ≤ (LR (hN z) (dN z) f o w (i + 1)).2 + hN z (o (i + w + 1)) by omega),
      mn_ii (show (LR (hN z) (dN z) f o w (i + 1)).1 + hN z (o (i + 1)) - hN z (o i) < 2147483648 by omega) (show (LR (hN z) (dN z) f o w (i + 1)).2 + hN z (o (i + w + 1)) - hN z (o i) < 2147483648 by omega), eT1, hB0, hBm, hBj, e87, e96,
      ii_sub (show hN z (o (i + w)) ≤ (LR (hN z) (dN z) f o w i).2 + hN z (o (i + w + 1)) by omega), ii_sub (show hN z (o i) ≤ (LR (hN z) (dN z) f o w i).1 + hN z (o (i + w + 1)) by omega),
      mn_ii (show (LR (hN z) (dN z) f o w i).2 + hN z (o (i + w + 1)) - hN z (o (i + w)) < 2147483648 by omega) (show (LR (hN z) (dN z) f o w i).1 + hN z (o (i + w + 1)) - hN z (o i) < 2147483648 by omega), eT2, ← eLR1, ← eLR2]
end
