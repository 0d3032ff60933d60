/-! THE PLAIN LAW: towns are copied -/
set_option maxRecDepth 100000
def hpf (L : Nat) (xs : Nat → Int32) (a : z_T) : Option pm_H := some (hp L xs a)
def tk1 (b0 b1 p q : Nat) (a : z_T) : z_T := ui a (b0 + p) q (a.1 (b1 + p) q)
def tk2 (b0 c0 b1 c1 p : Nat) (a : z_T) : z_T := ui (lp (tk1 b0 b1 p) 16 0 a) c0 p ((lp (tk1 b0 b1 p) 16 0 a).1 c1 p)
def tk3 (b0 c0 o0 b1 c1 o1 : Nat) (a : z_T) : z_T := ui (ui (lp (tk2 b0 c0 b1 c1) 16 0 a) o0 3 ((lp (tk2 b0 c0 b1 c1) 16 0 a).1 o1 3)) o0 4 ((ui (lp (tk2 b0 c0 b1 c1) 16 0 a) o0 3 ((lp (tk2 b0 c0 b1 c1) 16 0 a).1 o1 3)).1 o1 4)
def cpy (i j k : Nat) (a : z_T) : z_T := ui a j k (a.1 i k)
theorem tk1_s {b0 b1 p : Nat} (hb : b0 ≠ b1) {z : z_T} : ∀ r, (lp (tk1 b0 b1 p) r 0 z).2 = z.2 ∧ ∀ i k, (lp (tk1 b0 b1 p) r 0 z).1 i k = if i = b0 + p ∧ k < r then z.1 (b1 + p) k else z.1 i k
  | 0 => ⟨rfl, fun i k => by rw [if_neg (by omega)]; rfl⟩
  | r + 1 => by
    obtain ⟨h1, h2⟩ := tk1_s (p := p) hb (z := z) r
    rw [lp_s, Nat.zero_add]
    generalize lp (tk1 b0 b1 p) r 0 z = A at h1 h2 ⊢
    refine ⟨h1, fun i k => ?_⟩
    show (ui A (b0 + p) r (A.1 (b1 + p) r)).1 i k = _
    by_cases hi : i = b0 + p
    · subst hi
      rw [ui_i, upd]
      by_cases hk : k = r
      · subst hk
        rw [if_pos rfl, if_pos ⟨rfl, by omega⟩, h2, if_neg (by omega)]
      · rw [if_neg hk, h2]
        by_cases h3 : k < r
        · rw [if_pos ⟨rfl, h3⟩, if_pos ⟨rfl, by omega⟩]
        · rw [if_neg (by omega), if_neg (by omega)]
    · rw [ui_o hi, h2, if_neg (by omega), if_neg (by omega)]
theorem tk2_s {b0 c0 b1 c1 : Nat} (hb : b0 + 16 ≤ b1 ∨ b1 + 16 ≤ b0) (h0 : c0 < b0 ∨ b0 + 16 ≤ c0) (h1 : c0 < b1 ∨ b1 + 16 ≤ c0) (h2 : c1 < b0 ∨ b0 + 16 ≤ c1) (hc : c0 ≠ c1) {z : z_T} : ∀ r, r ≤ 16 → (lp (tk2 b0 c0 b1 c1) r 0 z).2 = z.2 ∧ ∀ i k, (lp (tk2 b0 c0 b1 c1) r 0 z).1 i k = if b0 ≤ i ∧ i < b0 + r ∧ k < 16 then z.1 (b1 + (i - b0)) k else if i = c0 ∧ k < r then z.1 c1 k else z.1 i k
  | 0, _ => ⟨rfl, fun i k => by rw [if_neg (by omega), if_neg (by omega)]; rfl⟩
  | r + 1, hr => by
    obtain ⟨e1, e2⟩ := tk2_s hb h0 h1 h2 hc (z := z) r (by omega)
    rw [lp_s, Nat.zero_add]
    generalize lp (tk2 b0 c0 b1 c1) r 0 z = A at e1 e2 ⊢
    obtain ⟨e3, e4⟩ := tk1_s (b0 := b0) (b1 := b1) (p := r) (by omega) (z := A) 16
    show (ui (lp (tk1 b0 b1 r) 16 0 A) c0 r ((lp (tk1 b0 b1 r) 16 0 A).1 c1 r)).2 = z.2 ∧ ∀ i k, (ui (lp (tk1 b0 b1 r) 16 0 A) c0 r ((lp (tk1 b0 b1 r) 16 0 A).1 c1 r)).1 i k = _
    generalize lp (tk1 b0 b1 r) 16 0 A = A2 at e3 e4 ⊢
    refine ⟨e3.trans e1, fun i k => ?_⟩
    by_cases hi : i = c0
    · subst hi
      have hn : ¬ (b0 ≤ i ∧ i < b0 + (r + 1) ∧ k < 16) := by omega
      rw [ui_i, upd, if_neg hn]
      by_cases hk : k = r
      · subst hk
        rw [if_pos rfl, if_pos ⟨rfl, by omega⟩]
        rw [e4, if_neg (by omega), e2, if_neg (by omega), if_neg (by omega)]
      · rw [if_neg hk]
        rw [e4, if_neg (by omega), e2, if_neg (by omega)]
        by_cases h3 : k < r
        · rw [if_pos ⟨rfl, h3⟩, if_pos ⟨rfl, by omega⟩]
        · rw [if_neg (by omega), if_neg (by omega)]
    · rw [ui_o hi]
      rw [e4]
      by_cases h3 : i = b0 + r ∧ k < 16
      · rw [if_pos h3, if_pos (by omega), e2, if_neg (by omega), if_neg (by omega), show b1 + (i - b0) = b1 + r by omega]
      · rw [if_neg h3, e2]
        by_cases h4 : b0 ≤ i ∧ i < b0 + r ∧ k < 16
        · rw [if_pos h4, if_pos (by omega)]
        · rw [if_neg h4, if_neg (by omega), if_neg (by omega), if_neg (by omega)]
theorem cpy_s {i0 j0 : Nat} (hb : i0 ≠ j0) {z : z_T} : ∀ r, (lp (cpy i0 j0) r 0 z).2 = z.2 ∧ ∀ i k, (lp (cpy i0 j0) r 0 z).1 i k = if i = j0 ∧ k < r then z.1 i0 k else z.1 i k
  | 0 => ⟨rfl, fun i k => by rw [if_neg (by omega)]; rfl⟩
  | r + 1 => by
    obtain ⟨h1, h2⟩ := cpy_s hb (z := z) r
    rw [lp_s, Nat.zero_add]
    generalize lp (cpy i0 j0) r 0 z = A at h1 h2 ⊢
    refine ⟨h1, fun i k => ?_⟩
    show (ui A j0 r (A.1 i0 r)).1 i k = _
    by_cases hi : i = j0
    · subst hi
      rw [ui_i, upd]
      by_cases hk : k = r
      · subst hk
        rw [if_pos rfl, if_pos ⟨rfl, by omega⟩, h2, if_neg (by omega)]
      · rw [if_neg hk, h2]
        by_cases h3 : k < r
        · rw [if_pos ⟨rfl, h3⟩, if_pos ⟨rfl, by omega⟩]
        · rw [if_neg (by omega), if_neg (by omega)]
    · rw [ui_o hi, h2, if_neg (by omega), if_neg (by omega)]
section
variable {L : Nat} {xs : Nat → Int32} {z : z_T}
theorem x_tk55_151 {p : Nat} (h1 : p < 16) {z : z_T} {n : Nat} (hn : 0 + 16 + 1 ≤ n) : L_X4_takes_10 n 55 15 (ii p) 0 (hp L xs (z)) = (hpf L xs) (lp (tk1 57 17 p) 16 0 z) :=
  lp_r (G := fun n k a => L_X4_takes_10 n 55 15 (ii p) (ii k) (hp L xs (a))) (tk1 57 17 p) (N := 16) (c := 0) (fin := (hpf L xs))
    (fun n k a hk hc => by
      have hk32 : k < 32 := by omega
      show L_X4_takes_10 (n + 1) 55 15 (ii p) (ii k) (hp L xs (a)) = _
      rw [L_X4_takes_10, if_pos (by rw [show (16 : Int32) = ii 16 from rfl, ii_lt (by omega) (by decide)]; exact hk)]
      simp only [zr_0, zr_1, zr_2, zr_3, zr_4, zr_5, zr_6, za_0, za_1, za_2, za_3, za_4, za_5, hk, h1, ii_s, btd, or0, Option.bind_some, po_s, po_n, one_ne0, Bool.false_eq_true, not_true, not_false_eq_true, Classical.not_not, ↓reduceIte]
      rfl)
    (fun n a _ => by
      show L_X4_takes_10 (n + 1) 55 15 (ii p) (ii 16) (hp L xs (a)) = _
      rw [L_X4_takes_10, if_neg (by decide)]; rfl) (Nat.zero_add _) (by omega)
theorem x_tk55_152 {z : z_T} {n : Nat} (hn : 17 + 16 + 1 ≤ n) : L_X4_takes_2 n 55 15 0 (hp L xs (z)) = (hpf L xs) (lp (tk2 57 73 17 33) 16 0 z) :=
  lp_r (G := fun n k a => L_X4_takes_2 n 55 15 (ii k) (hp L xs (a))) (tk2 57 73 17 33) (N := 16) (c := 17) (fin := (hpf L xs))
    (fun n k a hk hc => by
      have hk32 : k < 32 := by omega
      show L_X4_takes_2 (n + 1) 55 15 (ii k) (hp L xs (a)) = _
      rw [L_X4_takes_2, if_pos (by rw [show (16 : Int32) = ii 16 from rfl, ii_lt (by omega) (by decide)]; exact hk)]
      simp only [x_tk55_151 hk (show 0 + 16 + 1 ≤ n by omega), hpf, zr_0, zr_1, zr_2, zr_3, zr_4, zr_5, zr_6, za_0, za_1, za_2, za_3, za_4, za_5, hk, ii_s, btd, or0, Option.bind_some, po_s, po_n, one_ne0, Bool.false_eq_true, not_true, not_false_eq_true, Classical.not_not, ↓reduceIte]
      rfl)
    (fun n a _ => by
      show L_X4_takes_2 (n + 1) 55 15 (ii 16) (hp L xs (a)) = _
      rw [L_X4_takes_2, if_neg (by decide)]; rfl) (Nat.zero_add _) (by omega)
theorem x_tk55_15 {n : Nat} (hn : 34 ≤ n) : F_X4_takes n (hp L xs z) 55 15 = some (some 55, hp L xs (tk3 57 73 55 17 33 15 z)) := by
  unfold F_X4_takes
  rw [x_tk55_152 (by omega)]
  simp only [hpf, zr_0, zr_1, zr_2, zr_3, zr_4, zr_5, zr_6, zw_0, zw_1, Option.bind_some, po_s, po_n]
  rfl
theorem x_tk15_551 {p : Nat} (h1 : p < 16) {z : z_T} {n : Nat} (hn : 0 + 16 + 1 ≤ n) : L_X4_takes_10 n 15 55 (ii p) 0 (hp L xs (z)) = (hpf L xs) (lp (tk1 17 57 p) 16 0 z) :=
  lp_r (G := fun n k a => L_X4_takes_10 n 15 55 (ii p) (ii k) (hp L xs (a))) (tk1 17 57 p) (N := 16) (c := 0) (fin := (hpf L xs))
    (fun n k a hk hc => by
      have hk32 : k < 32 := by omega
      show L_X4_takes_10 (n + 1) 15 55 (ii p) (ii k) (hp L xs (a)) = _
      rw [L_X4_takes_10, if_pos (by rw [show (16 : Int32) = ii 16 from rfl, ii_lt (by omega) (by decide)]; exact hk)]
      simp only [zr_0, zr_1, zr_2, zr_3, zr_4, zr_5, zr_6, za_0, za_1, za_2, za_3, za_4, za_5, hk, h1, ii_s, btd, or0, Option.bind_some, po_s, po_n, one_ne0, Bool.false_eq_true, not_true, not_false_eq_true, Classical.not_not, ↓reduceIte]
      rfl)
    (fun n a _ => by
      show L_X4_takes_10 (n + 1) 15 55 (ii p) (ii 16) (hp L xs (a)) = _
      rw [L_X4_takes_10, if_neg (by decide)]; rfl) (Nat.zero_add _) (by omega)
theorem x_tk15_552 {z : z_T} {n : Nat} (hn : 17 + 16 + 1 ≤ n) : L_X4_takes_2 n 15 55 0 (hp L xs (z)) = (hpf L xs) (lp (tk2 17 33 57 73) 16 0 z) :=
  lp_r (G := fun n k a => L_X4_takes_2 n 15 55 (ii k) (hp L xs (a))) (tk2 17 33 57 73) (N := 16) (c := 17) (fin := (hpf L xs))
    (fun n k a hk hc => by
      have hk32 : k < 32 := by omega
      show L_X4_takes_2 (n + 1) 15 55 (ii k) (hp L xs (a)) = _
      rw [L_X4_takes_2, if_pos (by rw [show (16 : Int32) = ii 16 from rfl, ii_lt (by omega) (by decide)]; exact hk)]
      simp only [x_tk15_551 hk (show 0 + 16 + 1 ≤ n by omega), hpf, zr_0, zr_1, zr_2, zr_3, zr_4, zr_5, zr_6, za_0, za_1, za_2, za_3, za_4, za_5, hk, ii_s, btd, or0, Option.bind_some, po_s, po_n, one_ne0, Bool.false_eq_true, not_true, not_false_eq_true, Classical.not_not, ↓reduceIte]
      rfl)
    (fun n a _ => by
      show L_X4_takes_2 (n + 1) 15 55 (ii 16) (hp L xs (a)) = _
      rw [L_X4_takes_2, if_neg (by decide)]; rfl) (Nat.zero_add _) (by omega)
theorem x_tk15_55 {n : Nat} (hn : 34 ≤ n) : F_X4_takes n (hp L xs z) 15 55 = some (some 15, hp L xs (tk3 17 33 15 57 73 55 z)) := by
  unfold F_X4_takes
  rw [x_tk15_552 (by omega)]
  simp only [hpf, zr_0, zr_1, zr_2, zr_3, zr_4, zr_5, zr_6, zw_0, zw_1, Option.bind_some, po_s, po_n]
  rfl
theorem x_tk35_151 {p : Nat} (h1 : p < 16) {z : z_T} {n : Nat} (hn : 0 + 16 + 1 ≤ n) : L_X4_takes_10 n 35 15 (ii p) 0 (hp L xs (z)) = (hpf L xs) (lp (tk1 37 17 p) 16 0 z) :=
  lp_r (G := fun n k a => L_X4_takes_10 n 35 15 (ii p) (ii k) (hp L xs (a))) (tk1 37 17 p) (N := 16) (c := 0) (fin := (hpf L xs))
    (fun n k a hk hc => by
      have hk32 : k < 32 := by omega
      show L_X4_takes_10 (n + 1) 35 15 (ii p) (ii k) (hp L xs (a)) = _
      rw [L_X4_takes_10, if_pos (by rw [show (16 : Int32) = ii 16 from rfl, ii_lt (by omega) (by decide)]; exact hk)]
      simp only [zr_0, zr_1, zr_2, zr_3, zr_4, zr_5, zr_6, za_0, za_1, za_2, za_3, za_4, za_5, hk, h1, ii_s, btd, or0, Option.bind_some, po_s, po_n, one_ne0, Bool.false_eq_true, not_true, not_false_eq_true, Classical.not_not, ↓reduceIte]
      rfl)
    (fun n a _ => by
      show L_X4_takes_10 (n + 1) 35 15 (ii p) (ii 16) (hp L xs (a)) = _
      rw [L_X4_takes_10, if_neg (by decide)]; rfl) (Nat.zero_add _) (by omega)
theorem x_tk35_152 {z : z_T} {n : Nat} (hn : 17 + 16 + 1 ≤ n) : L_X4_takes_2 n 35 15 0 (hp L xs (z)) = (hpf L xs) (lp (tk2 37 53 17 33) 16 0 z) :=
  lp_r (G := fun n k a => L_X4_takes_2 n 35 15 (ii k) (hp L xs (a))) (tk2 37 53 17 33) (N := 16) (c := 17) (fin := (hpf L xs))
    (fun n k a hk hc => by
      have hk32 : k < 32 := by omega
      show L_X4_takes_2 (n + 1) 35 15 (ii k) (hp L xs (a)) = _
      rw [L_X4_takes_2, if_pos (by rw [show (16 : Int32) = ii 16 from rfl, ii_lt (by omega) (by decide)]; exact hk)]
      simp only [x_tk35_151 hk (show 0 + 16 + 1 ≤ n by omega), hpf, zr_0, zr_1, zr_2, zr_3, zr_4, zr_5, zr_6, za_0, za_1, za_2, za_3, za_4, za_5, hk, ii_s, btd, or0, Option.bind_some, po_s, po_n, one_ne0, Bool.false_eq_true, not_true, not_false_eq_true, Classical.not_not, ↓reduceIte]
      rfl)
    (fun n a _ => by
      show L_X4_takes_2 (n + 1) 35 15 (ii 16) (hp L xs (a)) = _
      rw [L_X4_takes_2, if_neg (by decide)]; rfl) (Nat.zero_add _) (by omega)
theorem x_tk35_15 {n : Nat} (hn : 34 ≤ n) : F_X4_takes n (hp L xs z) 35 15 = some (some 35, hp L xs (tk3 37 53 35 17 33 15 z)) := by
  unfold F_X4_takes
  rw [x_tk35_152 (by omega)]
  simp only [hpf, zr_0, zr_1, zr_2, zr_3, zr_4, zr_5, zr_6, zw_0, zw_1, Option.bind_some, po_s, po_n]
  rfl
theorem m_cp106_108' {z : z_T} {n : Nat} (hn : 0 + 274 + 1 ≤ n) : L_X6_copies_2 n 106 108 0 (hp L xs (z)) = (hpf L xs) (lp (cpy 106 108) 274 0 z) :=
  lp_r (G := fun n k a => L_X6_copies_2 n 106 108 (ii k) (hp L xs (a))) (cpy 106 108) (N := 274) (c := 0) (fin := (hpf L xs))
    (fun n k a hk hc => by
      show L_X6_copies_2 (n + 1) 106 108 (ii k) (hp L xs (a)) = _
      rw [L_X6_copies_2, if_pos (by rw [show (274 : Int32) = ii 274 from rfl, ii_lt (by omega) (by decide)]; exact hk)]
      simp only [zr_0, zr_1, zr_2, zr_3, zr_4, zr_5, zr_6, za_0, za_1, za_2, za_3, za_4, za_5, hk, ii_s, btd, or0, Option.bind_some, po_s, po_n, one_ne0, Bool.false_eq_true, not_true, not_false_eq_true, Classical.not_not, ↓reduceIte]
      rfl)
    (fun n a _ => by
      show L_X6_copies_2 (n + 1) 106 108 (ii 274) (hp L xs (a)) = _
      rw [L_X6_copies_2, if_neg (by decide)]; rfl) (Nat.zero_add _) (by omega)
theorem m_cp106_108 {n : Nat} (hn : 275 ≤ n) : F_X6_copies n (hp L xs z) 106 108 = some (hp L xs (lp (cpy 106 108) 274 0 z)) := by
  unfold F_X6_copies
  rw [m_cp106_108' (by omega)]
  rfl
theorem m_cp108_106' {z : z_T} {n : Nat} (hn : 0 + 274 + 1 ≤ n) : L_X6_copies_2 n 108 106 0 (hp L xs (z)) = (hpf L xs) (lp (cpy 108 106) 274 0 z) :=
  lp_r (G := fun n k a => L_X6_copies_2 n 108 106 (ii k) (hp L xs (a))) (cpy 108 106) (N := 274) (c := 0) (fin := (hpf L xs))
    (fun n k a hk hc => by
      show L_X6_copies_2 (n + 1) 108 106 (ii k) (hp L xs (a)) = _
      rw [L_X6_copies_2, if_pos (by rw [show (274 : Int32) = ii 274 from rfl, ii_lt (by omega) (by decide)]; exact hk)]
      simp only [zr_0, zr_1, zr_2, zr_3, zr_4, zr_5, zr_6, za_0, za_1, za_2, za_3, za_4, za_5, hk, ii_s, btd, or0, Option.bind_some, po_s, po_n, one_ne0, Bool.false_eq_true, not_true, not_false_eq_true, Classical.not_not, ↓reduceIte]
      rfl)
    (fun n a _ => by
      show L_X6_copies_2 (n + 1) 108 106 (ii 274) (hp L xs (a)) = _
      rw [L_X6_copies_2, if_neg (by decide)]; rfl) (Nat.zero_add _) (by omega)
theorem m_cp108_106 {n : Nat} (hn : 275 ≤ n) : F_X6_copies n (hp L xs z) 108 106 = some (hp L xs (lp (cpy 108 106) 274 0 z)) := by
  unfold F_X6_copies
  rw [m_cp108_106' (by omega)]
  rfl
theorem m_cp106_107' {z : z_T} {n : Nat} (hn : 0 + 274 + 1 ≤ n) : L_X6_copies_2 n 106 107 0 (hp L xs (z)) = (hpf L xs) (lp (cpy 106 107) 274 0 z) :=
  lp_r (G := fun n k a => L_X6_copies_2 n 106 107 (ii k) (hp L xs (a))) (cpy 106 107) (N := 274) (c := 0) (fin := (hpf L xs))
    (fun n k a hk hc => by
      show L_X6_copies_2 (n + 1) 106 107 (ii k) (hp L xs (a)) = _
      rw [L_X6_copies_2, if_pos (by rw [show (274 : Int32) = ii 274 from rfl, ii_lt (by omega) (by decide)]; exact hk)]
      simp only [zr_0, zr_1, zr_2, zr_3, zr_4, zr_5, zr_6, za_0, za_1, za_2, za_3, za_4, za_5, hk, ii_s, btd, or0, Option.bind_some, po_s, po_n, one_ne0, Bool.false_eq_true, not_true, not_false_eq_true, Classical.not_not, ↓reduceIte]
      rfl)
    (fun n a _ => by
      show L_X6_copies_2 (n + 1) 106 107 (ii 274) (hp L xs (a)) = _
      rw [L_X6_copies_2, if_neg (by decide)]; rfl) (Nat.zero_add _) (by omega)
theorem m_cp106_107 {n : Nat} (hn : 275 ≤ n) : F_X6_copies n (hp L xs z) 106 107 = some (hp L xs (lp (cpy 106 107) 274 0 z)) := by
  unfold F_X6_copies
  rw [m_cp106_107' (by omega)]
  rfl
theorem m_cp107_106' {z : z_T} {n : Nat} (hn : 0 + 274 + 1 ≤ n) : L_X6_copies_2 n 107 106 0 (hp L xs (z)) = (hpf L xs) (lp (cpy 107 106) 274 0 z) :=
  lp_r (G := fun n k a => L_X6_copies_2 n 107 106 (ii k) (hp L xs (a))) (cpy 107 106) (N := 274) (c := 0) (fin := (hpf L xs))
    (fun n k a hk hc => by
      show L_X6_copies_2 (n + 1) 107 106 (ii k) (hp L xs (a)) = _
      rw [L_X6_copies_2, if_pos (by rw [show (274 : Int32) = ii 274 from rfl, ii_lt (by omega) (by decide)]; exact hk)]
      simp only [zr_0, zr_1, zr_2, zr_3, zr_4, zr_5, zr_6, za_0, za_1, za_2, za_3, za_4, za_5, hk, ii_s, btd, or0, Option.bind_some, po_s, po_n, one_ne0, Bool.false_eq_true, not_true, not_false_eq_true, Classical.not_not, ↓reduceIte]
      rfl)
    (fun n a _ => by
      show L_X6_copies_2 (n + 1) 107 106 (ii 274) (hp L xs (a)) = _
      rw [L_X6_copies_2, if_neg (by decide)]; rfl) (Nat.zero_add _) (by omega)
theorem m_cp107_106 {n : Nat} (hn : 275 ≤ n) : F_X6_copies n (hp L xs z) 107 106 = some (hp L xs (lp (cpy 107 106) 274 0 z)) := by
  unfold F_X6_copies
  rw [m_cp107_106' (by omega)]
  rfl
end
