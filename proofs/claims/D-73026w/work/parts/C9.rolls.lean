/-! THE PLAIN LAW: the trial roll; groups when a quarrel more is tried -/
set_option maxRecDepth 100000
theorem stp_cong {N M : Nat → Int32} (h : ∀ a, a < 16 → N a = M a) : stp N = stp M := funext fun s => lp_cong (N := 16) (fun k a hk => by rw [h k hk]) 16 0 s rfl
theorem gF_cong {N M : Nat → Int32} (h : ∀ a, a < 16 → N a = M a) : ∀ n p m, gF N n p m = gF M n p m
  | 0, _, _ => rfl
  | n + 1, p, m => by
    show (if m = p then some p else gF N n m (stp N m)) = (if m = p then some p else gF M n m (stp M m))
    rw [gF_cong h n, stp_cong h]
theorem grp_cong {N M : Nat → Int32} (h : ∀ a, a < 16 → N a = M a) (p : Nat) : grp N p = grp M p := by
  unfold grp
  rw [gF_cong h]
theorem outS_cong {t l : Int32} {f g : Nat → Int32} (h : ∀ a, a < 16 → f a = g a) : outS t l f = outS t l g :=
  lp_cong (N := 16) (fun k a hk => by
    unfold s_out
    rw [grp_cong (N := frd t f) (M := frd t g) (fun a ha => by unfold frd; rw [h a ha]) k]) 16 0 0 rfl
theorem hb_outS' {t l : Int32} {f : Nat → Int32} {j : Nat} : ∀ r, r ≤ 16 → (hb (lp (s_out t l f) r 0 0) j = true ↔ j < r ∧ hb t j = true ∧ lw (grp (frd t f) j) = j ∧ grp (frd t f) j &&& (l ^^^ (-1)) = 0)
  | 0, _ => ⟨fun h => (by rw [show lp (s_out t l f) 0 0 0 = 0 from rfl, hb_0] at h; cases h), fun h => absurd h.1 (by omega)⟩
  | r + 1, hr => by
    have ih := hb_outS' (t := t) (l := l) (f := f) (j := j) r (by omega)
    rw [lp_s, Nat.zero_add]
    generalize lp (s_out t l f) r 0 0 = a at ih
    unfold s_out
    have neg : ¬ (hb t r = true ∧ lw (grp (frd t f) r) = r ∧ grp (frd t f) r &&& (l ^^^ (-1)) = 0) → (hb a j = true ↔ j < r + 1 ∧ hb t j = true ∧ lw (grp (frd t f) j) = j ∧ grp (frd t f) j &&& (l ^^^ (-1)) = 0) := fun hn => by
      rw [ih]
      refine ⟨fun h => ⟨by omega, h.2⟩, fun h => ⟨?_, h.2⟩⟩
      have : j ≠ r := fun e => by subst e; exact hn h.2
      omega
    by_cases c1 : hb t r = true
    · rw [if_pos c1]
      by_cases c2 : lw (grp (frd t f) r) = r ∧ grp (frd t f) r &&& (l ^^^ (-1)) = 0
      · rw [if_pos c2, hb_or, Bool.or_eq_true, hb_bt (by omega), ih]
        refine ⟨fun h => ?_, fun h => ?_⟩
        · rcases h with h | h
          · exact ⟨by omega, h.2⟩
          · have := of_decide_eq_true h
            subst this
            exact ⟨by omega, c1, c2⟩
        · by_cases e : j = r
          · exact Or.inr (decide_eq_true e)
          · exact Or.inl ⟨by omega, h.2⟩
      · rw [if_neg c2]
        exact neg fun h => c2 h.2
    · rw [if_neg c1]
      exact neg fun h => c1 h.1
theorem hb_outS {t l : Int32} {f : Nat → Int32} {j : Nat} : hb (outS t l f) j = true ↔ j < 16 ∧ hb t j = true ∧ lw (grp (frd t f) j) = j ∧ grp (frd t f) j &&& (l ^^^ (-1)) = 0 := hb_outS' 16 (Nat.le_refl _)
theorem grp_mono {t : Int32} {f g : Nat → Int32} (ht : s16 t) (h : ∀ a, a < 16 → sub (frd t g a) (frd t f a)) {p : Nat} (hp : p < 16) : sub (grp (frd t g) p) (grp (frd t f) p) := by
  have Gf := grp_is (N := frd t f) (fun a _ => s16_frd ht) hp
  have Gg := grp_is (N := frd t g) (fun a _ => s16_frd ht) hp
  exact Gg.2.2.2 _ Gf.2.1 fun a b ha h1 h2 => Gf.2.2.1 a b ha h1 (h a ha b h2)
theorem and_not0 {a b : Int32} : a &&& (b ^^^ (-1)) = 0 ↔ sub a b := by
  refine ⟨fun h k hk => ?_, fun h => hb_ext fun k hk => ?_⟩
  · have e := congrArg (fun q => hb q k) h
    rw [hb_and, hb_not, hb_0, hk] at e
    have h32 : k < 32 := Classical.byContradiction fun hn => by rw [hb_ge (by omega)] at hk; cases hk
    cases c : hb b k with
    | true => rfl
    | false => rw [c, decide_eq_true h32] at e; cases e
  · rw [hb_and, hb_not, hb_0]
    cases c : hb a k with
    | false => rfl
    | true => rw [h k c]; simp
theorem outS_mono {t l : Int32} {f g : Nat → Int32} (ht : s16 t) (h : ∀ a, a < 16 → sub (frd t g a) (frd t f a)) : sub (outS t l f) (outS t l g) := fun j hj => by
  obtain ⟨h1, h2, h3, h4⟩ := hb_outS.mp hj
  have hs := grp_mono ht h h1
  have Gg := grp_is (N := frd t g) (fun a _ => s16_frd ht) h1
  have Gf := grp_is (N := frd t f) (fun a _ => s16_frd ht) h1
  refine hb_outS.mpr ⟨h1, h2, lw_uniq Gg.1 Gg.2.1 (fun i hi => ?_), and_not0.mpr (hs.tr (and_not0.mp h4))⟩
  cases c : hb (grp (frd t g) j) i with
  | false => rfl
  | true =>
    have := (lw_spec Gf.1 (grp_ne ht h1)).2.2 i (by omega)
    rw [hs i c] at this
    cases this
/-- a quarrel more -/
def adf (f : Nat → Int32) (p q : Nat) : Nat → Int32 := upd (upd f p (f p ||| bt q)) q (upd f p (f p ||| bt q) q ||| bt p)
theorem adf_sub {f : Nat → Int32} {p q : Nat} (a : Nat) : sub (f a) (adf f p q a) := by
  unfold adf upd
  split
  · next e =>
    subst e
    split
    · next e => subst e; exact sub_l.tr sub_l
    · exact sub_l
  · split
    · next e => subst e; exact sub_l
    · exact sub.rf
theorem adf_frd {t : Int32} {f : Nat → Int32} {p q : Nat} (a : Nat) (ha : a < 16) : sub (frd t (adf f p q) a) (frd t f a) := fun k hk => by
  rw [hb_frd ha] at hk ⊢
  rw [Bool.and_eq_true, Bool.and_eq_true] at hk
  have := adf_sub (f := f) (p := p) (q := q) a k
  rw [hk.1, hk.2.2]
  cases c : hb (f a) k with
  | false => rfl
  | true => rw [this c] at hk; cases hk.2.1
section
variable {L : Nat} {xs : Nat → Int32} {z : z_T}
theorem x_told11 {x : Int32} : F_X1_isTold (hp L xs z) 11 x = some (if isT (z.1 11 2) x = true then 1 else 0) := by
  unfold F_X1_isTold
  rcases in16 x with ⟨k, hk, rfl⟩ | hx
  · rw [if_neg (nn16 hk), if_pos (lt16 hk), isT_ii hk]
    simp only [zr_0, zr_1, zr_2, zr_3, zr_4, zr_5, zr_6, Option.bind_some, po_s, po_n, has_eq (show k < 32 by omega)]
    by_cases h : hb (z.1 11 2) k = true <;> simp [h]
  · have : isT (z.1 11 2) x = false := by
      cases h : isT (z.1 11 2) x with
      | false => rfl
      | true =>
        obtain ⟨k, hk, rfl, _⟩ := isT_of h
        rcases hx with h1 | h1
        · exact absurd h1 (nn16 hk)
        · exact absurd (lt16 hk) h1
    rw [this]
    rcases hx with h1 | h1
    · simp [h1]
    · by_cases h0 : x < 0 <;> simp [h0, h1]
theorem x_fr11 {p : Nat} (hk : p < 16) : F_X1_friends (hp L xs z) 11 (ii p) = some (frd (z.1 11 2) (z.1 13) p) := by
  unfold F_X1_friends
  simp only [zr_0, zr_1, zr_2, zr_3, zr_4, zr_5, zr_6, Option.bind_some, po_s, po_n, za_0, za_1, za_2, za_3, za_4, za_5, hk]
  rfl
theorem x_grp11' {s t : Int32} {n : Nat} (hn : 0 + 16 + 1 ≤ n) : L_X0_groupOf_16 n 11 s t 0 (hp L xs z) = some (lp (fun a t => if hb s a = true then t ||| frd (z.1 11 2) (z.1 13) a else t) 16 0 t) :=
  lp_r (G := fun n k a => L_X0_groupOf_16 n 11 s a (ii k) (hp L xs z)) (fun a t => if hb s a = true then t ||| frd (z.1 11 2) (z.1 13) a else t) (N := 16) (c := 0) (fin := some)
    (fun n k a hk hc => by
      have hk32 : k < 32 := by omega
      show L_X0_groupOf_16 (n + 1) 11 s a (ii k) (hp L xs z) = _
      rw [L_X0_groupOf_16, if_pos (by rw [show (16 : Int32) = ii 16 from rfl, ii_lt (by omega) (by decide)]; exact hk)]
      simp only [zr_0, zr_1, zr_2, zr_3, zr_4, zr_5, zr_6, e_has hk32, b01, x_fr11 hk, ii_s, btd, or0, Option.bind_some, po_s, po_n, one_ne0, Bool.false_eq_true, not_true, not_false_eq_true, Classical.not_not, ↓reduceIte]
      by_cases c1 : hb s k = true <;> simp [c1])
    (fun n a _ => by
      show L_X0_groupOf_16 (n + 1) 11 s a (ii 16) (hp L xs z) = _
      rw [L_X0_groupOf_16, if_neg (by decide)]) (Nat.zero_add _) (by omega)
theorem x_grp11 {p n : Nat} (W : s16 (z.1 11 2)) (h : p < 16) (hn : 40 ≤ n) : F_X0_groupOf n (hp L xs z) 11 (ii p) = some (grp (frd (z.1 11 2) (z.1 13)) p) := by
  obtain ⟨R, h1, h2⟩ := grp_loop (N := frd (z.1 11 2) (z.1 13)) (c := 18) (G := fun n prev more => L_X0_groupOf_6 n 11 prev more (hp L xs z)) (fun a _ => s16_frd W) h (fun n prev more hc => by
    show L_X0_groupOf_6 (n + 1) 11 prev more (hp L xs z) = _
    rw [L_X0_groupOf_6]
    by_cases e : more = prev
    · rw [if_pos e, if_pos e]
    · rw [if_neg e, if_neg e, x_grp11' (by omega)]
      rfl) (n := n) (by omega)
  unfold F_X0_groupOf
  rw [btd, show L_X0_groupOf_6 n 11 0 (bt p) (hp L xs z) = some R from h1, isG_u h2 (grp_is (fun a _ => s16_frd W) h)]
  rfl
theorem x_out11 (W : s16 (z.1 11 2)) {n : Nat} (hn : 40 + 16 + 1 ≤ n) : L_X0_outOf_4 n 11 0 0 (hp L xs z) = some (lp (s_out (z.1 11 2) (z.1 11 3) (z.1 13)) 16 0 0) :=
  lp_r (G := fun n k a => L_X0_outOf_4 n 11 a (ii k) (hp L xs z)) (s_out (z.1 11 2) (z.1 11 3) (z.1 13)) (N := 16) (c := 40) (fin := some)
    (fun n k a hk hc => by
      have hk32 : k < 32 := by omega
      show L_X0_outOf_4 (n + 1) 11 a (ii k) (hp L xs z) = _
      rw [L_X0_outOf_4, if_pos (by rw [show (16 : Int32) = ii 16 from rfl, ii_lt (by omega) (by decide)]; exact hk)]
      simp only [zr_0, zr_1, zr_2, zr_3, zr_4, zr_5, zr_6, x_told11, isT_ii hk, b01, x_grp11 W hk (show 40 ≤ n by omega), ii_s, btd, or0, Option.bind_some, po_s, po_n, one_ne0, Bool.false_eq_true, not_true, not_false_eq_true, Classical.not_not, ↓reduceIte]
      have G := grp_is (N := frd (z.1 11 2) (z.1 13)) (fun a _ => s16_frd W) hk
      unfold s_out
      by_cases c1 : hb (z.1 11 2) k = true
      · simp only [c1, one_ne0, Bool.false_eq_true, not_true, not_false_eq_true, Classical.not_not, ↓reduceIte, Option.bind_some, po_s, po_n]
        rw [if_neg (grp_ne W hk), e_low G.1, Option.bind_some]
        have hl := (lw_spec G.1 (grp_ne W hk)).1
        simp only [ii_eq (a := lw (grp (frd (z.1 11 2) (z.1 13)) k)) (b := k) (by omega) (by omega)]
        by_cases c2 : lw (grp (frd (z.1 11 2) (z.1 13)) k) = k
        · rw [if_pos c2]
          by_cases c3 : grp (frd (z.1 11 2) (z.1 13)) k &&& (z.1 11 3 ^^^ (-1)) = 0
          · rw [if_pos c3, if_pos ⟨c2, c3⟩]
          · rw [if_neg c3, if_neg (fun e => c3 e.2)]
        · rw [if_neg c2, if_neg (fun e => c2 e.1)]
      · simp only [c1, one_ne0, Bool.false_eq_true, not_true, not_false_eq_true, Classical.not_not, ↓reduceIte, Option.bind_some, po_s, po_n])
    (fun n a _ => by
      show L_X0_outOf_4 (n + 1) 11 a (ii 16) (hp L xs z) = _
      rw [L_X0_outOf_4, if_neg (by decide)]) (Nat.zero_add _) (by omega)
theorem x_outE11 {n : Nat} (W : s16 (z.1 11 2)) (hn : 60 ≤ n) : F_X0_outOf n (hp L xs z) 11 = some (outS (z.1 11 2) (z.1 11 3) (z.1 13)) := by
  unfold F_X0_outOf
  rw [x_out11 W (by omega)]
  rfl
theorem m_frQ {p : Nat} (W : I_who z) (hk : p < 16) : F_X6_friendsOf (hp L xs z) 105 (ii p) = some (frd (tld z) (z.1 110) p) := by
  unfold F_X6_friendsOf
  simp only [zr_0, zr_1, zr_2, zr_3, zr_4, zr_5, zr_6, Option.bind_some, po_s, po_n, za_0, za_1, za_2, za_3, za_4, za_5, hk, W.2.1]
  rfl
theorem m_grpQ' {s t : Int32} (W : I_who z) {A : Int32} {n : Nat} (hn : 0 + 16 + 1 ≤ n) : L_X6_groupOf_19 n 105 A t s 0 (hp L xs z) = some (lp (fun a t => if hb s a = true then t ||| (frd (tld z) (z.1 110) a &&& A) else t) 16 0 t) :=
  lp_r (G := fun n k a => L_X6_groupOf_19 n 105 A a s (ii k) (hp L xs z)) (fun a t => if hb s a = true then t ||| (frd (tld z) (z.1 110) a &&& A) else t) (N := 16) (c := 0) (fin := some)
    (fun n k a hk hc => by
      have hk32 : k < 32 := by omega
      show L_X6_groupOf_19 (n + 1) 105 A a s (ii k) (hp L xs z) = _
      rw [L_X6_groupOf_19, if_pos (by rw [show (16 : Int32) = ii 16 from rfl, ii_lt (by omega) (by decide)]; exact hk)]
      simp only [zr_0, zr_1, zr_2, zr_3, zr_4, zr_5, zr_6, m_has hk32, b01, m_frQ W hk, ii_s, btd, or0, Option.bind_some, po_s, po_n, one_ne0, Bool.false_eq_true, not_true, not_false_eq_true, Classical.not_not, ↓reduceIte]
      by_cases c1 : hb s k = true <;> simp [c1])
    (fun n a _ => by
      show L_X6_groupOf_19 (n + 1) 105 A a s (ii 16) (hp L xs z) = _
      rw [L_X6_groupOf_19, if_neg (by decide)]) (Nat.zero_add _) (by omega)
theorem m_grpQ {p n : Nat} (W : I_who z) (h : p < 16) (hn : 40 ≤ n) : F_X6_groupOf n (hp L xs z) 105 (ii p) (tld z) = some (grp (frd (tld z) (z.1 110)) p) := by
  obtain ⟨R, h1, h2⟩ := grp_loop (N := fun a => frd (tld z) (z.1 110) a &&& tld z) (c := 18) (G := fun n prev more => L_X6_groupOf_7 n 105 (tld z) more prev (hp L xs z)) (fun a _ => s16_al (s16_frd W.1)) h (fun n prev more hc => by
    show L_X6_groupOf_7 (n + 1) 105 (tld z) more prev (hp L xs z) = _
    rw [L_X6_groupOf_7]
    by_cases e : more = prev
    · rw [if_pos e, if_pos e, e]
    · rw [if_neg e, if_neg e, m_grpQ' W (by omega)]
      rfl) (n := n) (by omega)
  have e : (fun a => frd (tld z) (z.1 110) a &&& tld z) = frd (tld z) (z.1 110) := funext fun a => hb_ext fun k _ => by
    unfold frd
    rw [hb_and, hb_and, hb_and]
    cases hb (tld z) k <;> simp
  rw [e] at h2
  unfold F_X6_groupOf
  rw [btd, show L_X6_groupOf_7 n 105 (tld z) (bt p) 0 (hp L xs z) = some R from h1, isG_u h2 (grp_is (fun a _ => s16_frd W.1) h)]
  rfl
theorem m_mustQ (W : I_who z) {n : Nat} (hn : 40 + 16 + 1 ≤ n) : L_X6_mustStay_6 n 105 (((0, 0) : Int32 × Int32)).1 (((0, 0) : Int32 × Int32)).2 0 (hp L xs z) = fin1 (lp (s_must (tld z) (lck z) (z.1 110)) 16 0 ((0, 0) : Int32 × Int32)) :=
  lp_r (G := fun n k a => L_X6_mustStay_6 n 105 (a).1 (a).2 (ii k) (hp L xs z)) (s_must (tld z) (lck z) (z.1 110)) (N := 16) (c := 40) (fin := fin1)
    (fun n k a hk hc => by
      have hk32 : k < 32 := by omega
      show L_X6_mustStay_6 (n + 1) 105 (a).1 (a).2 (ii k) (hp L xs z) = _
      rw [L_X6_mustStay_6, if_pos (by rw [show (16 : Int32) = ii 16 from rfl, ii_lt (by omega) (by decide)]; exact hk)]
      simp only [zr_0, zr_1, zr_2, zr_3, zr_4, zr_5, zr_6, m_told W, isT_ii hk, b01, m_has hk32, W.2.1, W.2.2.1, m_grpQ W hk (show 40 ≤ n by omega), ii_s, btd, or0, Option.bind_some, po_s, po_n, one_ne0, Bool.false_eq_true, not_true, not_false_eq_true, Classical.not_not, ↓reduceIte]
      unfold s_must
      by_cases c1 : hb (tld z) k = true
      · simp only [c1, one_ne0, Bool.false_eq_true, not_true, not_false_eq_true, Classical.not_not, ↓reduceIte, Option.bind_some, po_s, po_n]
        by_cases c2 : hb a.2 k = true
        · simp only [c2, one_ne0, Bool.false_eq_true, not_true, not_false_eq_true, Classical.not_not, ↓reduceIte, Option.bind_some, po_s, po_n]
        · simp only [c2, one_ne0, Bool.false_eq_true, not_true, not_false_eq_true, Classical.not_not, ↓reduceIte, Option.bind_some, po_s, po_n]
          by_cases c3 : grp (frd (tld z) (z.1 110)) k &&& (lck z ^^^ (-1)) = 0 <;> simp only [c3, one_ne0, Bool.false_eq_true, not_true, not_false_eq_true, Classical.not_not, ↓reduceIte, eq_self]
      · simp only [c1, one_ne0, Bool.false_eq_true, not_true, not_false_eq_true, Classical.not_not, ↓reduceIte, Option.bind_some, po_s, po_n])
    (fun n a _ => by
      show L_X6_mustStay_6 (n + 1) 105 (a).1 (a).2 (ii 16) (hp L xs z) = _
      rw [L_X6_mustStay_6, if_neg (by decide)]; rfl) (Nat.zero_add _) (by omega)
theorem m_mustEQ {n : Nat} (W : I_who z) (S : sym (tld z) (z.1 110)) (hn : 60 ≤ n) : F_X6_mustStay n (hp L xs z) 105 = some (outS (tld z) (lck z) (z.1 110)) := by
  unfold F_X6_mustStay
  rw [show L_X6_mustStay_6 n 105 0 0 0 (hp L xs z) = _ from m_mustQ W (by omega)]
  unfold fin1
  rw [must_out S]
  rfl
/-- the trial roll takes the roll -/
def tkr (k : Nat) (a : z_T) : z_T := ui (ui a 12 k (a.1 9 k)) 13 k ((ui a 12 k (a.1 9 k)).1 10 k)
theorem x_tkr  {n : Nat} (hn : 0 + 16 + 1 ≤ n) : L_X1_takes_2 n 11 8 0 (hp L xs (z)) = (hpf L xs) (lp (tkr) 16 0 z) :=
  lp_r (G := fun n k a => L_X1_takes_2 n 11 8 (ii k) (hp L xs (a))) (tkr) (N := 16) (c := 0) (fin := (hpf L xs))
    (fun n k a hk hc => by
      have hk32 : k < 32 := by omega
      show L_X1_takes_2 (n + 1) 11 8 (ii k) (hp L xs (a)) = _
      rw [L_X1_takes_2, if_pos (by rw [show (16 : Int32) = ii 16 from rfl, ii_lt (by omega) (by decide)]; exact hk)]
      simp only [zr_0, zr_1, zr_2, zr_3, zr_4, zr_5, zr_6, za_0, za_1, za_2, za_3, za_4, za_5, hk, ii_s, btd, or0, Option.bind_some, po_s, po_n, one_ne0, Bool.false_eq_true, not_true, not_false_eq_true, Classical.not_not, ↓reduceIte]
      rfl)
    (fun n a _ => by
      show L_X1_takes_2 (n + 1) 11 8 (ii 16) (hp L xs (a)) = _
      rw [L_X1_takes_2, if_neg (by decide)]; rfl) (Nat.zero_add _) (by omega)
theorem tkr_s : kp z (lp tkr 16 0 z) ∧ ∀ j, j < 16 → (lp tkr 16 0 z).1 12 j = z.1 9 j ∧ (lp tkr 16 0 z).1 13 j = z.1 10 j := by
  refine lp_inv (f := tkr) (N := 16) (I := fun k y => kp z y ∧ ∀ j, j < k → y.1 12 j = z.1 9 j ∧ y.1 13 j = z.1 10 j) (fun k y hk I => ?_) 16 0 z rfl ⟨kp.rf, fun j hj => absurd hj (by omega)⟩
  obtain ⟨i1, i2⟩ := I
  refine ⟨(i1.ui rfl).ui rfl, fun j hj => ?_⟩
  have a1 : (tkr k y).1 12 j = upd (y.1 12) k (y.1 9 k) j := by
    unfold tkr
    rw [ui_o (by omega), ui_i]
  have a2 : (tkr k y).1 13 j = upd (y.1 13) k (y.1 10 k) j := by
    unfold tkr
    rw [ui_i, ui_o (by omega), ui_o (by omega)]
  rw [a1, a2, upd, upd]
  by_cases e : j = k
  · subst e
    rw [if_pos rfl, if_pos rfl]
    exact ⟨i1.2 9 j rfl, i1.2 10 j rfl⟩
  · rw [if_neg e, if_neg e]
    exact i2 j (by omega)
theorem x_takes {n : Nat} (hn : 17 ≤ n) : ∃ y, F_X1_takes n (hp L xs z) 11 8 = some (hp L xs y) ∧ kp z y ∧ (∀ j, j < 16 → y.1 12 j = z.1 9 j ∧ y.1 13 j = z.1 10 j) ∧ y.1 11 2 = tld z ∧ y.1 11 3 = lck z := by
  obtain ⟨h1, h2⟩ := tkr_s (z := z)
  refine ⟨ui (ui (lp tkr 16 0 z) 11 2 ((lp tkr 16 0 z).1 8 2)) 11 3 ((ui (lp tkr 16 0 z) 11 2 ((lp tkr 16 0 z).1 8 2)).1 8 3), ?_, (h1.ui rfl).ui rfl, fun j hj => ?_, ?_, ?_⟩
  · unfold F_X1_takes
    rw [show L_X1_takes_2 n 11 8 0 (hp L xs z) = _ from x_tkr (by omega)]
    unfold hpf
    simp only [zr_0, zr_1, zr_2, zr_3, zr_4, zr_5, zr_6, zw_0, zw_1, Option.bind_some, po_s, po_n]
  · rw [ui_o (by omega), ui_o (by omega), ui_o (by omega), ui_o (by omega)]
    exact h2 j hj
  · rw [ui_i, upd, if_neg (by decide), ui_i, upd, if_pos rfl]
    exact h1.2 8 2 rfl
  · rw [ui_i, upd, if_pos rfl, ui_o (by decide)]
    exact h1.2 8 3 rfl
end
