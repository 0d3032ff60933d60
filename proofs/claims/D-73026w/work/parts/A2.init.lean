/-! THE PLAIN LAW (2): the start -/
set_option maxRecDepth 100000
theorem pb_some {α β : Type} {a : α} {q : Option α} {f : α → Option β} {r : Option β} (h1 : q = some a) (h2 : f a = r) : q.bind f = r := by rw [h1]; exact h2
/-- a heap with a block of new cells -/
def bk (h : pm_H) (l : List pm_C) (k : Nat) : pm_H := (fun j => if j < h.2.1 then h.1 j else (l[j - h.2.1]?).getD (h.1 j), h.2.1 + l.length, h.2.2 + k)
section
variable {h : pm_H} {l : List pm_C} {k : Nat}
theorem bk_a {c : pm_C} {k2 : Nat} : pm_a (bk h l k) c k2 = bk h (l ++ [c]) (k + k2) := by
  unfold pm_a bk
  refine Prod.ext (funext fun j => ?_) (Prod.ext ?_ (Nat.add_assoc _ _ _))
  · dsimp only
    by_cases h1 : j < h.2.1
    · rw [if_pos h1, if_pos h1, if_neg (by omega)]
    · rw [if_neg h1, if_neg h1]
      by_cases h2 : j = h.2.1 + l.length
      · rw [if_pos h2, show j - h.2.1 = l.length by omega, List.getElem?_append_right (Nat.le_refl _), Nat.sub_self]
        rfl
      · rw [if_neg h2]
        by_cases h3 : j - h.2.1 < l.length
        · rw [List.getElem?_append_left h3]
        · rw [List.getElem?_eq_none (by omega), List.getElem?_eq_none (by rw [List.length_append]; show _ + 1 ≤ _; omega)]
  · show h.2.1 + l.length + 1 = h.2.1 + (l ++ [c]).length
    rw [List.length_append]
    rfl
theorem bk_1 {c : Nat} : pm_nw h c = bk h [.inr (c, pm_df c)] (pm_df c).length := by
  unfold pm_nw pm_a bk
  refine Prod.ext (funext fun j => ?_) rfl
  dsimp only
  by_cases h1 : j < h.2.1
  · rw [if_pos h1, if_neg (by omega)]
  · rw [if_neg h1]
    by_cases h2 : j = h.2.1
    · rw [if_pos h2, show j - h.2.1 = 0 by omega]
      rfl
    · rw [if_neg h2, List.getElem?_eq_none (by show 1 ≤ _; omega)]
      rfl
theorem bk_bk {l2 : List pm_C} {k2 : Nat} : bk (bk h l k) l2 k2 = bk h (l ++ l2) (k + k2) := by
  refine Prod.ext (funext fun j => ?_) (Prod.ext ?_ (Nat.add_assoc _ _ _))
  · show (if j < h.2.1 + l.length then (if j < h.2.1 then h.1 j else (l[j - h.2.1]?).getD (h.1 j)) else (l2[j - (h.2.1 + l.length)]?).getD (if j < h.2.1 then h.1 j else (l[j - h.2.1]?).getD (h.1 j))) = (if j < h.2.1 then h.1 j else ((l ++ l2)[j - h.2.1]?).getD (h.1 j))
    by_cases h1 : j < h.2.1
    · rw [if_pos (by omega), if_pos h1, if_pos h1]
    · rw [if_neg h1, if_neg h1]
      by_cases h2 : j < h.2.1 + l.length
      · rw [if_pos h2, List.getElem?_append_left (by omega)]
      · rw [if_neg h2, List.getElem?_append_right (by omega), List.getElem?_eq_none (l := l) (by omega), show j - h.2.1 - l.length = j - (h.2.1 + l.length) by omega]
        rfl
  · show h.2.1 + l.length + l2.length = h.2.1 + (l ++ l2).length
    rw [List.length_append]
    omega
theorem bk_nw {c : Nat} : pm_nw (bk h l k) c = bk h (l ++ [.inr (c, pm_df c)]) (k + (pm_df c).length) := bk_a
theorem bk_na0 {n : Nat} (h1 : ¬ ii n < 0 ∧ (ii n).toNatClampNeg ≤ 100000) (h2 : (ii n).toNatClampNeg = n) : pm_na (bk h l k) 0 (ii n) = some (bk h (l ++ [.inl (0, n, .inl fun _ => 0)]) (k + n)) := by
  unfold pm_na
  rw [if_pos h1, h2]
  exact congrArg some bk_a
theorem bk_na1 {n : Nat} (h1 : ¬ ii n < 0 ∧ (ii n).toNatClampNeg ≤ 100000) (h2 : (ii n).toNatClampNeg = n) : pm_na (bk h l k) 1 (ii n) = some (bk h (l ++ [.inl (1, n, .inl fun _ => 0)]) (k + n)) := by
  unfold pm_na
  rw [if_pos h1, h2]
  exact congrArg some bk_a
theorem bk_na2 {n : Nat} (h1 : ¬ ii n < 0 ∧ (ii n).toNatClampNeg ≤ 100000) (h2 : (ii n).toNatClampNeg = n) : pm_na (bk h l k) 2 (ii n) = some (bk h (l ++ [.inl (2, n, .inr (.inl fun _ => 0))]) (k + n)) := by
  unfold pm_na
  rw [if_pos h1, h2]
  exact congrArg some bk_a
theorem bk_na4 {n : Nat} (h1 : ¬ ii n < 0 ∧ (ii n).toNatClampNeg ≤ 100000) (h2 : (ii n).toNatClampNeg = n) : pm_na (bk h l k) 4 (ii n) = some (bk h (l ++ [.inl (4, n, .inr (.inr (.inr (.inr fun _ => none))))]) (k + n)) := by
  unfold pm_na
  rw [if_pos h1, h2]
  exact congrArg some bk_a
theorem bk_na5 {n : Nat} (h1 : ¬ ii n < 0 ∧ (ii n).toNatClampNeg ≤ 100000) (h2 : (ii n).toNatClampNeg = n) : pm_na (bk h l k) 5 (ii n) = some (bk h (l ++ [.inl (5, n, .inr (.inr (.inr (.inr fun _ => none))))]) (k + n)) := by
  unfold pm_na
  rw [if_pos h1, h2]
  exact congrArg some bk_a
theorem bk_nm {n m : Nat} (h1 : ¬ ii n < 0 ∧ (ii n).toNatClampNeg ≤ 100 ∧ ¬ ii m < 0 ∧ (ii m).toNatClampNeg ≤ 100) (h2 : (ii n).toNatClampNeg = n) (h3 : (ii m).toNatClampNeg = m) : pm_nm (bk h l k) (ii n) (ii m) = some (bk h (l ++ (.inl (3, n, .inr (.inr (.inr (.inr fun i => if i < n then some (h.2.1 + l.length + 1 + i) else none)))) :: List.replicate n (.inl (0, m, .inl fun _ => 0)))) (k + n + n * m)) := by
  unfold pm_nm
  rw [if_pos h1, h2, h3]
  refine congrArg some (Prod.ext (funext fun j => ?_) (Prod.ext ?_ (by show h.2.2 + k + n + n * m = h.2.2 + (k + n + n * m); omega)))
  · unfold bk
    dsimp only
    by_cases h1 : j < h.2.1
    · rw [if_neg (by omega), if_neg (by omega), if_pos h1, if_pos h1]
    · rw [if_neg h1, if_neg h1]
      by_cases h2 : j = h.2.1 + l.length
      · rw [if_pos h2, show j - h.2.1 = l.length by omega, List.getElem?_append_right (Nat.le_refl _), Nat.sub_self]
        rfl
      · rw [if_neg h2]
        by_cases h3 : h.2.1 + l.length < j ∧ j ≤ h.2.1 + l.length + n
        · rw [if_pos h3, List.getElem?_append_right (by omega), show j - h.2.1 - l.length = (j - h.2.1 - 1 - l.length) + 1 by omega, List.getElem?_cons_succ, List.getElem?_replicate, if_pos (by omega)]
          rfl
        · rw [if_neg h3]
          by_cases h4 : j - h.2.1 < l.length
          · rw [List.getElem?_append_left h4]
          · rw [List.getElem?_eq_none (by omega), List.getElem?_eq_none (by rw [List.length_append, List.length_cons, List.length_replicate]; omega)]
  · unfold bk
    dsimp only
    rw [List.length_append, List.length_cons, List.length_replicate]
    omega
theorem bk_g {a q : Nat} {c : pm_C} (ha : a = h.2.1 + q) (hl : l[q]? = some c) : pm_g (bk h l k) a = some c := by
  have := (List.getElem?_eq_some_iff.mp hl).1
  unfold pm_g bk
  dsimp only
  rw [if_pos (by omega), if_neg (by omega), show a - h.2.1 = q by omega, hl]
  rfl
theorem bk_s {a q : Nat} {c c2 : pm_C} (ha : a = h.2.1 + q) (hl : l[q]? = some c) : pm_s (bk h l k) a c2 = bk h (l.set q c2) k := by
  have hq := (List.getElem?_eq_some_iff.mp hl).1
  unfold pm_s bk
  refine Prod.ext (funext fun j => ?_) (Prod.ext ?_ rfl)
  · dsimp only
    by_cases h2 : j = a
    · subst h2
      rw [if_pos rfl, if_neg (by omega), show j - h.2.1 = q by omega, List.getElem?_set_self hq]
      rfl
    · rw [if_neg h2]
      by_cases h1 : j < h.2.1
      · rw [if_pos h1, if_pos h1]
      · rw [if_neg h1, if_neg h1, List.getElem?_set_ne (by omega)]
  · show h.2.1 + l.length = h.2.1 + (l.set q c2).length
    rw [List.length_set]
theorem bk_put {T : List (Nat × Nat × Nat)} {a q c f kd : Nat} {fs : List Value} {v : Value} (ha : a = h.2.1 + q) (hl : l[q]? = some (.inr (c, fs))) (hT : pm_lk T c = some (f, kd)) (hk : pm_fit kd v = true) (hf : f < fs.length) : pm_put T (bk h l k) a v = some (bk h (l.set q (.inr (c, fs.set f v))) k) := by
  unfold pm_put
  rw [bk_g ha hl]
  dsimp only
  rw [hT, Option.bind_some, if_pos ⟨hk, hf⟩, bk_s ha hl]
theorem bk_fR {T : List (Nat × Nat)} {a q c f x : Nat} {fs : List Value} (ha : a = h.2.1 + q) (hl : l[q]? = some (.inr (c, fs))) (hT : pm_lk T c = some f) (hf : fs[f]? = some (.ref x)) : pm_fR T (bk h l k) a = some x := by
  unfold pm_fR pm_fld
  rw [bk_g ha hl]
  dsimp only
  rw [hT, Option.bind_some, hf]
theorem bk_si {a q n k0 : Nat} {f : Nat → Int32} {v : Int32} (ha : a = h.2.1 + q) (hl : l[q]? = some (.inl (0, n, .inl f))) (hk : ¬ ii k0 < 0 ∧ (ii k0).toNatClampNeg < n) (hk2 : (ii k0).toNatClampNeg = k0) (h7 : 7 ≤ a) : pm_si 0 (bk h l k) a (ii k0) v = some (bk h (l.set q (.inl (0, n, .inl (upd f k0 v)))) k) := by
  unfold pm_si
  rw [bk_g ha hl]
  dsimp only
  rw [if_pos ⟨rfl, h7, hk⟩, hk2, bk_s ha hl]
end
abbrev z_a (t n : Nat) : pm_C := .inl (t, n, .inl fun _ => 0)
abbrev z_al (n : Nat) : pm_C := .inl (2, n, .inr (.inl fun _ => 0))
abbrev z_an (t n : Nat) : pm_C := .inl (t, n, .inr (.inr (.inr (.inr fun _ => none))))
abbrev z_am (n b : Nat) : pm_C := .inl (3, n, .inr (.inr (.inr (.inr fun i => if i < n then some (b + i) else none))))
theorem zi_1 {h : pm_H} {n : Nat} (hn : h.2.1 = n) : F_X1_init (pm_nw h 1) h.2.1 = some (bk h [.inr (1, [.ref (n + 1), .ref (n + 2), .int 0, .int 0]), z_a 0 16, z_a 0 16] 36) := by
  subst hn
  rw [bk_1]
  exact (pb_some (bk_na0 (n := 16) (by decide) (by decide)) <|
    pb_some (bk_put (q := 0) rfl rfl rfl rfl (lb rfl)) <|
    pb_some (bk_na0 (n := 16) (by decide) (by decide)) <|
    pb_some (bk_put (q := 0) rfl rfl rfl rfl (lb rfl)) <|
    rfl)
theorem zi_5 {h : pm_H} {n : Nat} (hn : h.2.1 = n) : F_X5_init (pm_nw h 4) h.2.1 = some (bk h [.inr (4, [.ref (n + 1), .ref (n + 2), .ref (n + 3), .int 0]), z_a 0 16, z_an 4 16, z_an 5 16] 52) := by
  subst hn
  rw [bk_1]
  exact (pb_some (bk_na0 (n := 16) (by decide) (by decide)) <|
    pb_some (bk_put (q := 0) rfl rfl rfl rfl (lb rfl)) <|
    pb_some (bk_na4 (n := 16) (by decide) (by decide)) <|
    pb_some (bk_put (q := 0) rfl rfl rfl rfl (lb rfl)) <|
    pb_some (bk_na5 (n := 16) (by decide) (by decide)) <|
    pb_some (bk_put (q := 0) rfl rfl rfl rfl (lb rfl)) <|
    rfl)
theorem zi_4 {h : pm_H} {a n : Nat} (hn : h.2.1 = n) : F_X4_init (pm_nw h 3) h.2.1 a = some (bk h (.inr (3, [.ref (n + 1), .ref (n + 18), .ref (n + 19), .int 0, .int 0, .int 0, .int (-2), .int 0, .int 0, .ref a]) :: z_am 16 (n + 1 + 1) :: (List.replicate 16 (z_a 0 16) ++ [z_a 0 16, z_a 0 16])) 314) := by
  subst hn
  rw [bk_1]
  exact (pb_some (bk_put (q := 0) rfl rfl rfl rfl (lb rfl)) <|
    pb_some (bk_nm (n := 16) (m := 16) (by decide) (by decide) (by decide)) <|
    pb_some (bk_put (q := 0) rfl rfl rfl rfl (lb rfl)) <|
    pb_some (bk_na0 (n := 16) (by decide) (by decide)) <|
    pb_some (bk_put (q := 0) rfl rfl rfl rfl (lb rfl)) <|
    pb_some (bk_na0 (n := 16) (by decide) (by decide)) <|
    pb_some (bk_put (q := 0) rfl rfl rfl rfl (lb rfl)) <|
    pb_some (bk_put (q := 0) rfl rfl rfl rfl (lb rfl)) <|
    rfl)
def z_tX : List pm_C := [.inr (1, [.ref 9, .ref 10, .int 0, .int 0]), z_a 0 16, z_a 0 16, .inr (1, [.ref 12, .ref 13, .int 0, .int 0]), z_a 0 16, z_a 0 16, .inr (2, [.int 0, .int 0, .int 0, .int 0, .int 0, .int 0, .int 0, .int 0, .int 0, .int 0, .int 0]), .inr (3, [.ref 16, .ref 33, .ref 34, .int 0, .int 0, .int 0, .int (-2), .int 0, .int 0, .ref 7]), z_am 16 17, z_a 0 16, z_a 0 16, z_a 0 16, z_a 0 16, z_a 0 16, z_a 0 16, z_a 0 16, z_a 0 16, z_a 0 16, z_a 0 16, z_a 0 16, z_a 0 16, z_a 0 16, z_a 0 16, z_a 0 16, z_a 0 16, z_a 0 16, z_a 0 16, .inr (3, [.ref 36, .ref 53, .ref 54, .int 0, .int 0, .int 0, .int (-2), .int 0, .int 0, .ref 7]), z_am 16 37, z_a 0 16, z_a 0 16, z_a 0 16, z_a 0 16, z_a 0 16, z_a 0 16, z_a 0 16, z_a 0 16, z_a 0 16, z_a 0 16, z_a 0 16, z_a 0 16, z_a 0 16, z_a 0 16, z_a 0 16, z_a 0 16, z_a 0 16, z_a 0 16, .inr (3, [.ref 56, .ref 73, .ref 74, .int 0, .int 0, .int 0, .int (-2), .int 0, .int 0, .ref 7]), z_am 16 57, z_a 0 16, z_a 0 16, z_a 0 16, z_a 0 16, z_a 0 16, z_a 0 16, z_a 0 16, z_a 0 16, z_a 0 16, z_a 0 16, z_a 0 16, z_a 0 16, z_a 0 16, z_a 0 16, z_a 0 16, z_a 0 16, z_a 0 16, z_a 0 16, z_a 1 260, .inr (4, [.ref 77, .ref 78, .ref 79, .int 0]), z_a 0 16, z_an 4 16, z_an 5 16, z_al 65536, z_a 0 16, z_a 0 65536, z_a 0 256, z_a 0 8, z_a 0 8, z_am 8 87, z_a 0 8, z_a 0 8, z_a 0 8, z_a 0 8, z_a 0 8, z_a 0 8, z_a 0 8, z_a 0 8, z_am 8 96, z_a 0 8, z_a 0 8, z_a 0 8, z_a 0 8, z_a 0 8, z_a 0 8, z_a 0 8, z_a 0 8, z_a 0 256]
def z_tM : List pm_C := [z_a 0 274, z_a 0 274, z_a 0 274, z_a 0 16, z_a 0 16, z_a 0 16, z_a 0 16, z_a 1 260, z_a 0 260, z_a 0 260, z_a 0 16, z_a 0 16, z_a 0 16, z_a 0 16, z_a 0 260, z_a 0 16, z_a 0 16, z_a 0 16, z_a 0 16, z_a 0 260, z_a 0 10, z_a 0 16, z_a 0 16, z_al 65536, z_a 0 16, z_a 0 65536, z_a 0 256, z_a 0 8, z_a 0 2048]
def zcX (f : Nat → pm_C) (s : Nat) (fs : List Value) (m k : Nat) : pm_H := bk (f, 7, s) (.inr (0, fs) :: z_tX.take m) k
def zcM (f : Nat → pm_C) (s : Nat) (fs : List Value) (m k : Nat) : pm_H := bk (f, 105, s) (.inr (5, fs) :: z_tM.take m) k
section
variable {f : Nat → pm_C} {s m k : Nat} {fs : List Value}
theorem zcX_n {n : Nat} (h : m ≤ 97) (e : 8 + m = n) : (zcX f s fs m k).2.1 = n := by
  show 7 + ((z_tX.take m).length + 1) = n
  rw [List.length_take, show z_tX.length = 97 from rfl]
  omega
theorem zcM_n {n : Nat} (h : m ≤ 29) (e : 106 + m = n) : (zcM f s fs m k).2.1 = n := by
  show 105 + ((z_tM.take m).length + 1) = n
  rw [List.length_take, show z_tM.length = 29 from rfl]
  omega
theorem zcX_put {T : List (Nat × Nat × Nat)} {q y Y : Nat} {fs2 : List Value} (hy : y = Y) (hT : pm_lk T 0 = some (q, 2)) (hf : q < fs.length) (h2 : fs.set q (.ref Y) = fs2) : pm_put T (zcX f s fs m k) 7 (.ref y) = some (zcX f s fs2 m k) := by
  subst hy
  subst h2
  exact bk_put (q := 0) rfl rfl hT rfl hf
theorem zcM_put {T : List (Nat × Nat × Nat)} {q y Y : Nat} {fs2 : List Value} (hy : y = Y) (hT : pm_lk T 5 = some (q, 2)) (hf : q < fs.length) (h2 : fs.set q (.ref Y) = fs2) : pm_put T (zcM f s fs m k) 105 (.ref y) = some (zcM f s fs2 m k) := by
  subst hy
  subst h2
  exact bk_put (q := 0) rfl rfl hT rfl hf
theorem zc_app {h : pm_H} {c7 : pm_C} {T l : List pm_C} {n k k2 : Nat} (e : (T.drop m).take n = l) (ek : k = k2) : bk h ((c7 :: T.take m) ++ l) k = bk h (c7 :: T.take (m + n)) k2 := by
  rw [List.take_add, e, ek]
  rfl
theorem zcX_a {l : List pm_C} {n k2 m2 k3 : Nat} (e : (z_tX.drop m).take n = l) (em : m + n = m2) (ek : k + k2 = k3) : bk (zcX f s fs m k) l k2 = zcX f s fs m2 k3 := by
  subst em
  subst ek
  exact bk_bk.trans (zc_app e rfl)
theorem zcX_a2 {c : pm_C} {n2 m2 k3 : Nat} (e : (z_tX.drop m).take 1 = [c]) (em : m + 1 = m2) (ek : k + n2 = k3) : bk (f, 7, s) ((.inr (0, fs) :: z_tX.take m) ++ [c]) (k + n2) = zcX f s fs m2 k3 := by
  subst em
  subst ek
  exact zc_app e rfl
theorem zcX_na {n2 m2 k3 : Nat} {c : pm_C} {r : Option pm_H} (h : r = some (bk (f, 7, s) ((.inr (0, fs) :: z_tX.take m) ++ [c]) (k + n2))) (e : (z_tX.drop m).take 1 = [c]) (em : m + 1 = m2) (ek : k + n2 = k3) : r = some (zcX f s fs m2 k3) := by
  subst em
  subst ek
  exact h.trans (congrArg some (zc_app e rfl))
theorem zcM_na {n2 m2 k3 : Nat} {c : pm_C} {r : Option pm_H} (h : r = some (bk (f, 105, s) ((.inr (5, fs) :: z_tM.take m) ++ [c]) (k + n2))) (e : (z_tM.drop m).take 1 = [c]) (em : m + 1 = m2) (ek : k + n2 = k3) : r = some (zcM f s fs m2 k3) := by
  subst em
  subst ek
  exact h.trans (congrArg some (zc_app e rfl))
theorem zcX_nm {n j b m2 k3 : Nat} {l : List pm_C} (h1 : ¬ ii n < 0 ∧ (ii n).toNatClampNeg ≤ 100 ∧ ¬ ii j < 0 ∧ (ii j).toNatClampNeg ≤ 100) (h2 : (ii n).toNatClampNeg = n) (h3 : (ii j).toNatClampNeg = j) (hm : m ≤ 97) (hb : 8 + m + 1 = b) (hl : (.inl (3, n, .inr (.inr (.inr (.inr fun i => if i < n then some (b + i) else none)))) :: List.replicate n (.inl (0, j, .inl fun _ => 0))) = l) (e : (z_tX.drop m).take (1 + n) = l) (em : m + (1 + n) = m2) (ek : k + n + n * j = k3) : pm_nm (zcX f s fs m k) (ii n) (ii j) = some (zcX f s fs m2 k3) := by
  subst em
  subst ek
  refine (bk_nm h1 h2 h3).trans (congrArg some ?_)
  rw [show ((f, 7, s) : pm_H).2.1 + (Sum.inr (0, fs) :: z_tX.take m : List pm_C).length = 8 + m from (by show 7 + ((z_tX.take m).length + 1) = _; rw [List.length_take, show z_tX.length = 97 from rfl]; omega), hb, hl]
  exact zc_app e rfl
end
theorem z_initX {f : Nat → pm_C} {s : Nat} : F_X0_init (pm_nw (f, 7, s) 0) 7 = some (bk (f, 7, s) (.inr (0, [.ref 8, .ref 11, .ref 14, .ref 15, .ref 35, .ref 55, .ref 75, .ref 76, .int 0, .int 0, .ref 80, .ref 81, .ref 82, .ref 83, .ref 84, .ref 85, .ref 86, .ref 95, .ref 104]) :: z_tX.set 7 (.inr (3, [.ref 16, .ref 33, .ref 34, .int 0, .int 1, .int 0, .int (-2), .int 0, .int 0, .ref 7]))) 133116) := by
  rw [show pm_nw (f, 7, s) 0 = zcX f s (pm_df 0) 0 19 from bk_1]
  unfold F_X0_init
  refine pb_some (a := zcX f s [.null, .null, .null, .null, .null, .null, .null, .null, .int 0, .int 0, .null, .null, .null, .null, .null, .null, .null, .null, .null] 3 55) (by exact ((zi_1 (zcX_n (by exact lb rfl) (by rfl))).trans (congrArg some (zcX_a (n := 3) rfl rfl rfl)))) ?_
  refine pb_some (a := zcX f s [.ref 8, .null, .null, .null, .null, .null, .null, .null, .int 0, .int 0, .null, .null, .null, .null, .null, .null, .null, .null, .null] 3 55) (by exact (zcX_put (zcX_n (by exact lb rfl) (by rfl)) rfl (lb rfl) rfl)) ?_
  refine pb_some (a := zcX f s [.ref 8, .null, .null, .null, .null, .null, .null, .null, .int 0, .int 0, .null, .null, .null, .null, .null, .null, .null, .null, .null] 6 91) (by exact ((zi_1 (zcX_n (by exact lb rfl) (by rfl))).trans (congrArg some (zcX_a (n := 3) rfl rfl rfl)))) ?_
  refine pb_some (a := zcX f s [.ref 8, .ref 11, .null, .null, .null, .null, .null, .null, .int 0, .int 0, .null, .null, .null, .null, .null, .null, .null, .null, .null] 6 91) (by exact (zcX_put (zcX_n (by exact lb rfl) (by rfl)) rfl (lb rfl) rfl)) ?_
  refine pb_some (a := ()) rfl ?_
  refine pb_some (a := zcX f s [.ref 8, .ref 11, .ref 14, .null, .null, .null, .null, .null, .int 0, .int 0, .null, .null, .null, .null, .null, .null, .null, .null, .null] 7 102) (by exact ((congrArg (fun q => pm_put _ q _ _) ((bk_nw).trans (zcX_a2 (c := .inr (2, pm_df 2)) (m2 := 7) (k3 := 102) rfl rfl rfl))).trans (zcX_put (zcX_n (by exact lb rfl) (by rfl)) rfl (lb rfl) rfl))) ?_
  refine pb_some (a := zcX f s [.ref 8, .ref 11, .ref 14, .null, .null, .null, .null, .null, .int 0, .int 0, .null, .null, .null, .null, .null, .null, .null, .null, .null] 27 416) (by exact ((zi_4 (zcX_n (by exact lb rfl) (by rfl))).trans (congrArg some (zcX_a (n := 20) rfl rfl rfl)))) ?_
  refine pb_some (a := zcX f s [.ref 8, .ref 11, .ref 14, .ref 15, .null, .null, .null, .null, .int 0, .int 0, .null, .null, .null, .null, .null, .null, .null, .null, .null] 27 416) (by exact (zcX_put (zcX_n (by exact lb rfl) (by rfl)) rfl (lb rfl) rfl)) ?_
  refine pb_some (a := zcX f s [.ref 8, .ref 11, .ref 14, .ref 15, .null, .null, .null, .null, .int 0, .int 0, .null, .null, .null, .null, .null, .null, .null, .null, .null] 47 730) (by exact ((zi_4 (zcX_n (by exact lb rfl) (by rfl))).trans (congrArg some (zcX_a (n := 20) rfl rfl rfl)))) ?_
  refine pb_some (a := zcX f s [.ref 8, .ref 11, .ref 14, .ref 15, .ref 35, .null, .null, .null, .int 0, .int 0, .null, .null, .null, .null, .null, .null, .null, .null, .null] 47 730) (by exact (zcX_put (zcX_n (by exact lb rfl) (by rfl)) rfl (lb rfl) rfl)) ?_
  refine pb_some (a := zcX f s [.ref 8, .ref 11, .ref 14, .ref 15, .ref 35, .null, .null, .null, .int 0, .int 0, .null, .null, .null, .null, .null, .null, .null, .null, .null] 67 1044) (by exact ((zi_4 (zcX_n (by exact lb rfl) (by rfl))).trans (congrArg some (zcX_a (n := 20) rfl rfl rfl)))) ?_
  refine pb_some (a := zcX f s [.ref 8, .ref 11, .ref 14, .ref 15, .ref 35, .ref 55, .null, .null, .int 0, .int 0, .null, .null, .null, .null, .null, .null, .null, .null, .null] 67 1044) (by exact (zcX_put (zcX_n (by exact lb rfl) (by rfl)) rfl (lb rfl) rfl)) ?_
  refine pb_some (a := zcX f s [.ref 8, .ref 11, .ref 14, .ref 15, .ref 35, .ref 55, .null, .null, .int 0, .int 0, .null, .null, .null, .null, .null, .null, .null, .null, .null] 68 1304) (by exact (zcX_na (bk_na1 (n := 260) (by decide) (by decide)) rfl rfl rfl)) ?_
  refine pb_some (a := zcX f s [.ref 8, .ref 11, .ref 14, .ref 15, .ref 35, .ref 55, .ref 75, .null, .int 0, .int 0, .null, .null, .null, .null, .null, .null, .null, .null, .null] 68 1304) (by exact (zcX_put (zcX_n (by exact lb rfl) (by rfl)) rfl (lb rfl) rfl)) ?_
  refine pb_some (a := zcX f s [.ref 8, .ref 11, .ref 14, .ref 15, .ref 35, .ref 55, .ref 75, .null, .int 0, .int 0, .null, .null, .null, .null, .null, .null, .null, .null, .null] 72 1356) (by exact ((zi_5 (zcX_n (by exact lb rfl) (by rfl))).trans (congrArg some (zcX_a (n := 4) rfl rfl rfl)))) ?_
  refine pb_some (a := zcX f s [.ref 8, .ref 11, .ref 14, .ref 15, .ref 35, .ref 55, .ref 75, .ref 76, .int 0, .int 0, .null, .null, .null, .null, .null, .null, .null, .null, .null] 72 1356) (by exact (zcX_put (zcX_n (by exact lb rfl) (by rfl)) rfl (lb rfl) rfl)) ?_
  refine pb_some (a := zcX f s [.ref 8, .ref 11, .ref 14, .ref 15, .ref 35, .ref 55, .ref 75, .ref 76, .int 0, .int 0, .null, .null, .null, .null, .null, .null, .null, .null, .null] 73 66892) (by exact (zcX_na (bk_na2 (n := 65536) (by decide) (by decide)) rfl rfl rfl)) ?_
  refine pb_some (a := zcX f s [.ref 8, .ref 11, .ref 14, .ref 15, .ref 35, .ref 55, .ref 75, .ref 76, .int 0, .int 0, .ref 80, .null, .null, .null, .null, .null, .null, .null, .null] 73 66892) (by exact (zcX_put (zcX_n (by exact lb rfl) (by rfl)) rfl (lb rfl) rfl)) ?_
  refine pb_some (a := zcX f s [.ref 8, .ref 11, .ref 14, .ref 15, .ref 35, .ref 55, .ref 75, .ref 76, .int 0, .int 0, .ref 80, .null, .null, .null, .null, .null, .null, .null, .null] 74 66908) (by exact (zcX_na (bk_na0 (n := 16) (by decide) (by decide)) rfl rfl rfl)) ?_
  refine pb_some (a := zcX f s [.ref 8, .ref 11, .ref 14, .ref 15, .ref 35, .ref 55, .ref 75, .ref 76, .int 0, .int 0, .ref 80, .ref 81, .null, .null, .null, .null, .null, .null, .null] 74 66908) (by exact (zcX_put (zcX_n (by exact lb rfl) (by rfl)) rfl (lb rfl) rfl)) ?_
  refine pb_some (a := zcX f s [.ref 8, .ref 11, .ref 14, .ref 15, .ref 35, .ref 55, .ref 75, .ref 76, .int 0, .int 0, .ref 80, .ref 81, .null, .null, .null, .null, .null, .null, .null] 75 132444) (by exact (zcX_na (bk_na0 (n := 65536) (by decide) (by decide)) rfl rfl rfl)) ?_
  refine pb_some (a := zcX f s [.ref 8, .ref 11, .ref 14, .ref 15, .ref 35, .ref 55, .ref 75, .ref 76, .int 0, .int 0, .ref 80, .ref 81, .ref 82, .null, .null, .null, .null, .null, .null] 75 132444) (by exact (zcX_put (zcX_n (by exact lb rfl) (by rfl)) rfl (lb rfl) rfl)) ?_
  refine pb_some (a := zcX f s [.ref 8, .ref 11, .ref 14, .ref 15, .ref 35, .ref 55, .ref 75, .ref 76, .int 0, .int 0, .ref 80, .ref 81, .ref 82, .null, .null, .null, .null, .null, .null] 76 132700) (by exact (zcX_na (bk_na0 (n := 256) (by decide) (by decide)) rfl rfl rfl)) ?_
  refine pb_some (a := zcX f s [.ref 8, .ref 11, .ref 14, .ref 15, .ref 35, .ref 55, .ref 75, .ref 76, .int 0, .int 0, .ref 80, .ref 81, .ref 82, .ref 83, .null, .null, .null, .null, .null] 76 132700) (by exact (zcX_put (zcX_n (by exact lb rfl) (by rfl)) rfl (lb rfl) rfl)) ?_
  refine pb_some (a := zcX f s [.ref 8, .ref 11, .ref 14, .ref 15, .ref 35, .ref 55, .ref 75, .ref 76, .int 0, .int 0, .ref 80, .ref 81, .ref 82, .ref 83, .null, .null, .null, .null, .null] 77 132708) (by exact (zcX_na (bk_na0 (n := 8) (by decide) (by decide)) rfl rfl rfl)) ?_
  refine pb_some (a := zcX f s [.ref 8, .ref 11, .ref 14, .ref 15, .ref 35, .ref 55, .ref 75, .ref 76, .int 0, .int 0, .ref 80, .ref 81, .ref 82, .ref 83, .ref 84, .null, .null, .null, .null] 77 132708) (by exact (zcX_put (zcX_n (by exact lb rfl) (by rfl)) rfl (lb rfl) rfl)) ?_
  refine pb_some (a := zcX f s [.ref 8, .ref 11, .ref 14, .ref 15, .ref 35, .ref 55, .ref 75, .ref 76, .int 0, .int 0, .ref 80, .ref 81, .ref 82, .ref 83, .ref 84, .null, .null, .null, .null] 78 132716) (by exact (zcX_na (bk_na0 (n := 8) (by decide) (by decide)) rfl rfl rfl)) ?_
  refine pb_some (a := zcX f s [.ref 8, .ref 11, .ref 14, .ref 15, .ref 35, .ref 55, .ref 75, .ref 76, .int 0, .int 0, .ref 80, .ref 81, .ref 82, .ref 83, .ref 84, .ref 85, .null, .null, .null] 78 132716) (by exact (zcX_put (zcX_n (by exact lb rfl) (by rfl)) rfl (lb rfl) rfl)) ?_
  refine pb_some (a := zcX f s [.ref 8, .ref 11, .ref 14, .ref 15, .ref 35, .ref 55, .ref 75, .ref 76, .int 0, .int 0, .ref 80, .ref 81, .ref 82, .ref 83, .ref 84, .ref 85, .null, .null, .null] 87 132788) (by exact (zcX_nm (n := 8) (j := 8) (by decide) (by decide) (by decide) (lb rfl) rfl rfl rfl rfl rfl)) ?_
  refine pb_some (a := zcX f s [.ref 8, .ref 11, .ref 14, .ref 15, .ref 35, .ref 55, .ref 75, .ref 76, .int 0, .int 0, .ref 80, .ref 81, .ref 82, .ref 83, .ref 84, .ref 85, .ref 86, .null, .null] 87 132788) (by exact (zcX_put (zcX_n (by exact lb rfl) (by rfl)) rfl (lb rfl) rfl)) ?_
  refine pb_some (a := zcX f s [.ref 8, .ref 11, .ref 14, .ref 15, .ref 35, .ref 55, .ref 75, .ref 76, .int 0, .int 0, .ref 80, .ref 81, .ref 82, .ref 83, .ref 84, .ref 85, .ref 86, .null, .null] 96 132860) (by exact (zcX_nm (n := 8) (j := 8) (by decide) (by decide) (by decide) (lb rfl) rfl rfl rfl rfl rfl)) ?_
  refine pb_some (a := zcX f s [.ref 8, .ref 11, .ref 14, .ref 15, .ref 35, .ref 55, .ref 75, .ref 76, .int 0, .int 0, .ref 80, .ref 81, .ref 82, .ref 83, .ref 84, .ref 85, .ref 86, .ref 95, .null] 96 132860) (by exact (zcX_put (zcX_n (by exact lb rfl) (by rfl)) rfl (lb rfl) rfl)) ?_
  refine pb_some (a := zcX f s [.ref 8, .ref 11, .ref 14, .ref 15, .ref 35, .ref 55, .ref 75, .ref 76, .int 0, .int 0, .ref 80, .ref 81, .ref 82, .ref 83, .ref 84, .ref 85, .ref 86, .ref 95, .null] 97 133116) (by exact (zcX_na (bk_na0 (n := 256) (by decide) (by decide)) rfl rfl rfl)) ?_
  refine pb_some (a := zcX f s [.ref 8, .ref 11, .ref 14, .ref 15, .ref 35, .ref 55, .ref 75, .ref 76, .int 0, .int 0, .ref 80, .ref 81, .ref 82, .ref 83, .ref 84, .ref 85, .ref 86, .ref 95, .ref 104] 97 133116) (by exact (zcX_put (zcX_n (by exact lb rfl) (by rfl)) rfl (lb rfl) rfl)) ?_
  refine pb_some (bk_fR (q := 0) rfl rfl rfl rfl) ?_
  refine pb_some (bk_put (q := 8) rfl rfl rfl rfl (lb rfl)) ?_
  exact rfl
theorem z_initM {f : Nat → pm_C} {s : Nat} : F_X6_init (pm_nw (f, 105, s) 5) 105 = some (bk (f, 105, s) (.inr (5, [.ref 106, .ref 107, .ref 108, .ref 109, .ref 110, .ref 111, .ref 112, .int 0, .int 0, .int 0, .int 0, .ref 113, .int 0, .int 0, .int 0, .int 0, .int 0, .int 0, .int 0, .int 0, .int 0, .int 0, .ref 114, .ref 115, .ref 116, .ref 117, .ref 118, .ref 119, .ref 120, .ref 121, .ref 122, .ref 123, .ref 124, .ref 125, .ref 126, .int 0, .ref 127, .int 0, .int 0, .int 0, .ref 128, .int 0, .int 0, .int 0, .int 0, .ref 129, .ref 130, .ref 131, .ref 132, .ref 133, .ref 134, .int 0]) :: z_tM.set 0 (.inl (0, 274, .inl (upd (fun _ => 0) 273 1)))) 135808) := by
  rw [show pm_nw (f, 105, s) 5 = zcM f s (pm_df 5) 0 52 from bk_1]
  unfold F_X6_init
  refine pb_some (a := zcM f s [.null, .null, .null, .null, .null, .null, .null, .int 0, .int 0, .int 0, .int 0, .null, .int 0, .int 0, .int 0, .int 0, .int 0, .int 0, .int 0, .int 0, .int 0, .int 0, .null, .null, .null, .null, .null, .null, .null, .null, .null, .null, .null, .null, .null, .int 0, .null, .int 0, .int 0, .int 0, .null, .int 0, .int 0, .int 0, .int 0, .null, .null, .null, .null, .null, .null, .int 0] 1 326) (by exact (zcM_na (bk_na0 (n := 274) (by decide) (by decide)) rfl rfl rfl)) ?_
  refine pb_some (a := zcM f s [.ref 106, .null, .null, .null, .null, .null, .null, .int 0, .int 0, .int 0, .int 0, .null, .int 0, .int 0, .int 0, .int 0, .int 0, .int 0, .int 0, .int 0, .int 0, .int 0, .null, .null, .null, .null, .null, .null, .null, .null, .null, .null, .null, .null, .null, .int 0, .null, .int 0, .int 0, .int 0, .null, .int 0, .int 0, .int 0, .int 0, .null, .null, .null, .null, .null, .null, .int 0] 1 326) (by exact (zcM_put (zcM_n (by exact lb rfl) (by rfl)) rfl (lb rfl) rfl)) ?_
  refine pb_some (a := zcM f s [.ref 106, .null, .null, .null, .null, .null, .null, .int 0, .int 0, .int 0, .int 0, .null, .int 0, .int 0, .int 0, .int 0, .int 0, .int 0, .int 0, .int 0, .int 0, .int 0, .null, .null, .null, .null, .null, .null, .null, .null, .null, .null, .null, .null, .null, .int 0, .null, .int 0, .int 0, .int 0, .null, .int 0, .int 0, .int 0, .int 0, .null, .null, .null, .null, .null, .null, .int 0] 2 600) (by exact (zcM_na (bk_na0 (n := 274) (by decide) (by decide)) rfl rfl rfl)) ?_
  refine pb_some (a := zcM f s [.ref 106, .ref 107, .null, .null, .null, .null, .null, .int 0, .int 0, .int 0, .int 0, .null, .int 0, .int 0, .int 0, .int 0, .int 0, .int 0, .int 0, .int 0, .int 0, .int 0, .null, .null, .null, .null, .null, .null, .null, .null, .null, .null, .null, .null, .null, .int 0, .null, .int 0, .int 0, .int 0, .null, .int 0, .int 0, .int 0, .int 0, .null, .null, .null, .null, .null, .null, .int 0] 2 600) (by exact (zcM_put (zcM_n (by exact lb rfl) (by rfl)) rfl (lb rfl) rfl)) ?_
  refine pb_some (a := zcM f s [.ref 106, .ref 107, .null, .null, .null, .null, .null, .int 0, .int 0, .int 0, .int 0, .null, .int 0, .int 0, .int 0, .int 0, .int 0, .int 0, .int 0, .int 0, .int 0, .int 0, .null, .null, .null, .null, .null, .null, .null, .null, .null, .null, .null, .null, .null, .int 0, .null, .int 0, .int 0, .int 0, .null, .int 0, .int 0, .int 0, .int 0, .null, .null, .null, .null, .null, .null, .int 0] 3 874) (by exact (zcM_na (bk_na0 (n := 274) (by decide) (by decide)) rfl rfl rfl)) ?_
  refine pb_some (a := zcM f s [.ref 106, .ref 107, .ref 108, .null, .null, .null, .null, .int 0, .int 0, .int 0, .int 0, .null, .int 0, .int 0, .int 0, .int 0, .int 0, .int 0, .int 0, .int 0, .int 0, .int 0, .null, .null, .null, .null, .null, .null, .null, .null, .null, .null, .null, .null, .null, .int 0, .null, .int 0, .int 0, .int 0, .null, .int 0, .int 0, .int 0, .int 0, .null, .null, .null, .null, .null, .null, .int 0] 3 874) (by exact (zcM_put (zcM_n (by exact lb rfl) (by rfl)) rfl (lb rfl) rfl)) ?_
  refine pb_some (a := zcM f s [.ref 106, .ref 107, .ref 108, .null, .null, .null, .null, .int 0, .int 0, .int 0, .int 0, .null, .int 0, .int 0, .int 0, .int 0, .int 0, .int 0, .int 0, .int 0, .int 0, .int 0, .null, .null, .null, .null, .null, .null, .null, .null, .null, .null, .null, .null, .null, .int 0, .null, .int 0, .int 0, .int 0, .null, .int 0, .int 0, .int 0, .int 0, .null, .null, .null, .null, .null, .null, .int 0] 4 890) (by exact (zcM_na (bk_na0 (n := 16) (by decide) (by decide)) rfl rfl rfl)) ?_
  refine pb_some (a := zcM f s [.ref 106, .ref 107, .ref 108, .ref 109, .null, .null, .null, .int 0, .int 0, .int 0, .int 0, .null, .int 0, .int 0, .int 0, .int 0, .int 0, .int 0, .int 0, .int 0, .int 0, .int 0, .null, .null, .null, .null, .null, .null, .null, .null, .null, .null, .null, .null, .null, .int 0, .null, .int 0, .int 0, .int 0, .null, .int 0, .int 0, .int 0, .int 0, .null, .null, .null, .null, .null, .null, .int 0] 4 890) (by exact (zcM_put (zcM_n (by exact lb rfl) (by rfl)) rfl (lb rfl) rfl)) ?_
  refine pb_some (a := zcM f s [.ref 106, .ref 107, .ref 108, .ref 109, .null, .null, .null, .int 0, .int 0, .int 0, .int 0, .null, .int 0, .int 0, .int 0, .int 0, .int 0, .int 0, .int 0, .int 0, .int 0, .int 0, .null, .null, .null, .null, .null, .null, .null, .null, .null, .null, .null, .null, .null, .int 0, .null, .int 0, .int 0, .int 0, .null, .int 0, .int 0, .int 0, .int 0, .null, .null, .null, .null, .null, .null, .int 0] 5 906) (by exact (zcM_na (bk_na0 (n := 16) (by decide) (by decide)) rfl rfl rfl)) ?_
  refine pb_some (a := zcM f s [.ref 106, .ref 107, .ref 108, .ref 109, .ref 110, .null, .null, .int 0, .int 0, .int 0, .int 0, .null, .int 0, .int 0, .int 0, .int 0, .int 0, .int 0, .int 0, .int 0, .int 0, .int 0, .null, .null, .null, .null, .null, .null, .null, .null, .null, .null, .null, .null, .null, .int 0, .null, .int 0, .int 0, .int 0, .null, .int 0, .int 0, .int 0, .int 0, .null, .null, .null, .null, .null, .null, .int 0] 5 906) (by exact (zcM_put (zcM_n (by exact lb rfl) (by rfl)) rfl (lb rfl) rfl)) ?_
  refine pb_some (a := zcM f s [.ref 106, .ref 107, .ref 108, .ref 109, .ref 110, .null, .null, .int 0, .int 0, .int 0, .int 0, .null, .int 0, .int 0, .int 0, .int 0, .int 0, .int 0, .int 0, .int 0, .int 0, .int 0, .null, .null, .null, .null, .null, .null, .null, .null, .null, .null, .null, .null, .null, .int 0, .null, .int 0, .int 0, .int 0, .null, .int 0, .int 0, .int 0, .int 0, .null, .null, .null, .null, .null, .null, .int 0] 6 922) (by exact (zcM_na (bk_na0 (n := 16) (by decide) (by decide)) rfl rfl rfl)) ?_
  refine pb_some (a := zcM f s [.ref 106, .ref 107, .ref 108, .ref 109, .ref 110, .ref 111, .null, .int 0, .int 0, .int 0, .int 0, .null, .int 0, .int 0, .int 0, .int 0, .int 0, .int 0, .int 0, .int 0, .int 0, .int 0, .null, .null, .null, .null, .null, .null, .null, .null, .null, .null, .null, .null, .null, .int 0, .null, .int 0, .int 0, .int 0, .null, .int 0, .int 0, .int 0, .int 0, .null, .null, .null, .null, .null, .null, .int 0] 6 922) (by exact (zcM_put (zcM_n (by exact lb rfl) (by rfl)) rfl (lb rfl) rfl)) ?_
  refine pb_some (a := zcM f s [.ref 106, .ref 107, .ref 108, .ref 109, .ref 110, .ref 111, .null, .int 0, .int 0, .int 0, .int 0, .null, .int 0, .int 0, .int 0, .int 0, .int 0, .int 0, .int 0, .int 0, .int 0, .int 0, .null, .null, .null, .null, .null, .null, .null, .null, .null, .null, .null, .null, .null, .int 0, .null, .int 0, .int 0, .int 0, .null, .int 0, .int 0, .int 0, .int 0, .null, .null, .null, .null, .null, .null, .int 0] 7 938) (by exact (zcM_na (bk_na0 (n := 16) (by decide) (by decide)) rfl rfl rfl)) ?_
  refine pb_some (a := zcM f s [.ref 106, .ref 107, .ref 108, .ref 109, .ref 110, .ref 111, .ref 112, .int 0, .int 0, .int 0, .int 0, .null, .int 0, .int 0, .int 0, .int 0, .int 0, .int 0, .int 0, .int 0, .int 0, .int 0, .null, .null, .null, .null, .null, .null, .null, .null, .null, .null, .null, .null, .null, .int 0, .null, .int 0, .int 0, .int 0, .null, .int 0, .int 0, .int 0, .int 0, .null, .null, .null, .null, .null, .null, .int 0] 7 938) (by exact (zcM_put (zcM_n (by exact lb rfl) (by rfl)) rfl (lb rfl) rfl)) ?_
  refine pb_some (a := zcM f s [.ref 106, .ref 107, .ref 108, .ref 109, .ref 110, .ref 111, .ref 112, .int 0, .int 0, .int 0, .int 0, .null, .int 0, .int 0, .int 0, .int 0, .int 0, .int 0, .int 0, .int 0, .int 0, .int 0, .null, .null, .null, .null, .null, .null, .null, .null, .null, .null, .null, .null, .null, .int 0, .null, .int 0, .int 0, .int 0, .null, .int 0, .int 0, .int 0, .int 0, .null, .null, .null, .null, .null, .null, .int 0] 8 1198) (by exact (zcM_na (bk_na1 (n := 260) (by decide) (by decide)) rfl rfl rfl)) ?_
  refine pb_some (a := zcM f s [.ref 106, .ref 107, .ref 108, .ref 109, .ref 110, .ref 111, .ref 112, .int 0, .int 0, .int 0, .int 0, .ref 113, .int 0, .int 0, .int 0, .int 0, .int 0, .int 0, .int 0, .int 0, .int 0, .int 0, .null, .null, .null, .null, .null, .null, .null, .null, .null, .null, .null, .null, .null, .int 0, .null, .int 0, .int 0, .int 0, .null, .int 0, .int 0, .int 0, .int 0, .null, .null, .null, .null, .null, .null, .int 0] 8 1198) (by exact (zcM_put (zcM_n (by exact lb rfl) (by rfl)) rfl (lb rfl) rfl)) ?_
  refine pb_some (a := zcM f s [.ref 106, .ref 107, .ref 108, .ref 109, .ref 110, .ref 111, .ref 112, .int 0, .int 0, .int 0, .int 0, .ref 113, .int 0, .int 0, .int 0, .int 0, .int 0, .int 0, .int 0, .int 0, .int 0, .int 0, .null, .null, .null, .null, .null, .null, .null, .null, .null, .null, .null, .null, .null, .int 0, .null, .int 0, .int 0, .int 0, .null, .int 0, .int 0, .int 0, .int 0, .null, .null, .null, .null, .null, .null, .int 0] 9 1458) (by exact (zcM_na (bk_na0 (n := 260) (by decide) (by decide)) rfl rfl rfl)) ?_
  refine pb_some (a := zcM f s [.ref 106, .ref 107, .ref 108, .ref 109, .ref 110, .ref 111, .ref 112, .int 0, .int 0, .int 0, .int 0, .ref 113, .int 0, .int 0, .int 0, .int 0, .int 0, .int 0, .int 0, .int 0, .int 0, .int 0, .ref 114, .null, .null, .null, .null, .null, .null, .null, .null, .null, .null, .null, .null, .int 0, .null, .int 0, .int 0, .int 0, .null, .int 0, .int 0, .int 0, .int 0, .null, .null, .null, .null, .null, .null, .int 0] 9 1458) (by exact (zcM_put (zcM_n (by exact lb rfl) (by rfl)) rfl (lb rfl) rfl)) ?_
  refine pb_some (a := zcM f s [.ref 106, .ref 107, .ref 108, .ref 109, .ref 110, .ref 111, .ref 112, .int 0, .int 0, .int 0, .int 0, .ref 113, .int 0, .int 0, .int 0, .int 0, .int 0, .int 0, .int 0, .int 0, .int 0, .int 0, .ref 114, .null, .null, .null, .null, .null, .null, .null, .null, .null, .null, .null, .null, .int 0, .null, .int 0, .int 0, .int 0, .null, .int 0, .int 0, .int 0, .int 0, .null, .null, .null, .null, .null, .null, .int 0] 10 1718) (by exact (zcM_na (bk_na0 (n := 260) (by decide) (by decide)) rfl rfl rfl)) ?_
  refine pb_some (a := zcM f s [.ref 106, .ref 107, .ref 108, .ref 109, .ref 110, .ref 111, .ref 112, .int 0, .int 0, .int 0, .int 0, .ref 113, .int 0, .int 0, .int 0, .int 0, .int 0, .int 0, .int 0, .int 0, .int 0, .int 0, .ref 114, .ref 115, .null, .null, .null, .null, .null, .null, .null, .null, .null, .null, .null, .int 0, .null, .int 0, .int 0, .int 0, .null, .int 0, .int 0, .int 0, .int 0, .null, .null, .null, .null, .null, .null, .int 0] 10 1718) (by exact (zcM_put (zcM_n (by exact lb rfl) (by rfl)) rfl (lb rfl) rfl)) ?_
  refine pb_some (a := zcM f s [.ref 106, .ref 107, .ref 108, .ref 109, .ref 110, .ref 111, .ref 112, .int 0, .int 0, .int 0, .int 0, .ref 113, .int 0, .int 0, .int 0, .int 0, .int 0, .int 0, .int 0, .int 0, .int 0, .int 0, .ref 114, .ref 115, .null, .null, .null, .null, .null, .null, .null, .null, .null, .null, .null, .int 0, .null, .int 0, .int 0, .int 0, .null, .int 0, .int 0, .int 0, .int 0, .null, .null, .null, .null, .null, .null, .int 0] 11 1734) (by exact (zcM_na (bk_na0 (n := 16) (by decide) (by decide)) rfl rfl rfl)) ?_
  refine pb_some (a := zcM f s [.ref 106, .ref 107, .ref 108, .ref 109, .ref 110, .ref 111, .ref 112, .int 0, .int 0, .int 0, .int 0, .ref 113, .int 0, .int 0, .int 0, .int 0, .int 0, .int 0, .int 0, .int 0, .int 0, .int 0, .ref 114, .ref 115, .ref 116, .null, .null, .null, .null, .null, .null, .null, .null, .null, .null, .int 0, .null, .int 0, .int 0, .int 0, .null, .int 0, .int 0, .int 0, .int 0, .null, .null, .null, .null, .null, .null, .int 0] 11 1734) (by exact (zcM_put (zcM_n (by exact lb rfl) (by rfl)) rfl (lb rfl) rfl)) ?_
  refine pb_some (a := zcM f s [.ref 106, .ref 107, .ref 108, .ref 109, .ref 110, .ref 111, .ref 112, .int 0, .int 0, .int 0, .int 0, .ref 113, .int 0, .int 0, .int 0, .int 0, .int 0, .int 0, .int 0, .int 0, .int 0, .int 0, .ref 114, .ref 115, .ref 116, .null, .null, .null, .null, .null, .null, .null, .null, .null, .null, .int 0, .null, .int 0, .int 0, .int 0, .null, .int 0, .int 0, .int 0, .int 0, .null, .null, .null, .null, .null, .null, .int 0] 12 1750) (by exact (zcM_na (bk_na0 (n := 16) (by decide) (by decide)) rfl rfl rfl)) ?_
  refine pb_some (a := zcM f s [.ref 106, .ref 107, .ref 108, .ref 109, .ref 110, .ref 111, .ref 112, .int 0, .int 0, .int 0, .int 0, .ref 113, .int 0, .int 0, .int 0, .int 0, .int 0, .int 0, .int 0, .int 0, .int 0, .int 0, .ref 114, .ref 115, .ref 116, .ref 117, .null, .null, .null, .null, .null, .null, .null, .null, .null, .int 0, .null, .int 0, .int 0, .int 0, .null, .int 0, .int 0, .int 0, .int 0, .null, .null, .null, .null, .null, .null, .int 0] 12 1750) (by exact (zcM_put (zcM_n (by exact lb rfl) (by rfl)) rfl (lb rfl) rfl)) ?_
  refine pb_some (a := zcM f s [.ref 106, .ref 107, .ref 108, .ref 109, .ref 110, .ref 111, .ref 112, .int 0, .int 0, .int 0, .int 0, .ref 113, .int 0, .int 0, .int 0, .int 0, .int 0, .int 0, .int 0, .int 0, .int 0, .int 0, .ref 114, .ref 115, .ref 116, .ref 117, .null, .null, .null, .null, .null, .null, .null, .null, .null, .int 0, .null, .int 0, .int 0, .int 0, .null, .int 0, .int 0, .int 0, .int 0, .null, .null, .null, .null, .null, .null, .int 0] 13 1766) (by exact (zcM_na (bk_na0 (n := 16) (by decide) (by decide)) rfl rfl rfl)) ?_
  refine pb_some (a := zcM f s [.ref 106, .ref 107, .ref 108, .ref 109, .ref 110, .ref 111, .ref 112, .int 0, .int 0, .int 0, .int 0, .ref 113, .int 0, .int 0, .int 0, .int 0, .int 0, .int 0, .int 0, .int 0, .int 0, .int 0, .ref 114, .ref 115, .ref 116, .ref 117, .ref 118, .null, .null, .null, .null, .null, .null, .null, .null, .int 0, .null, .int 0, .int 0, .int 0, .null, .int 0, .int 0, .int 0, .int 0, .null, .null, .null, .null, .null, .null, .int 0] 13 1766) (by exact (zcM_put (zcM_n (by exact lb rfl) (by rfl)) rfl (lb rfl) rfl)) ?_
  refine pb_some (a := zcM f s [.ref 106, .ref 107, .ref 108, .ref 109, .ref 110, .ref 111, .ref 112, .int 0, .int 0, .int 0, .int 0, .ref 113, .int 0, .int 0, .int 0, .int 0, .int 0, .int 0, .int 0, .int 0, .int 0, .int 0, .ref 114, .ref 115, .ref 116, .ref 117, .ref 118, .null, .null, .null, .null, .null, .null, .null, .null, .int 0, .null, .int 0, .int 0, .int 0, .null, .int 0, .int 0, .int 0, .int 0, .null, .null, .null, .null, .null, .null, .int 0] 14 1782) (by exact (zcM_na (bk_na0 (n := 16) (by decide) (by decide)) rfl rfl rfl)) ?_
  refine pb_some (a := zcM f s [.ref 106, .ref 107, .ref 108, .ref 109, .ref 110, .ref 111, .ref 112, .int 0, .int 0, .int 0, .int 0, .ref 113, .int 0, .int 0, .int 0, .int 0, .int 0, .int 0, .int 0, .int 0, .int 0, .int 0, .ref 114, .ref 115, .ref 116, .ref 117, .ref 118, .ref 119, .null, .null, .null, .null, .null, .null, .null, .int 0, .null, .int 0, .int 0, .int 0, .null, .int 0, .int 0, .int 0, .int 0, .null, .null, .null, .null, .null, .null, .int 0] 14 1782) (by exact (zcM_put (zcM_n (by exact lb rfl) (by rfl)) rfl (lb rfl) rfl)) ?_
  refine pb_some (a := zcM f s [.ref 106, .ref 107, .ref 108, .ref 109, .ref 110, .ref 111, .ref 112, .int 0, .int 0, .int 0, .int 0, .ref 113, .int 0, .int 0, .int 0, .int 0, .int 0, .int 0, .int 0, .int 0, .int 0, .int 0, .ref 114, .ref 115, .ref 116, .ref 117, .ref 118, .ref 119, .null, .null, .null, .null, .null, .null, .null, .int 0, .null, .int 0, .int 0, .int 0, .null, .int 0, .int 0, .int 0, .int 0, .null, .null, .null, .null, .null, .null, .int 0] 15 2042) (by exact (zcM_na (bk_na0 (n := 260) (by decide) (by decide)) rfl rfl rfl)) ?_
  refine pb_some (a := zcM f s [.ref 106, .ref 107, .ref 108, .ref 109, .ref 110, .ref 111, .ref 112, .int 0, .int 0, .int 0, .int 0, .ref 113, .int 0, .int 0, .int 0, .int 0, .int 0, .int 0, .int 0, .int 0, .int 0, .int 0, .ref 114, .ref 115, .ref 116, .ref 117, .ref 118, .ref 119, .ref 120, .null, .null, .null, .null, .null, .null, .int 0, .null, .int 0, .int 0, .int 0, .null, .int 0, .int 0, .int 0, .int 0, .null, .null, .null, .null, .null, .null, .int 0] 15 2042) (by exact (zcM_put (zcM_n (by exact lb rfl) (by rfl)) rfl (lb rfl) rfl)) ?_
  refine pb_some (a := zcM f s [.ref 106, .ref 107, .ref 108, .ref 109, .ref 110, .ref 111, .ref 112, .int 0, .int 0, .int 0, .int 0, .ref 113, .int 0, .int 0, .int 0, .int 0, .int 0, .int 0, .int 0, .int 0, .int 0, .int 0, .ref 114, .ref 115, .ref 116, .ref 117, .ref 118, .ref 119, .ref 120, .null, .null, .null, .null, .null, .null, .int 0, .null, .int 0, .int 0, .int 0, .null, .int 0, .int 0, .int 0, .int 0, .null, .null, .null, .null, .null, .null, .int 0] 16 2058) (by exact (zcM_na (bk_na0 (n := 16) (by decide) (by decide)) rfl rfl rfl)) ?_
  refine pb_some (a := zcM f s [.ref 106, .ref 107, .ref 108, .ref 109, .ref 110, .ref 111, .ref 112, .int 0, .int 0, .int 0, .int 0, .ref 113, .int 0, .int 0, .int 0, .int 0, .int 0, .int 0, .int 0, .int 0, .int 0, .int 0, .ref 114, .ref 115, .ref 116, .ref 117, .ref 118, .ref 119, .ref 120, .ref 121, .null, .null, .null, .null, .null, .int 0, .null, .int 0, .int 0, .int 0, .null, .int 0, .int 0, .int 0, .int 0, .null, .null, .null, .null, .null, .null, .int 0] 16 2058) (by exact (zcM_put (zcM_n (by exact lb rfl) (by rfl)) rfl (lb rfl) rfl)) ?_
  refine pb_some (a := zcM f s [.ref 106, .ref 107, .ref 108, .ref 109, .ref 110, .ref 111, .ref 112, .int 0, .int 0, .int 0, .int 0, .ref 113, .int 0, .int 0, .int 0, .int 0, .int 0, .int 0, .int 0, .int 0, .int 0, .int 0, .ref 114, .ref 115, .ref 116, .ref 117, .ref 118, .ref 119, .ref 120, .ref 121, .null, .null, .null, .null, .null, .int 0, .null, .int 0, .int 0, .int 0, .null, .int 0, .int 0, .int 0, .int 0, .null, .null, .null, .null, .null, .null, .int 0] 17 2074) (by exact (zcM_na (bk_na0 (n := 16) (by decide) (by decide)) rfl rfl rfl)) ?_
  refine pb_some (a := zcM f s [.ref 106, .ref 107, .ref 108, .ref 109, .ref 110, .ref 111, .ref 112, .int 0, .int 0, .int 0, .int 0, .ref 113, .int 0, .int 0, .int 0, .int 0, .int 0, .int 0, .int 0, .int 0, .int 0, .int 0, .ref 114, .ref 115, .ref 116, .ref 117, .ref 118, .ref 119, .ref 120, .ref 121, .ref 122, .null, .null, .null, .null, .int 0, .null, .int 0, .int 0, .int 0, .null, .int 0, .int 0, .int 0, .int 0, .null, .null, .null, .null, .null, .null, .int 0] 17 2074) (by exact (zcM_put (zcM_n (by exact lb rfl) (by rfl)) rfl (lb rfl) rfl)) ?_
  refine pb_some (a := zcM f s [.ref 106, .ref 107, .ref 108, .ref 109, .ref 110, .ref 111, .ref 112, .int 0, .int 0, .int 0, .int 0, .ref 113, .int 0, .int 0, .int 0, .int 0, .int 0, .int 0, .int 0, .int 0, .int 0, .int 0, .ref 114, .ref 115, .ref 116, .ref 117, .ref 118, .ref 119, .ref 120, .ref 121, .ref 122, .null, .null, .null, .null, .int 0, .null, .int 0, .int 0, .int 0, .null, .int 0, .int 0, .int 0, .int 0, .null, .null, .null, .null, .null, .null, .int 0] 18 2090) (by exact (zcM_na (bk_na0 (n := 16) (by decide) (by decide)) rfl rfl rfl)) ?_
  refine pb_some (a := zcM f s [.ref 106, .ref 107, .ref 108, .ref 109, .ref 110, .ref 111, .ref 112, .int 0, .int 0, .int 0, .int 0, .ref 113, .int 0, .int 0, .int 0, .int 0, .int 0, .int 0, .int 0, .int 0, .int 0, .int 0, .ref 114, .ref 115, .ref 116, .ref 117, .ref 118, .ref 119, .ref 120, .ref 121, .ref 122, .ref 123, .null, .null, .null, .int 0, .null, .int 0, .int 0, .int 0, .null, .int 0, .int 0, .int 0, .int 0, .null, .null, .null, .null, .null, .null, .int 0] 18 2090) (by exact (zcM_put (zcM_n (by exact lb rfl) (by rfl)) rfl (lb rfl) rfl)) ?_
  refine pb_some (a := zcM f s [.ref 106, .ref 107, .ref 108, .ref 109, .ref 110, .ref 111, .ref 112, .int 0, .int 0, .int 0, .int 0, .ref 113, .int 0, .int 0, .int 0, .int 0, .int 0, .int 0, .int 0, .int 0, .int 0, .int 0, .ref 114, .ref 115, .ref 116, .ref 117, .ref 118, .ref 119, .ref 120, .ref 121, .ref 122, .ref 123, .null, .null, .null, .int 0, .null, .int 0, .int 0, .int 0, .null, .int 0, .int 0, .int 0, .int 0, .null, .null, .null, .null, .null, .null, .int 0] 19 2106) (by exact (zcM_na (bk_na0 (n := 16) (by decide) (by decide)) rfl rfl rfl)) ?_
  refine pb_some (a := zcM f s [.ref 106, .ref 107, .ref 108, .ref 109, .ref 110, .ref 111, .ref 112, .int 0, .int 0, .int 0, .int 0, .ref 113, .int 0, .int 0, .int 0, .int 0, .int 0, .int 0, .int 0, .int 0, .int 0, .int 0, .ref 114, .ref 115, .ref 116, .ref 117, .ref 118, .ref 119, .ref 120, .ref 121, .ref 122, .ref 123, .ref 124, .null, .null, .int 0, .null, .int 0, .int 0, .int 0, .null, .int 0, .int 0, .int 0, .int 0, .null, .null, .null, .null, .null, .null, .int 0] 19 2106) (by exact (zcM_put (zcM_n (by exact lb rfl) (by rfl)) rfl (lb rfl) rfl)) ?_
  refine pb_some (a := zcM f s [.ref 106, .ref 107, .ref 108, .ref 109, .ref 110, .ref 111, .ref 112, .int 0, .int 0, .int 0, .int 0, .ref 113, .int 0, .int 0, .int 0, .int 0, .int 0, .int 0, .int 0, .int 0, .int 0, .int 0, .ref 114, .ref 115, .ref 116, .ref 117, .ref 118, .ref 119, .ref 120, .ref 121, .ref 122, .ref 123, .ref 124, .null, .null, .int 0, .null, .int 0, .int 0, .int 0, .null, .int 0, .int 0, .int 0, .int 0, .null, .null, .null, .null, .null, .null, .int 0] 20 2366) (by exact (zcM_na (bk_na0 (n := 260) (by decide) (by decide)) rfl rfl rfl)) ?_
  refine pb_some (a := zcM f s [.ref 106, .ref 107, .ref 108, .ref 109, .ref 110, .ref 111, .ref 112, .int 0, .int 0, .int 0, .int 0, .ref 113, .int 0, .int 0, .int 0, .int 0, .int 0, .int 0, .int 0, .int 0, .int 0, .int 0, .ref 114, .ref 115, .ref 116, .ref 117, .ref 118, .ref 119, .ref 120, .ref 121, .ref 122, .ref 123, .ref 124, .ref 125, .null, .int 0, .null, .int 0, .int 0, .int 0, .null, .int 0, .int 0, .int 0, .int 0, .null, .null, .null, .null, .null, .null, .int 0] 20 2366) (by exact (zcM_put (zcM_n (by exact lb rfl) (by rfl)) rfl (lb rfl) rfl)) ?_
  refine pb_some (a := zcM f s [.ref 106, .ref 107, .ref 108, .ref 109, .ref 110, .ref 111, .ref 112, .int 0, .int 0, .int 0, .int 0, .ref 113, .int 0, .int 0, .int 0, .int 0, .int 0, .int 0, .int 0, .int 0, .int 0, .int 0, .ref 114, .ref 115, .ref 116, .ref 117, .ref 118, .ref 119, .ref 120, .ref 121, .ref 122, .ref 123, .ref 124, .ref 125, .null, .int 0, .null, .int 0, .int 0, .int 0, .null, .int 0, .int 0, .int 0, .int 0, .null, .null, .null, .null, .null, .null, .int 0] 21 2376) (by exact (zcM_na (bk_na0 (n := 10) (by decide) (by decide)) rfl rfl rfl)) ?_
  refine pb_some (a := zcM f s [.ref 106, .ref 107, .ref 108, .ref 109, .ref 110, .ref 111, .ref 112, .int 0, .int 0, .int 0, .int 0, .ref 113, .int 0, .int 0, .int 0, .int 0, .int 0, .int 0, .int 0, .int 0, .int 0, .int 0, .ref 114, .ref 115, .ref 116, .ref 117, .ref 118, .ref 119, .ref 120, .ref 121, .ref 122, .ref 123, .ref 124, .ref 125, .ref 126, .int 0, .null, .int 0, .int 0, .int 0, .null, .int 0, .int 0, .int 0, .int 0, .null, .null, .null, .null, .null, .null, .int 0] 21 2376) (by exact (zcM_put (zcM_n (by exact lb rfl) (by rfl)) rfl (lb rfl) rfl)) ?_
  refine pb_some (a := zcM f s [.ref 106, .ref 107, .ref 108, .ref 109, .ref 110, .ref 111, .ref 112, .int 0, .int 0, .int 0, .int 0, .ref 113, .int 0, .int 0, .int 0, .int 0, .int 0, .int 0, .int 0, .int 0, .int 0, .int 0, .ref 114, .ref 115, .ref 116, .ref 117, .ref 118, .ref 119, .ref 120, .ref 121, .ref 122, .ref 123, .ref 124, .ref 125, .ref 126, .int 0, .null, .int 0, .int 0, .int 0, .null, .int 0, .int 0, .int 0, .int 0, .null, .null, .null, .null, .null, .null, .int 0] 22 2392) (by exact (zcM_na (bk_na0 (n := 16) (by decide) (by decide)) rfl rfl rfl)) ?_
  refine pb_some (a := zcM f s [.ref 106, .ref 107, .ref 108, .ref 109, .ref 110, .ref 111, .ref 112, .int 0, .int 0, .int 0, .int 0, .ref 113, .int 0, .int 0, .int 0, .int 0, .int 0, .int 0, .int 0, .int 0, .int 0, .int 0, .ref 114, .ref 115, .ref 116, .ref 117, .ref 118, .ref 119, .ref 120, .ref 121, .ref 122, .ref 123, .ref 124, .ref 125, .ref 126, .int 0, .ref 127, .int 0, .int 0, .int 0, .null, .int 0, .int 0, .int 0, .int 0, .null, .null, .null, .null, .null, .null, .int 0] 22 2392) (by exact (zcM_put (zcM_n (by exact lb rfl) (by rfl)) rfl (lb rfl) rfl)) ?_
  refine pb_some (a := zcM f s [.ref 106, .ref 107, .ref 108, .ref 109, .ref 110, .ref 111, .ref 112, .int 0, .int 0, .int 0, .int 0, .ref 113, .int 0, .int 0, .int 0, .int 0, .int 0, .int 0, .int 0, .int 0, .int 0, .int 0, .ref 114, .ref 115, .ref 116, .ref 117, .ref 118, .ref 119, .ref 120, .ref 121, .ref 122, .ref 123, .ref 124, .ref 125, .ref 126, .int 0, .ref 127, .int 0, .int 0, .int 0, .null, .int 0, .int 0, .int 0, .int 0, .null, .null, .null, .null, .null, .null, .int 0] 23 2408) (by exact (zcM_na (bk_na0 (n := 16) (by decide) (by decide)) rfl rfl rfl)) ?_
  refine pb_some (a := zcM f s [.ref 106, .ref 107, .ref 108, .ref 109, .ref 110, .ref 111, .ref 112, .int 0, .int 0, .int 0, .int 0, .ref 113, .int 0, .int 0, .int 0, .int 0, .int 0, .int 0, .int 0, .int 0, .int 0, .int 0, .ref 114, .ref 115, .ref 116, .ref 117, .ref 118, .ref 119, .ref 120, .ref 121, .ref 122, .ref 123, .ref 124, .ref 125, .ref 126, .int 0, .ref 127, .int 0, .int 0, .int 0, .ref 128, .int 0, .int 0, .int 0, .int 0, .null, .null, .null, .null, .null, .null, .int 0] 23 2408) (by exact (zcM_put (zcM_n (by exact lb rfl) (by rfl)) rfl (lb rfl) rfl)) ?_
  refine pb_some (a := zcM f s [.ref 106, .ref 107, .ref 108, .ref 109, .ref 110, .ref 111, .ref 112, .int 0, .int 0, .int 0, .int 0, .ref 113, .int 0, .int 0, .int 0, .int 0, .int 0, .int 0, .int 0, .int 0, .int 0, .int 0, .ref 114, .ref 115, .ref 116, .ref 117, .ref 118, .ref 119, .ref 120, .ref 121, .ref 122, .ref 123, .ref 124, .ref 125, .ref 126, .int 0, .ref 127, .int 0, .int 0, .int 0, .ref 128, .int 0, .int 0, .int 0, .int 0, .null, .null, .null, .null, .null, .null, .int 0] 24 67944) (by exact (zcM_na (bk_na2 (n := 65536) (by decide) (by decide)) rfl rfl rfl)) ?_
  refine pb_some (a := zcM f s [.ref 106, .ref 107, .ref 108, .ref 109, .ref 110, .ref 111, .ref 112, .int 0, .int 0, .int 0, .int 0, .ref 113, .int 0, .int 0, .int 0, .int 0, .int 0, .int 0, .int 0, .int 0, .int 0, .int 0, .ref 114, .ref 115, .ref 116, .ref 117, .ref 118, .ref 119, .ref 120, .ref 121, .ref 122, .ref 123, .ref 124, .ref 125, .ref 126, .int 0, .ref 127, .int 0, .int 0, .int 0, .ref 128, .int 0, .int 0, .int 0, .int 0, .ref 129, .null, .null, .null, .null, .null, .int 0] 24 67944) (by exact (zcM_put (zcM_n (by exact lb rfl) (by rfl)) rfl (lb rfl) rfl)) ?_
  refine pb_some (a := zcM f s [.ref 106, .ref 107, .ref 108, .ref 109, .ref 110, .ref 111, .ref 112, .int 0, .int 0, .int 0, .int 0, .ref 113, .int 0, .int 0, .int 0, .int 0, .int 0, .int 0, .int 0, .int 0, .int 0, .int 0, .ref 114, .ref 115, .ref 116, .ref 117, .ref 118, .ref 119, .ref 120, .ref 121, .ref 122, .ref 123, .ref 124, .ref 125, .ref 126, .int 0, .ref 127, .int 0, .int 0, .int 0, .ref 128, .int 0, .int 0, .int 0, .int 0, .ref 129, .null, .null, .null, .null, .null, .int 0] 25 67960) (by exact (zcM_na (bk_na0 (n := 16) (by decide) (by decide)) rfl rfl rfl)) ?_
  refine pb_some (a := zcM f s [.ref 106, .ref 107, .ref 108, .ref 109, .ref 110, .ref 111, .ref 112, .int 0, .int 0, .int 0, .int 0, .ref 113, .int 0, .int 0, .int 0, .int 0, .int 0, .int 0, .int 0, .int 0, .int 0, .int 0, .ref 114, .ref 115, .ref 116, .ref 117, .ref 118, .ref 119, .ref 120, .ref 121, .ref 122, .ref 123, .ref 124, .ref 125, .ref 126, .int 0, .ref 127, .int 0, .int 0, .int 0, .ref 128, .int 0, .int 0, .int 0, .int 0, .ref 129, .ref 130, .null, .null, .null, .null, .int 0] 25 67960) (by exact (zcM_put (zcM_n (by exact lb rfl) (by rfl)) rfl (lb rfl) rfl)) ?_
  refine pb_some (a := zcM f s [.ref 106, .ref 107, .ref 108, .ref 109, .ref 110, .ref 111, .ref 112, .int 0, .int 0, .int 0, .int 0, .ref 113, .int 0, .int 0, .int 0, .int 0, .int 0, .int 0, .int 0, .int 0, .int 0, .int 0, .ref 114, .ref 115, .ref 116, .ref 117, .ref 118, .ref 119, .ref 120, .ref 121, .ref 122, .ref 123, .ref 124, .ref 125, .ref 126, .int 0, .ref 127, .int 0, .int 0, .int 0, .ref 128, .int 0, .int 0, .int 0, .int 0, .ref 129, .ref 130, .null, .null, .null, .null, .int 0] 26 133496) (by exact (zcM_na (bk_na0 (n := 65536) (by decide) (by decide)) rfl rfl rfl)) ?_
  refine pb_some (a := zcM f s [.ref 106, .ref 107, .ref 108, .ref 109, .ref 110, .ref 111, .ref 112, .int 0, .int 0, .int 0, .int 0, .ref 113, .int 0, .int 0, .int 0, .int 0, .int 0, .int 0, .int 0, .int 0, .int 0, .int 0, .ref 114, .ref 115, .ref 116, .ref 117, .ref 118, .ref 119, .ref 120, .ref 121, .ref 122, .ref 123, .ref 124, .ref 125, .ref 126, .int 0, .ref 127, .int 0, .int 0, .int 0, .ref 128, .int 0, .int 0, .int 0, .int 0, .ref 129, .ref 130, .ref 131, .null, .null, .null, .int 0] 26 133496) (by exact (zcM_put (zcM_n (by exact lb rfl) (by rfl)) rfl (lb rfl) rfl)) ?_
  refine pb_some (a := zcM f s [.ref 106, .ref 107, .ref 108, .ref 109, .ref 110, .ref 111, .ref 112, .int 0, .int 0, .int 0, .int 0, .ref 113, .int 0, .int 0, .int 0, .int 0, .int 0, .int 0, .int 0, .int 0, .int 0, .int 0, .ref 114, .ref 115, .ref 116, .ref 117, .ref 118, .ref 119, .ref 120, .ref 121, .ref 122, .ref 123, .ref 124, .ref 125, .ref 126, .int 0, .ref 127, .int 0, .int 0, .int 0, .ref 128, .int 0, .int 0, .int 0, .int 0, .ref 129, .ref 130, .ref 131, .null, .null, .null, .int 0] 27 133752) (by exact (zcM_na (bk_na0 (n := 256) (by decide) (by decide)) rfl rfl rfl)) ?_
  refine pb_some (a := zcM f s [.ref 106, .ref 107, .ref 108, .ref 109, .ref 110, .ref 111, .ref 112, .int 0, .int 0, .int 0, .int 0, .ref 113, .int 0, .int 0, .int 0, .int 0, .int 0, .int 0, .int 0, .int 0, .int 0, .int 0, .ref 114, .ref 115, .ref 116, .ref 117, .ref 118, .ref 119, .ref 120, .ref 121, .ref 122, .ref 123, .ref 124, .ref 125, .ref 126, .int 0, .ref 127, .int 0, .int 0, .int 0, .ref 128, .int 0, .int 0, .int 0, .int 0, .ref 129, .ref 130, .ref 131, .ref 132, .null, .null, .int 0] 27 133752) (by exact (zcM_put (zcM_n (by exact lb rfl) (by rfl)) rfl (lb rfl) rfl)) ?_
  refine pb_some (a := zcM f s [.ref 106, .ref 107, .ref 108, .ref 109, .ref 110, .ref 111, .ref 112, .int 0, .int 0, .int 0, .int 0, .ref 113, .int 0, .int 0, .int 0, .int 0, .int 0, .int 0, .int 0, .int 0, .int 0, .int 0, .ref 114, .ref 115, .ref 116, .ref 117, .ref 118, .ref 119, .ref 120, .ref 121, .ref 122, .ref 123, .ref 124, .ref 125, .ref 126, .int 0, .ref 127, .int 0, .int 0, .int 0, .ref 128, .int 0, .int 0, .int 0, .int 0, .ref 129, .ref 130, .ref 131, .ref 132, .null, .null, .int 0] 28 133760) (by exact (zcM_na (bk_na0 (n := 8) (by decide) (by decide)) rfl rfl rfl)) ?_
  refine pb_some (a := zcM f s [.ref 106, .ref 107, .ref 108, .ref 109, .ref 110, .ref 111, .ref 112, .int 0, .int 0, .int 0, .int 0, .ref 113, .int 0, .int 0, .int 0, .int 0, .int 0, .int 0, .int 0, .int 0, .int 0, .int 0, .ref 114, .ref 115, .ref 116, .ref 117, .ref 118, .ref 119, .ref 120, .ref 121, .ref 122, .ref 123, .ref 124, .ref 125, .ref 126, .int 0, .ref 127, .int 0, .int 0, .int 0, .ref 128, .int 0, .int 0, .int 0, .int 0, .ref 129, .ref 130, .ref 131, .ref 132, .ref 133, .null, .int 0] 28 133760) (by exact (zcM_put (zcM_n (by exact lb rfl) (by rfl)) rfl (lb rfl) rfl)) ?_
  refine pb_some (a := zcM f s [.ref 106, .ref 107, .ref 108, .ref 109, .ref 110, .ref 111, .ref 112, .int 0, .int 0, .int 0, .int 0, .ref 113, .int 0, .int 0, .int 0, .int 0, .int 0, .int 0, .int 0, .int 0, .int 0, .int 0, .ref 114, .ref 115, .ref 116, .ref 117, .ref 118, .ref 119, .ref 120, .ref 121, .ref 122, .ref 123, .ref 124, .ref 125, .ref 126, .int 0, .ref 127, .int 0, .int 0, .int 0, .ref 128, .int 0, .int 0, .int 0, .int 0, .ref 129, .ref 130, .ref 131, .ref 132, .ref 133, .null, .int 0] 29 135808) (by exact (zcM_na (bk_na0 (n := 2048) (by decide) (by decide)) rfl rfl rfl)) ?_
  refine pb_some (a := zcM f s [.ref 106, .ref 107, .ref 108, .ref 109, .ref 110, .ref 111, .ref 112, .int 0, .int 0, .int 0, .int 0, .ref 113, .int 0, .int 0, .int 0, .int 0, .int 0, .int 0, .int 0, .int 0, .int 0, .int 0, .ref 114, .ref 115, .ref 116, .ref 117, .ref 118, .ref 119, .ref 120, .ref 121, .ref 122, .ref 123, .ref 124, .ref 125, .ref 126, .int 0, .ref 127, .int 0, .int 0, .int 0, .ref 128, .int 0, .int 0, .int 0, .int 0, .ref 129, .ref 130, .ref 131, .ref 132, .ref 133, .ref 134, .int 0] 29 135808) (by exact (zcM_put (zcM_n (by exact lb rfl) (by rfl)) rfl (lb rfl) rfl)) ?_
  refine pb_some (bk_fR (q := 0) rfl rfl rfl rfl) ?_
  refine pb_some (bk_si (q := 1) (k0 := 273) rfl rfl (by decide) (by decide) (lb rfl)) ?_
  exact rfl
