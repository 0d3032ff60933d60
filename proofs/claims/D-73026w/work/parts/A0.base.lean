/-! THE PLAIN LAW (0): the pure heap in its normal form, its reads and writes -/
set_option maxRecDepth 100000
def ii (k : Nat) : Int32 := Int32.ofNat k
theorem ii_toInt {k : Nat} (h : k < 2147483648) : (ii k).toInt = k := Int32.toInt_ofNat_of_lt h
theorem ii_n {k : Nat} (h : k < 2147483648) : (ii k).toNatClampNeg = k := by
  rw [← Int32.toNat_toInt, ii_toInt h]
  rfl
theorem ii_lt {a b : Nat} (ha : a < 2147483648) (hb : b < 2147483648) : (ii a < ii b) = (a < b) := by
  rw [Int32.lt_iff_toInt_lt, ii_toInt ha, ii_toInt hb]
  exact propext Int.ofNat_lt
theorem ii_le {a b : Nat} (ha : a < 2147483648) (hb : b < 2147483648) : (ii a ≤ ii b) = (a ≤ b) := by
  rw [Int32.le_iff_toInt_le, ii_toInt ha, ii_toInt hb]
  exact propext Int.ofNat_le
theorem ii_eq {a b : Nat} (ha : a < 2147483648) (hb : b < 2147483648) : (ii a = ii b) = (a = b) := by
  refine propext ⟨fun h => ?_, fun h => by rw [h]⟩
  have := congrArg Int32.toNatClampNeg h
  rwa [ii_n ha, ii_n hb] at this
theorem ii_nn {k : Nat} (h : k < 2147483648) : ¬ ii k < 0 := by
  rw [Int32.lt_iff_toInt_lt, ii_toInt h]
  exact Int.not_lt.mpr (Int.natCast_nonneg k)
theorem ii_add (a b : Nat) : ii a + ii b = ii (a + b) := (Int32.ofNat_add a b).symm
theorem ii_s (a : Nat) : ii a + 1 = ii (a + 1) := ii_add a 1
/-- a non-negative int is one of them -/
theorem ii_of {x : Int32} (h : ¬ x < 0) : ∃ k : Nat, k < 2147483648 ∧ x = ii k := by
  refine ⟨x.toNatClampNeg, ?_, ?_⟩
  · have := Int32.toInt_lt x
    have h2 := Int32.toNat_toInt x
    omega
  · have h0 : 0 ≤ x.toInt := by
      have := h
      rw [Int32.lt_iff_toInt_lt] at this
      exact Int.not_lt.mp this
    apply Int32.toInt_inj.mp
    have h2 := Int32.toNat_toInt x
    have h3 := Int32.toInt_lt x
    rw [ii_toInt (by omega)]
    omega
abbrev z_T : Type := (Nat → Nat → Int32) × (Nat → Nat → Int64) × Nat × (Nat → pm_C) × Nat × Nat
abbrev z_S : Type := (Nat × List (Option (Option Nat))) ⊕ (Nat × Nat) ⊕ Unit
def z_shl : List z_S := [
  .inl (0, [some (some 8), some (some 11), some (some 14), some (some 15), some (some 35), some (some 55), some (some 75), some none, none, none, some (some 80), some (some 81), some (some 82), some (some 83), some (some 84), some (some 85), some (some 86), some (some 95), some (some 104)]),
  .inl (1, [some (some 9), some (some 10), none, none]),
  .inr (.inl (0, 16)),
  .inr (.inl (0, 16)),
  .inl (1, [some (some 12), some (some 13), none, none]),
  .inr (.inl (0, 16)),
  .inr (.inl (0, 16)),
  .inl (2, [none, none, none, none, none, none, none, none, none, none, none]),
  .inl (3, [some (some 16), some (some 33), some (some 34), none, none, none, none, none, none, some (some 7)]),
  .inr (.inl (3, 16)),
  .inr (.inl (0, 16)),
  .inr (.inl (0, 16)),
  .inr (.inl (0, 16)),
  .inr (.inl (0, 16)),
  .inr (.inl (0, 16)),
  .inr (.inl (0, 16)),
  .inr (.inl (0, 16)),
  .inr (.inl (0, 16)),
  .inr (.inl (0, 16)),
  .inr (.inl (0, 16)),
  .inr (.inl (0, 16)),
  .inr (.inl (0, 16)),
  .inr (.inl (0, 16)),
  .inr (.inl (0, 16)),
  .inr (.inl (0, 16)),
  .inr (.inl (0, 16)),
  .inr (.inl (0, 16)),
  .inr (.inl (0, 16)),
  .inl (3, [some (some 36), some (some 53), some (some 54), none, none, none, none, none, none, some (some 7)]),
  .inr (.inl (3, 16)),
  .inr (.inl (0, 16)),
  .inr (.inl (0, 16)),
  .inr (.inl (0, 16)),
  .inr (.inl (0, 16)),
  .inr (.inl (0, 16)),
  .inr (.inl (0, 16)),
  .inr (.inl (0, 16)),
  .inr (.inl (0, 16)),
  .inr (.inl (0, 16)),
  .inr (.inl (0, 16)),
  .inr (.inl (0, 16)),
  .inr (.inl (0, 16)),
  .inr (.inl (0, 16)),
  .inr (.inl (0, 16)),
  .inr (.inl (0, 16)),
  .inr (.inl (0, 16)),
  .inr (.inl (0, 16)),
  .inr (.inl (0, 16)),
  .inl (3, [some (some 56), some (some 73), some (some 74), none, none, none, none, none, none, some (some 7)]),
  .inr (.inl (3, 16)),
  .inr (.inl (0, 16)),
  .inr (.inl (0, 16)),
  .inr (.inl (0, 16)),
  .inr (.inl (0, 16)),
  .inr (.inl (0, 16)),
  .inr (.inl (0, 16)),
  .inr (.inl (0, 16)),
  .inr (.inl (0, 16)),
  .inr (.inl (0, 16)),
  .inr (.inl (0, 16)),
  .inr (.inl (0, 16)),
  .inr (.inl (0, 16)),
  .inr (.inl (0, 16)),
  .inr (.inl (0, 16)),
  .inr (.inl (0, 16)),
  .inr (.inl (0, 16)),
  .inr (.inl (0, 16)),
  .inr (.inl (0, 16)),
  .inr (.inl (1, 260)),
  .inr (.inr ()),
  .inr (.inr ()),
  .inr (.inr ()),
  .inr (.inr ()),
  .inr (.inl (2, 65536)),
  .inr (.inl (0, 16)),
  .inr (.inl (0, 65536)),
  .inr (.inl (0, 256)),
  .inr (.inl (0, 8)),
  .inr (.inl (0, 8)),
  .inr (.inl (3, 8)),
  .inr (.inl (0, 8)),
  .inr (.inl (0, 8)),
  .inr (.inl (0, 8)),
  .inr (.inl (0, 8)),
  .inr (.inl (0, 8)),
  .inr (.inl (0, 8)),
  .inr (.inl (0, 8)),
  .inr (.inl (0, 8)),
  .inr (.inl (3, 8)),
  .inr (.inl (0, 8)),
  .inr (.inl (0, 8)),
  .inr (.inl (0, 8)),
  .inr (.inl (0, 8)),
  .inr (.inl (0, 8)),
  .inr (.inl (0, 8)),
  .inr (.inl (0, 8)),
  .inr (.inl (0, 8)),
  .inr (.inl (0, 256)),
  .inl (5, [some (some 106), some (some 107), some (some 108), some (some 109), some (some 110), some (some 111), some (some 112), none, none, none, none, some (some 113), none, none, none, none, none, none, none, none, none, none, some (some 114), some (some 115), some (some 116), some (some 117), some (some 118), some (some 119), some (some 120), some (some 121), some (some 122), some (some 123), some (some 124), some (some 125), some (some 126), none, some (some 127), none, none, none, some (some 128), none, none, none, none, some (some 129), some (some 130), some (some 131), some (some 132), some (some 133), some (some 134), none]),
  .inr (.inl (0, 274)),
  .inr (.inl (0, 274)),
  .inr (.inl (0, 274)),
  .inr (.inl (0, 16)),
  .inr (.inl (0, 16)),
  .inr (.inl (0, 16)),
  .inr (.inl (0, 16)),
  .inr (.inl (1, 260)),
  .inr (.inl (0, 260)),
  .inr (.inl (0, 260)),
  .inr (.inl (0, 16)),
  .inr (.inl (0, 16)),
  .inr (.inl (0, 16)),
  .inr (.inl (0, 16)),
  .inr (.inl (0, 260)),
  .inr (.inl (0, 16)),
  .inr (.inl (0, 16)),
  .inr (.inl (0, 16)),
  .inr (.inl (0, 16)),
  .inr (.inl (0, 260)),
  .inr (.inl (0, 10)),
  .inr (.inl (0, 16)),
  .inr (.inl (0, 16)),
  .inr (.inl (2, 65536)),
  .inr (.inl (0, 16)),
  .inr (.inl (0, 65536)),
  .inr (.inl (0, 256)),
  .inr (.inl (0, 8)),
  .inr (.inl (0, 2048))]
def z_sh (i : Nat) : z_S := z_shl.getD (i - 7) (.inr (.inr ()))
def z_fs (z : z_T) (i : Nat) : List (Option (Option Nat)) → Nat → List Value
  | [], _ => []
  | none :: r, k => .int (z.1 i k) :: z_fs z i r (k + 1)
  | some none :: r, k => .ref z.2.2.1 :: z_fs z i r (k + 1)
  | some (some a) :: r, k => .ref a :: z_fs z i r (k + 1)
def z_ar (z : z_T) (i t n : Nat) : pm_C := match t with
  | 2 => .inl (2, n, .inr (.inl (z.2.1 i)))
  | 3 => .inl (3, n, .inr (.inr (.inr (.inr fun j => if j < n then some (i + 1 + j) else none))))
  | t => .inl (t, n, .inl (z.1 i))
def z_c (z : z_T) (i : Nat) : pm_C := match z_sh i with
  | .inl (c, fs) => .inr (c, z_fs z i fs 0)
  | .inr (.inl (t, n)) => z_ar z i t n
  | .inr (.inr ()) => z.2.2.2.1 i
/-- the heap: the script and the texts, the cells of both towns, the rest -/
def hp (L : Nat) (xs : Nat → Int32) (z : z_T) : pm_H := (fun i => if i < 7 then sd_k L xs i else if i < 135 then z_c z i else z.2.2.2.1 i, 135 + z.2.2.2.2.1, z.2.2.2.2.2)
def ui (z : z_T) (i k : Nat) (v : Int32) : z_T := (fun j => if j = i then upd (z.1 i) k v else z.1 j, z.2)
def ul (z : z_T) (i k : Nat) (v : Int64) : z_T := (z.1, fun j => if j = i then vp_updL (z.2.1 i) k v else z.2.1 j, z.2.2)
def uw (z : z_T) (v : Nat) : z_T := (z.1, z.2.1, v, z.2.2.2)
section
variable {L : Nat} {xs : Nat → Int32} {z : z_T} {i c t n : Nat} {fs : List (Option (Option Nat))}
theorem zg (hi : 7 ≤ i ∧ i < 135) : pm_g (hp L xs z) i = some (z_c z i) := by
  unfold pm_g hp
  dsimp only
  rw [if_pos (by omega), if_neg (by omega), if_pos (by omega)]
theorem zg_o (hs : z_sh i = .inl (c, fs)) (hi : 7 ≤ i ∧ i < 135) : pm_g (hp L xs z) i = some (.inr (c, z_fs z i fs 0)) := by
  rw [zg hi, z_c, hs]
theorem zg_a (hs : z_sh i = .inr (.inl (t, n))) (hi : 7 ≤ i ∧ i < 135) : pm_g (hp L xs z) i = some (z_ar z i t n) := by
  rw [zg hi, z_c, hs]
theorem z_fs_get : ∀ (fs : List (Option (Option Nat))) (k q : Nat) (x : Option (Option Nat)), fs[k]? = some x → (z_fs z i fs q)[k]? = some (match x with | none => .int (z.1 i (q + k)) | some none => .ref z.2.2.1 | some (some a) => .ref a)
  | [], k, q, x, h => by cases h
  | y :: r, 0, q, x, h => by
    cases h
    match y with
    | none => rfl
    | some none => rfl
    | some (some a) => rfl
  | y :: r, k + 1, q, x, h => by
    have e := z_fs_get r k (q + 1) x h
    rw [Nat.add_right_comm] at e
    match y with
    | none => exact e
    | some none => exact e
    | some (some a) => exact e
theorem zr_fI {T : List (Nat × Nat)} {k : Nat} (hs : z_sh i = .inl (c, fs)) (hi : 7 ≤ i ∧ i < 135) (hT : pm_lk T c = some k) (hf : fs[k]? = some none) : pm_fI T (hp L xs z) i = some (z.1 i k) := by
  unfold pm_fI pm_fld
  rw [zg_o hs hi]
  dsimp only
  rw [hT, Option.bind_some, z_fs_get fs k 0 none hf, Nat.zero_add]
theorem zr_fR {T : List (Nat × Nat)} {k a : Nat} (hs : z_sh i = .inl (c, fs)) (hi : 7 ≤ i ∧ i < 135) (hT : pm_lk T c = some k) (hf : fs[k]? = some (some (some a))) : pm_fR T (hp L xs z) i = some a := by
  unfold pm_fR pm_fld
  rw [zg_o hs hi]
  dsimp only
  rw [hT, Option.bind_some, z_fs_get fs k 0 _ hf]
theorem zr_fW {T : List (Nat × Nat)} {k : Nat} (hs : z_sh i = .inl (c, fs)) (hi : 7 ≤ i ∧ i < 135) (hT : pm_lk T c = some k) (hf : fs[k]? = some (some none)) : pm_fR T (hp L xs z) i = some z.2.2.1 := by
  unfold pm_fR pm_fld
  rw [zg_o hs hi]
  dsimp only
  rw [hT, Option.bind_some, z_fs_get fs k 0 _ hf]
theorem zr_cl (hs : z_sh i = .inl (c, fs)) (hi : 7 ≤ i ∧ i < 135) : pm_cl_ (hp L xs z) i = some c := by
  unfold pm_cl_
  rw [zg_o hs hi]
theorem z_ar01 (ht : t < 2) : z_ar z i t n = .inl (t, n, .inl (z.1 i)) := by
  match t, ht with
  | 0, _ => rfl
  | 1, _ => rfl
theorem z_ar2 : z_ar z i 2 n = .inl (2, n, .inr (.inl (z.2.1 i))) := rfl
theorem z_ar3 : z_ar z i 3 n = .inl (3, n, .inr (.inr (.inr (.inr fun j => if j < n then some (i + 1 + j) else none)))) := rfl
theorem zr_len (hs : z_sh i = .inr (.inl (t, n))) (hi : 7 ≤ i ∧ i < 135) (ht : t < 4) : pm_len (hp L xs z) i = some (ii n) := by
  unfold pm_len
  rw [zg_a hs hi]
  match t, ht with
  | 0, _ => rfl
  | 1, _ => rfl
  | 2, _ => rfl
  | 3, _ => rfl
theorem zr_ai {k : Nat} (hs : z_sh i = .inr (.inl (t, n))) (hi : 7 ≤ i ∧ i < 135) (ht : t < 2) (hn : n < 2147483648) (hk : k < n) : pm_ai t (hp L xs z) i (ii k) = some (z.1 i k) := by
  have h2 : k < 2147483648 := Nat.lt_trans hk hn
  unfold pm_ai
  rw [zg_a hs hi, z_ar01 ht]
  dsimp only
  rw [ii_n h2, if_pos ⟨rfl, ii_nn h2, hk⟩]
theorem zr_al {k : Nat} (hs : z_sh i = .inr (.inl (2, n))) (hi : 7 ≤ i ∧ i < 135) (hn : n < 2147483648) (hk : k < n) : pm_al (hp L xs z) i (ii k) = some (z.2.1 i k) := by
  have h2 : k < 2147483648 := Nat.lt_trans hk hn
  unfold pm_al
  rw [zg_a hs hi, z_ar2]
  dsimp only
  rw [ii_n h2, if_pos ⟨rfl, ii_nn h2, hk⟩]
theorem zr_aR {k : Nat} (hs : z_sh i = .inr (.inl (3, n))) (hi : 7 ≤ i ∧ i < 135) (hn : n < 2147483648) (hk : k < n) : pm_aR (hp L xs z) i (ii k) = some (i + 1 + k) := by
  have h2 : k < 2147483648 := Nat.lt_trans hk hn
  unfold pm_aR pm_aq
  rw [zg_a hs hi, z_ar3]
  dsimp only
  rw [ii_n h2, if_pos ⟨Or.inl rfl, ii_nn h2, hk⟩, if_pos hk]
  rfl
/-- writes -/
theorem z_fs_put : ∀ (fs : List (Option (Option Nat))) (k q : Nat) (v : Int32), fs[k]? = some none → (z_fs z i fs q).set k (.int v) = z_fs (ui z i (q + k) v) i fs q
  | [], k, q, v, h => by cases h
  | y :: r, 0, q, v, h => by
    cases h
    have : ∀ (r : List (Option (Option Nat))) (q2 : Nat), q < q2 → z_fs z i r q2 = z_fs (ui z i (q + 0) v) i r q2 := by
      intro r
      induction r with
      | nil => intro q2 _; rfl
      | cons y r ih =>
        intro q2 h2
        have e := ih (q2 + 1) (by omega)
        match y with
        | none => show _ :: _ = _ :: _; rw [e]; congr 2; show _ = (if i = i then upd (z.1 i) (q + 0) v else _) q2; rw [if_pos rfl, upd, if_neg (by omega)]
        | some none => show _ :: _ = _ :: _; rw [e]; rfl
        | some (some a) => show _ :: _ = _ :: _; rw [e]
    show _ :: _ = _ :: _
    rw [← this r (q + 1) (by omega)]
    congr 2
    show v = (if i = i then upd (z.1 i) (q + 0) v else _) q
    rw [if_pos rfl, upd, if_pos (Nat.add_zero q).symm]
  | y :: r, k + 1, q, v, h => by
    have e := z_fs_put r k (q + 1) v h
    rw [Nat.add_right_comm] at e
    match y with
    | none => show _ :: _ = _ :: _; rw [e]; congr 2; show _ = (if i = i then upd (z.1 i) (q + (k + 1)) v else _) q; rw [if_pos rfl, upd, if_neg (by omega)]
    | some none => show _ :: _ = _ :: _; rw [e]; rfl
    | some (some a) => show _ :: _ = _ :: _; rw [e]; rfl
theorem z_fs_oth {z2 : z_T} (h1 : z2.1 i = z.1 i) (h2 : z2.2.2.1 = z.2.2.1) : ∀ (fs : List (Option (Option Nat))) (q : Nat), z_fs z2 i fs q = z_fs z i fs q
  | [], _ => rfl
  | none :: r, q => by show _ :: _ = _ :: _; rw [z_fs_oth h1 h2 r, h1]
  | some none :: r, q => by show _ :: _ = _ :: _; rw [z_fs_oth h1 h2 r, h2]
  | some (some a) :: r, q => by show _ :: _ = _ :: _; rw [z_fs_oth h1 h2 r]
theorem z_c_oth {z2 : z_T} (h1 : z2.1 i = z.1 i) (h2 : z2.2.2.1 = z.2.2.1) (h3 : z2.2.1 i = z.2.1 i) (h4 : z2.2.2.2.1 i = z.2.2.2.1 i) : z_c z2 i = z_c z i := by
  unfold z_c
  split
  next c fs _ => rw [z_fs_oth h1 h2]
  next t n _ => unfold z_ar; rw [h1, h3]
  next => exact h4
/-- a cell of ours is written -/
theorem zs_s {z2 : z_T} {cl : pm_C} (hi : 7 ≤ i ∧ i < 135) (hc : z_c z2 i = cl) (ho : ∀ j, 7 ≤ j → j < 135 → j ≠ i → z_c z2 j = z_c z j) (hr : z2.2.2.2 = z.2.2.2) : pm_s (hp L xs z) i cl = hp L xs z2 := by
  unfold pm_s hp
  rw [hr]
  refine Prod.ext (funext fun j => ?_) rfl
  dsimp only
  by_cases hj : j = i
  · subst hj
    rw [if_pos rfl, if_neg (by omega), if_pos (by omega), hc]
  · rw [if_neg hj]
    by_cases h1 : j < 7
    · rw [if_pos h1, if_pos h1]
    · rw [if_neg h1, if_neg h1]
      by_cases h2 : j < 135
      · rw [if_pos h2, if_pos h2, ho j (by omega) h2 hj]
      · rw [if_neg h2, if_neg h2]
theorem ui_o {k : Nat} {v : Int32} {j : Nat} (hj : j ≠ i) : (ui z i k v).1 j = z.1 j := if_neg hj
theorem ui_i {k : Nat} {v : Int32} : (ui z i k v).1 i = upd (z.1 i) k v := if_pos rfl
theorem ul_o {k : Nat} {v : Int64} {j : Nat} (hj : j ≠ i) : (ul z i k v).2.1 j = z.2.1 j := if_neg hj
theorem ul_i {k : Nat} {v : Int64} : (ul z i k v).2.1 i = vp_updL (z.2.1 i) k v := if_pos rfl
theorem zw_put {T : List (Nat × Nat × Nat)} {k kd : Nat} {v : Int32} (hs : z_sh i = .inl (c, fs)) (hi : 7 ≤ i ∧ i < 135) (hT : pm_lk T c = some (k, kd)) (hf : fs[k]? = some none) (hk : pm_fit kd (.int v) = true) : pm_put T (hp L xs z) i (.int v) = some (hp L xs (ui z i k v)) := by
  unfold pm_put
  rw [zg_o hs hi]
  dsimp only
  have hl : k < (z_fs z i fs 0).length := by
    have := z_fs_get (z := z) (i := i) fs k 0 none hf
    exact (List.getElem?_eq_some_iff.mp this).1
  rw [hT, Option.bind_some, if_pos ⟨hk, hl⟩, z_fs_put fs k 0 v hf, Nat.zero_add, zs_s hi (by rw [z_c, hs]) (fun j _ _ hj => z_c_oth (ui_o hj) rfl rfl rfl) rfl]
def z_nw (s : z_S) : Bool := match s with
  | .inl (_, fs) => fs.all fun x => decide (x ≠ some none)
  | _ => true
theorem z_nw_ok : ∀ q, q < 128 → q ≠ 0 → z_nw (z_shl.getD q (.inr (.inr ()))) = true := by decide
theorem z_fs_othW {v : Nat} : ∀ (fs : List (Option (Option Nat))) (q : Nat), (fs.all fun x => decide (x ≠ some none)) = true → z_fs (uw z v) i fs q = z_fs z i fs q
  | [], _, _ => rfl
  | x :: r, q, h => by
    rw [List.all_cons, Bool.and_eq_true] at h
    have e := z_fs_othW (v := v) r (q + 1) h.2
    have h1 := of_decide_eq_true h.1
    match x, h1 with
    | none, _ => show _ :: _ = _ :: _; rw [e]; rfl
    | some none, h1 => exact absurd rfl h1
    | some (some a), _ => show _ :: _ = _ :: _; rw [e]
theorem z_c_othW {v j : Nat} (h1 : 7 ≤ j) (h2 : j < 135) (h3 : j ≠ 7) : z_c (uw z v) j = z_c z j := by
  have h := z_nw_ok (j - 7) (by omega) (by omega)
  change z_nw (z_sh j) = true at h
  unfold z_c
  split
  next c fs hs => rw [hs] at h; rw [z_fs_othW fs 0 h]
  next t n _ => rfl
  next => rfl
theorem zw_W {T : List (Nat × Nat × Nat)} {v : Nat} (hT : pm_lk T 0 = some (7, 2)) : pm_put T (hp L xs z) 7 (.ref v) = some (hp L xs (uw z v)) := by
  unfold pm_put
  rw [zg_o (c := 0) (fs := _) rfl ⟨lb rfl, lb rfl⟩]
  dsimp only
  rw [hT, Option.bind_some, if_pos ⟨rfl, lb rfl⟩]
  refine congrArg some (zs_s ⟨lb rfl, lb rfl⟩ ?_ ?_ rfl)
  · rfl
  · intro j h1 h2 h3
    exact z_c_othW h1 h2 h3
theorem zw_si {k : Nat} {v : Int32} (hs : z_sh i = .inr (.inl (t, n))) (hi : 7 ≤ i ∧ i < 135) (ht : t < 2) (hn : n < 2147483648) (hk : k < n) : pm_si t (hp L xs z) i (ii k) v = some (hp L xs (ui z i k v)) := by
  have h2 : k < 2147483648 := Nat.lt_trans hk hn
  unfold pm_si
  rw [zg_a hs hi, z_ar01 ht]
  dsimp only
  rw [ii_n h2, if_pos ⟨rfl, hi.1, ii_nn h2, hk⟩, zs_s hi (by rw [z_c, hs]; exact (z_ar01 ht).trans (by rw [ui_i])) (fun j _ _ hj => z_c_oth (ui_o hj) rfl rfl rfl) rfl]
theorem zw_sl {k : Nat} {v : Int64} (hs : z_sh i = .inr (.inl (2, n))) (hi : 7 ≤ i ∧ i < 135) (hn : n < 2147483648) (hk : k < n) : pm_sl (hp L xs z) i (ii k) v = some (hp L xs (ul z i k v)) := by
  have h2 : k < 2147483648 := Nat.lt_trans hk hn
  unfold pm_sl
  rw [zg_a hs hi, z_ar2]
  dsimp only
  rw [ii_n h2, if_pos ⟨rfl, hi.1, ii_nn h2, hk⟩]
  refine congrArg some (zs_s hi ?_ (fun j _ _ hj => z_c_oth rfl rfl (ul_o hj) rfl) rfl)
  rw [z_c, hs]
  show Sum.inl (2, n, _) = _
  rw [ul_i]
end

theorem zr_0 {L : Nat} {xs : Nat → Int32} {z : z_T} : (pm_fI [(0, 8)] (hp L xs z) 7 = some (z.1 7 8)) ∧ (pm_fI [(0, 9)] (hp L xs z) 7 = some (z.1 7 9)) ∧ (pm_fI [(1, 2)] (hp L xs z) 8 = some (z.1 8 2)) ∧ (pm_fI [(1, 2)] (hp L xs z) 11 = some (z.1 11 2)) ∧ (pm_fI [(1, 3)] (hp L xs z) 8 = some (z.1 8 3)) ∧ (pm_fI [(1, 3)] (hp L xs z) 11 = some (z.1 11 3)) ∧ (pm_fI [(2, 0)] (hp L xs z) 14 = some (z.1 14 0)) ∧ (pm_fI [(2, 1)] (hp L xs z) 14 = some (z.1 14 1)) ∧ (pm_fI [(2, 10)] (hp L xs z) 14 = some (z.1 14 10)) ∧ (pm_fI [(2, 2)] (hp L xs z) 14 = some (z.1 14 2)) ∧ (pm_fI [(2, 3)] (hp L xs z) 14 = some (z.1 14 3)) ∧ (pm_fI [(2, 4)] (hp L xs z) 14 = some (z.1 14 4)) ∧ (pm_fI [(2, 5)] (hp L xs z) 14 = some (z.1 14 5)) ∧ (pm_fI [(2, 6)] (hp L xs z) 14 = some (z.1 14 6)) ∧ (pm_fI [(2, 7)] (hp L xs z) 14 = some (z.1 14 7)) ∧ (pm_fI [(2, 8)] (hp L xs z) 14 = some (z.1 14 8)) ∧ (pm_fI [(2, 9)] (hp L xs z) 14 = some (z.1 14 9)) ∧ (pm_fI [(3, 3)] (hp L xs z) 15 = some (z.1 15 3)) ∧ (pm_fI [(3, 3)] (hp L xs z) 35 = some (z.1 35 3)) ∧ (pm_fI [(3, 3)] (hp L xs z) 55 = some (z.1 55 3)) ∧ (pm_fI [(3, 4)] (hp L xs z) 15 = some (z.1 15 4)) ∧ (pm_fI [(3, 4)] (hp L xs z) 35 = some (z.1 35 4)) ∧ (pm_fI [(3, 4)] (hp L xs z) 55 = some (z.1 55 4)) ∧ (pm_fI [(3, 5)] (hp L xs z) 15 = some (z.1 15 5)) ∧ (pm_fI [(3, 5)] (hp L xs z) 35 = some (z.1 35 5)) ∧ (pm_fI [(3, 5)] (hp L xs z) 55 = some (z.1 55 5)) ∧ (pm_fI [(3, 6)] (hp L xs z) 15 = some (z.1 15 6)) ∧ (pm_fI [(3, 6)] (hp L xs z) 35 = some (z.1 35 6)) ∧ (pm_fI [(3, 6)] (hp L xs z) 55 = some (z.1 55 6)) ∧ (pm_fI [(3, 7)] (hp L xs z) 15 = some (z.1 15 7)) ∧ (pm_fI [(3, 7)] (hp L xs z) 35 = some (z.1 35 7)) ∧ (pm_fI [(3, 7)] (hp L xs z) 55 = some (z.1 55 7)) ∧ (pm_fI [(3, 8)] (hp L xs z) 15 = some (z.1 15 8)) ∧ (pm_fI [(3, 8)] (hp L xs z) 35 = some (z.1 35 8)) ∧ (pm_fI [(3, 8)] (hp L xs z) 55 = some (z.1 55 8)) ∧ (pm_fI [(5, 10)] (hp L xs z) 105 = some (z.1 105 10)) ∧ (pm_fI [(5, 12)] (hp L xs z) 105 = some (z.1 105 12)) ∧ (pm_fI [(5, 13)] (hp L xs z) 105 = some (z.1 105 13)) ∧ (pm_fI [(5, 14)] (hp L xs z) 105 = some (z.1 105 14)) ∧ (pm_fI [(5, 15)] (hp L xs z) 105 = some (z.1 105 15)) := ⟨zr_fI rfl ⟨lb rfl, lb rfl⟩ rfl rfl, zr_fI rfl ⟨lb rfl, lb rfl⟩ rfl rfl, zr_fI rfl ⟨lb rfl, lb rfl⟩ rfl rfl, zr_fI rfl ⟨lb rfl, lb rfl⟩ rfl rfl, zr_fI rfl ⟨lb rfl, lb rfl⟩ rfl rfl, zr_fI rfl ⟨lb rfl, lb rfl⟩ rfl rfl, zr_fI rfl ⟨lb rfl, lb rfl⟩ rfl rfl, zr_fI rfl ⟨lb rfl, lb rfl⟩ rfl rfl, zr_fI rfl ⟨lb rfl, lb rfl⟩ rfl rfl, zr_fI rfl ⟨lb rfl, lb rfl⟩ rfl rfl, zr_fI rfl ⟨lb rfl, lb rfl⟩ rfl rfl, zr_fI rfl ⟨lb rfl, lb rfl⟩ rfl rfl, zr_fI rfl ⟨lb rfl, lb rfl⟩ rfl rfl, zr_fI rfl ⟨lb rfl, lb rfl⟩ rfl rfl, zr_fI rfl ⟨lb rfl, lb rfl⟩ rfl rfl, zr_fI rfl ⟨lb rfl, lb rfl⟩ rfl rfl, zr_fI rfl ⟨lb rfl, lb rfl⟩ rfl rfl, zr_fI rfl ⟨lb rfl, lb rfl⟩ rfl rfl, zr_fI rfl ⟨lb rfl, lb rfl⟩ rfl rfl, zr_fI rfl ⟨lb rfl, lb rfl⟩ rfl rfl, zr_fI rfl ⟨lb rfl, lb rfl⟩ rfl rfl, zr_fI rfl ⟨lb rfl, lb rfl⟩ rfl rfl, zr_fI rfl ⟨lb rfl, lb rfl⟩ rfl rfl, zr_fI rfl ⟨lb rfl, lb rfl⟩ rfl rfl, zr_fI rfl ⟨lb rfl, lb rfl⟩ rfl rfl, zr_fI rfl ⟨lb rfl, lb rfl⟩ rfl rfl, zr_fI rfl ⟨lb rfl, lb rfl⟩ rfl rfl, zr_fI rfl ⟨lb rfl, lb rfl⟩ rfl rfl, zr_fI rfl ⟨lb rfl, lb rfl⟩ rfl rfl, zr_fI rfl ⟨lb rfl, lb rfl⟩ rfl rfl, zr_fI rfl ⟨lb rfl, lb rfl⟩ rfl rfl, zr_fI rfl ⟨lb rfl, lb rfl⟩ rfl rfl, zr_fI rfl ⟨lb rfl, lb rfl⟩ rfl rfl, zr_fI rfl ⟨lb rfl, lb rfl⟩ rfl rfl, zr_fI rfl ⟨lb rfl, lb rfl⟩ rfl rfl, zr_fI rfl ⟨lb rfl, lb rfl⟩ rfl rfl, zr_fI rfl ⟨lb rfl, lb rfl⟩ rfl rfl, zr_fI rfl ⟨lb rfl, lb rfl⟩ rfl rfl, zr_fI rfl ⟨lb rfl, lb rfl⟩ rfl rfl, zr_fI rfl ⟨lb rfl, lb rfl⟩ rfl rfl⟩
theorem zr_1 {L : Nat} {xs : Nat → Int32} {z : z_T} : (pm_fI [(5, 16)] (hp L xs z) 105 = some (z.1 105 16)) ∧ (pm_fI [(5, 17)] (hp L xs z) 105 = some (z.1 105 17)) ∧ (pm_fI [(5, 18)] (hp L xs z) 105 = some (z.1 105 18)) ∧ (pm_fI [(5, 19)] (hp L xs z) 105 = some (z.1 105 19)) ∧ (pm_fI [(5, 20)] (hp L xs z) 105 = some (z.1 105 20)) ∧ (pm_fI [(5, 21)] (hp L xs z) 105 = some (z.1 105 21)) ∧ (pm_fI [(5, 35)] (hp L xs z) 105 = some (z.1 105 35)) ∧ (pm_fI [(5, 37)] (hp L xs z) 105 = some (z.1 105 37)) ∧ (pm_fI [(5, 38)] (hp L xs z) 105 = some (z.1 105 38)) ∧ (pm_fI [(5, 39)] (hp L xs z) 105 = some (z.1 105 39)) ∧ (pm_fI [(5, 41)] (hp L xs z) 105 = some (z.1 105 41)) ∧ (pm_fI [(5, 42)] (hp L xs z) 105 = some (z.1 105 42)) ∧ (pm_fI [(5, 43)] (hp L xs z) 105 = some (z.1 105 43)) ∧ (pm_fI [(5, 44)] (hp L xs z) 105 = some (z.1 105 44)) ∧ (pm_fI [(5, 51)] (hp L xs z) 105 = some (z.1 105 51)) ∧ (pm_fI [(5, 7)] (hp L xs z) 105 = some (z.1 105 7)) ∧ (pm_fI [(5, 8)] (hp L xs z) 105 = some (z.1 105 8)) ∧ (pm_fI [(5, 9)] (hp L xs z) 105 = some (z.1 105 9)) ∧ (pm_fR [(0, 0)] (hp L xs z) 7 = some 8) ∧ (pm_fR [(0, 1)] (hp L xs z) 7 = some 11) ∧ (pm_fR [(0, 10)] (hp L xs z) 7 = some 80) ∧ (pm_fR [(0, 11)] (hp L xs z) 7 = some 81) ∧ (pm_fR [(0, 12)] (hp L xs z) 7 = some 82) ∧ (pm_fR [(0, 13)] (hp L xs z) 7 = some 83) ∧ (pm_fR [(0, 14)] (hp L xs z) 7 = some 84) ∧ (pm_fR [(0, 15)] (hp L xs z) 7 = some 85) ∧ (pm_fR [(0, 16)] (hp L xs z) 7 = some 86) ∧ (pm_fR [(0, 17)] (hp L xs z) 7 = some 95) ∧ (pm_fR [(0, 18)] (hp L xs z) 7 = some 104) ∧ (pm_fR [(0, 2)] (hp L xs z) 7 = some 14) ∧ (pm_fR [(0, 3)] (hp L xs z) 7 = some 15) ∧ (pm_fR [(0, 4)] (hp L xs z) 7 = some 35) ∧ (pm_fR [(0, 5)] (hp L xs z) 7 = some 55) ∧ (pm_fR [(0, 6)] (hp L xs z) 7 = some 75) ∧ (pm_fR [(0, 7)] (hp L xs z) 7 = some z.2.2.1) ∧ (pm_fR [(1, 0)] (hp L xs z) 8 = some 9) ∧ (pm_fR [(1, 0)] (hp L xs z) 11 = some 12) ∧ (pm_fR [(1, 1)] (hp L xs z) 8 = some 10) ∧ (pm_fR [(1, 1)] (hp L xs z) 11 = some 13) ∧ (pm_fR [(3, 0)] (hp L xs z) 15 = some 16) := ⟨zr_fI rfl ⟨lb rfl, lb rfl⟩ rfl rfl, zr_fI rfl ⟨lb rfl, lb rfl⟩ rfl rfl, zr_fI rfl ⟨lb rfl, lb rfl⟩ rfl rfl, zr_fI rfl ⟨lb rfl, lb rfl⟩ rfl rfl, zr_fI rfl ⟨lb rfl, lb rfl⟩ rfl rfl, zr_fI rfl ⟨lb rfl, lb rfl⟩ rfl rfl, zr_fI rfl ⟨lb rfl, lb rfl⟩ rfl rfl, zr_fI rfl ⟨lb rfl, lb rfl⟩ rfl rfl, zr_fI rfl ⟨lb rfl, lb rfl⟩ rfl rfl, zr_fI rfl ⟨lb rfl, lb rfl⟩ rfl rfl, zr_fI rfl ⟨lb rfl, lb rfl⟩ rfl rfl, zr_fI rfl ⟨lb rfl, lb rfl⟩ rfl rfl, zr_fI rfl ⟨lb rfl, lb rfl⟩ rfl rfl, zr_fI rfl ⟨lb rfl, lb rfl⟩ rfl rfl, zr_fI rfl ⟨lb rfl, lb rfl⟩ rfl rfl, zr_fI rfl ⟨lb rfl, lb rfl⟩ rfl rfl, zr_fI rfl ⟨lb rfl, lb rfl⟩ rfl rfl, zr_fI rfl ⟨lb rfl, lb rfl⟩ rfl rfl, zr_fR rfl ⟨lb rfl, lb rfl⟩ rfl rfl, zr_fR rfl ⟨lb rfl, lb rfl⟩ rfl rfl, zr_fR rfl ⟨lb rfl, lb rfl⟩ rfl rfl, zr_fR rfl ⟨lb rfl, lb rfl⟩ rfl rfl, zr_fR rfl ⟨lb rfl, lb rfl⟩ rfl rfl, zr_fR rfl ⟨lb rfl, lb rfl⟩ rfl rfl, zr_fR rfl ⟨lb rfl, lb rfl⟩ rfl rfl, zr_fR rfl ⟨lb rfl, lb rfl⟩ rfl rfl, zr_fR rfl ⟨lb rfl, lb rfl⟩ rfl rfl, zr_fR rfl ⟨lb rfl, lb rfl⟩ rfl rfl, zr_fR rfl ⟨lb rfl, lb rfl⟩ rfl rfl, zr_fR rfl ⟨lb rfl, lb rfl⟩ rfl rfl, zr_fR rfl ⟨lb rfl, lb rfl⟩ rfl rfl, zr_fR rfl ⟨lb rfl, lb rfl⟩ rfl rfl, zr_fR rfl ⟨lb rfl, lb rfl⟩ rfl rfl, zr_fR rfl ⟨lb rfl, lb rfl⟩ rfl rfl, zr_fW rfl ⟨lb rfl, lb rfl⟩ rfl rfl, zr_fR rfl ⟨lb rfl, lb rfl⟩ rfl rfl, zr_fR rfl ⟨lb rfl, lb rfl⟩ rfl rfl, zr_fR rfl ⟨lb rfl, lb rfl⟩ rfl rfl, zr_fR rfl ⟨lb rfl, lb rfl⟩ rfl rfl, zr_fR rfl ⟨lb rfl, lb rfl⟩ rfl rfl⟩
theorem zr_2 {L : Nat} {xs : Nat → Int32} {z : z_T} : (pm_fR [(3, 0)] (hp L xs z) 35 = some 36) ∧ (pm_fR [(3, 0)] (hp L xs z) 55 = some 56) ∧ (pm_fR [(3, 1)] (hp L xs z) 15 = some 33) ∧ (pm_fR [(3, 1)] (hp L xs z) 35 = some 53) ∧ (pm_fR [(3, 1)] (hp L xs z) 55 = some 73) ∧ (pm_fR [(3, 2)] (hp L xs z) 15 = some 34) ∧ (pm_fR [(3, 2)] (hp L xs z) 35 = some 54) ∧ (pm_fR [(3, 2)] (hp L xs z) 55 = some 74) ∧ (pm_fR [(3, 9)] (hp L xs z) 15 = some 7) ∧ (pm_fR [(3, 9)] (hp L xs z) 35 = some 7) ∧ (pm_fR [(3, 9)] (hp L xs z) 55 = some 7) ∧ (pm_fR [(5, 0)] (hp L xs z) 105 = some 106) ∧ (pm_fR [(5, 1)] (hp L xs z) 105 = some 107) ∧ (pm_fR [(5, 11)] (hp L xs z) 105 = some 113) ∧ (pm_fR [(5, 2)] (hp L xs z) 105 = some 108) ∧ (pm_fR [(5, 22)] (hp L xs z) 105 = some 114) ∧ (pm_fR [(5, 23)] (hp L xs z) 105 = some 115) ∧ (pm_fR [(5, 24)] (hp L xs z) 105 = some 116) ∧ (pm_fR [(5, 25)] (hp L xs z) 105 = some 117) ∧ (pm_fR [(5, 26)] (hp L xs z) 105 = some 118) ∧ (pm_fR [(5, 27)] (hp L xs z) 105 = some 119) ∧ (pm_fR [(5, 28)] (hp L xs z) 105 = some 120) ∧ (pm_fR [(5, 29)] (hp L xs z) 105 = some 121) ∧ (pm_fR [(5, 3)] (hp L xs z) 105 = some 109) ∧ (pm_fR [(5, 30)] (hp L xs z) 105 = some 122) ∧ (pm_fR [(5, 31)] (hp L xs z) 105 = some 123) ∧ (pm_fR [(5, 32)] (hp L xs z) 105 = some 124) ∧ (pm_fR [(5, 33)] (hp L xs z) 105 = some 125) ∧ (pm_fR [(5, 34)] (hp L xs z) 105 = some 126) ∧ (pm_fR [(5, 36)] (hp L xs z) 105 = some 127) ∧ (pm_fR [(5, 4)] (hp L xs z) 105 = some 110) ∧ (pm_fR [(5, 40)] (hp L xs z) 105 = some 128) ∧ (pm_fR [(5, 45)] (hp L xs z) 105 = some 129) ∧ (pm_fR [(5, 46)] (hp L xs z) 105 = some 130) ∧ (pm_fR [(5, 47)] (hp L xs z) 105 = some 131) ∧ (pm_fR [(5, 48)] (hp L xs z) 105 = some 132) ∧ (pm_fR [(5, 49)] (hp L xs z) 105 = some 133) ∧ (pm_fR [(5, 5)] (hp L xs z) 105 = some 111) ∧ (pm_fR [(5, 50)] (hp L xs z) 105 = some 134) ∧ (pm_fR [(5, 6)] (hp L xs z) 105 = some 112) := ⟨zr_fR rfl ⟨lb rfl, lb rfl⟩ rfl rfl, zr_fR rfl ⟨lb rfl, lb rfl⟩ rfl rfl, zr_fR rfl ⟨lb rfl, lb rfl⟩ rfl rfl, zr_fR rfl ⟨lb rfl, lb rfl⟩ rfl rfl, zr_fR rfl ⟨lb rfl, lb rfl⟩ rfl rfl, zr_fR rfl ⟨lb rfl, lb rfl⟩ rfl rfl, zr_fR rfl ⟨lb rfl, lb rfl⟩ rfl rfl, zr_fR rfl ⟨lb rfl, lb rfl⟩ rfl rfl, zr_fR rfl ⟨lb rfl, lb rfl⟩ rfl rfl, zr_fR rfl ⟨lb rfl, lb rfl⟩ rfl rfl, zr_fR rfl ⟨lb rfl, lb rfl⟩ rfl rfl, zr_fR rfl ⟨lb rfl, lb rfl⟩ rfl rfl, zr_fR rfl ⟨lb rfl, lb rfl⟩ rfl rfl, zr_fR rfl ⟨lb rfl, lb rfl⟩ rfl rfl, zr_fR rfl ⟨lb rfl, lb rfl⟩ rfl rfl, zr_fR rfl ⟨lb rfl, lb rfl⟩ rfl rfl, zr_fR rfl ⟨lb rfl, lb rfl⟩ rfl rfl, zr_fR rfl ⟨lb rfl, lb rfl⟩ rfl rfl, zr_fR rfl ⟨lb rfl, lb rfl⟩ rfl rfl, zr_fR rfl ⟨lb rfl, lb rfl⟩ rfl rfl, zr_fR rfl ⟨lb rfl, lb rfl⟩ rfl rfl, zr_fR rfl ⟨lb rfl, lb rfl⟩ rfl rfl, zr_fR rfl ⟨lb rfl, lb rfl⟩ rfl rfl, zr_fR rfl ⟨lb rfl, lb rfl⟩ rfl rfl, zr_fR rfl ⟨lb rfl, lb rfl⟩ rfl rfl, zr_fR rfl ⟨lb rfl, lb rfl⟩ rfl rfl, zr_fR rfl ⟨lb rfl, lb rfl⟩ rfl rfl, zr_fR rfl ⟨lb rfl, lb rfl⟩ rfl rfl, zr_fR rfl ⟨lb rfl, lb rfl⟩ rfl rfl, zr_fR rfl ⟨lb rfl, lb rfl⟩ rfl rfl, zr_fR rfl ⟨lb rfl, lb rfl⟩ rfl rfl, zr_fR rfl ⟨lb rfl, lb rfl⟩ rfl rfl, zr_fR rfl ⟨lb rfl, lb rfl⟩ rfl rfl, zr_fR rfl ⟨lb rfl, lb rfl⟩ rfl rfl, zr_fR rfl ⟨lb rfl, lb rfl⟩ rfl rfl, zr_fR rfl ⟨lb rfl, lb rfl⟩ rfl rfl, zr_fR rfl ⟨lb rfl, lb rfl⟩ rfl rfl, zr_fR rfl ⟨lb rfl, lb rfl⟩ rfl rfl, zr_fR rfl ⟨lb rfl, lb rfl⟩ rfl rfl, zr_fR rfl ⟨lb rfl, lb rfl⟩ rfl rfl⟩
theorem zr_3 {L : Nat} {xs : Nat → Int32} {z : z_T} : (pm_cl_ (hp L xs z) 7 = some 0) ∧ (pm_cl_ (hp L xs z) 8 = some 1) ∧ (pm_cl_ (hp L xs z) 11 = some 1) ∧ (pm_cl_ (hp L xs z) 14 = some 2) ∧ (pm_cl_ (hp L xs z) 15 = some 3) ∧ (pm_cl_ (hp L xs z) 35 = some 3) ∧ (pm_cl_ (hp L xs z) 55 = some 3) ∧ (pm_cl_ (hp L xs z) 105 = some 5) ∧ (pm_len (hp L xs z) 9 = some 16) ∧ (pm_len (hp L xs z) 10 = some 16) ∧ (pm_len (hp L xs z) 12 = some 16) ∧ (pm_len (hp L xs z) 13 = some 16) ∧ (pm_len (hp L xs z) 16 = some 16) ∧ (pm_len (hp L xs z) 17 = some 16) ∧ (pm_len (hp L xs z) 18 = some 16) ∧ (pm_len (hp L xs z) 19 = some 16) ∧ (pm_len (hp L xs z) 20 = some 16) ∧ (pm_len (hp L xs z) 21 = some 16) ∧ (pm_len (hp L xs z) 22 = some 16) ∧ (pm_len (hp L xs z) 23 = some 16) ∧ (pm_len (hp L xs z) 24 = some 16) ∧ (pm_len (hp L xs z) 25 = some 16) ∧ (pm_len (hp L xs z) 26 = some 16) ∧ (pm_len (hp L xs z) 27 = some 16) ∧ (pm_len (hp L xs z) 28 = some 16) ∧ (pm_len (hp L xs z) 29 = some 16) ∧ (pm_len (hp L xs z) 30 = some 16) ∧ (pm_len (hp L xs z) 31 = some 16) ∧ (pm_len (hp L xs z) 32 = some 16) ∧ (pm_len (hp L xs z) 33 = some 16) ∧ (pm_len (hp L xs z) 34 = some 16) ∧ (pm_len (hp L xs z) 36 = some 16) ∧ (pm_len (hp L xs z) 37 = some 16) ∧ (pm_len (hp L xs z) 38 = some 16) ∧ (pm_len (hp L xs z) 39 = some 16) ∧ (pm_len (hp L xs z) 40 = some 16) ∧ (pm_len (hp L xs z) 41 = some 16) ∧ (pm_len (hp L xs z) 42 = some 16) ∧ (pm_len (hp L xs z) 43 = some 16) ∧ (pm_len (hp L xs z) 44 = some 16) := ⟨zr_cl rfl ⟨lb rfl, lb rfl⟩, zr_cl rfl ⟨lb rfl, lb rfl⟩, zr_cl rfl ⟨lb rfl, lb rfl⟩, zr_cl rfl ⟨lb rfl, lb rfl⟩, zr_cl rfl ⟨lb rfl, lb rfl⟩, zr_cl rfl ⟨lb rfl, lb rfl⟩, zr_cl rfl ⟨lb rfl, lb rfl⟩, zr_cl rfl ⟨lb rfl, lb rfl⟩, zr_len rfl ⟨lb rfl, lb rfl⟩ (lb rfl), zr_len rfl ⟨lb rfl, lb rfl⟩ (lb rfl), zr_len rfl ⟨lb rfl, lb rfl⟩ (lb rfl), zr_len rfl ⟨lb rfl, lb rfl⟩ (lb rfl), zr_len rfl ⟨lb rfl, lb rfl⟩ (lb rfl), zr_len rfl ⟨lb rfl, lb rfl⟩ (lb rfl), zr_len rfl ⟨lb rfl, lb rfl⟩ (lb rfl), zr_len rfl ⟨lb rfl, lb rfl⟩ (lb rfl), zr_len rfl ⟨lb rfl, lb rfl⟩ (lb rfl), zr_len rfl ⟨lb rfl, lb rfl⟩ (lb rfl), zr_len rfl ⟨lb rfl, lb rfl⟩ (lb rfl), zr_len rfl ⟨lb rfl, lb rfl⟩ (lb rfl), zr_len rfl ⟨lb rfl, lb rfl⟩ (lb rfl), zr_len rfl ⟨lb rfl, lb rfl⟩ (lb rfl), zr_len rfl ⟨lb rfl, lb rfl⟩ (lb rfl), zr_len rfl ⟨lb rfl, lb rfl⟩ (lb rfl), zr_len rfl ⟨lb rfl, lb rfl⟩ (lb rfl), zr_len rfl ⟨lb rfl, lb rfl⟩ (lb rfl), zr_len rfl ⟨lb rfl, lb rfl⟩ (lb rfl), zr_len rfl ⟨lb rfl, lb rfl⟩ (lb rfl), zr_len rfl ⟨lb rfl, lb rfl⟩ (lb rfl), zr_len rfl ⟨lb rfl, lb rfl⟩ (lb rfl), zr_len rfl ⟨lb rfl, lb rfl⟩ (lb rfl), zr_len rfl ⟨lb rfl, lb rfl⟩ (lb rfl), zr_len rfl ⟨lb rfl, lb rfl⟩ (lb rfl), zr_len rfl ⟨lb rfl, lb rfl⟩ (lb rfl), zr_len rfl ⟨lb rfl, lb rfl⟩ (lb rfl), zr_len rfl ⟨lb rfl, lb rfl⟩ (lb rfl), zr_len rfl ⟨lb rfl, lb rfl⟩ (lb rfl), zr_len rfl ⟨lb rfl, lb rfl⟩ (lb rfl), zr_len rfl ⟨lb rfl, lb rfl⟩ (lb rfl), zr_len rfl ⟨lb rfl, lb rfl⟩ (lb rfl)⟩
theorem zr_4 {L : Nat} {xs : Nat → Int32} {z : z_T} : (pm_len (hp L xs z) 45 = some 16) ∧ (pm_len (hp L xs z) 46 = some 16) ∧ (pm_len (hp L xs z) 47 = some 16) ∧ (pm_len (hp L xs z) 48 = some 16) ∧ (pm_len (hp L xs z) 49 = some 16) ∧ (pm_len (hp L xs z) 50 = some 16) ∧ (pm_len (hp L xs z) 51 = some 16) ∧ (pm_len (hp L xs z) 52 = some 16) ∧ (pm_len (hp L xs z) 53 = some 16) ∧ (pm_len (hp L xs z) 54 = some 16) ∧ (pm_len (hp L xs z) 56 = some 16) ∧ (pm_len (hp L xs z) 57 = some 16) ∧ (pm_len (hp L xs z) 58 = some 16) ∧ (pm_len (hp L xs z) 59 = some 16) ∧ (pm_len (hp L xs z) 60 = some 16) ∧ (pm_len (hp L xs z) 61 = some 16) ∧ (pm_len (hp L xs z) 62 = some 16) ∧ (pm_len (hp L xs z) 63 = some 16) ∧ (pm_len (hp L xs z) 64 = some 16) ∧ (pm_len (hp L xs z) 65 = some 16) ∧ (pm_len (hp L xs z) 66 = some 16) ∧ (pm_len (hp L xs z) 67 = some 16) ∧ (pm_len (hp L xs z) 68 = some 16) ∧ (pm_len (hp L xs z) 69 = some 16) ∧ (pm_len (hp L xs z) 70 = some 16) ∧ (pm_len (hp L xs z) 71 = some 16) ∧ (pm_len (hp L xs z) 72 = some 16) ∧ (pm_len (hp L xs z) 73 = some 16) ∧ (pm_len (hp L xs z) 74 = some 16) ∧ (pm_len (hp L xs z) 75 = some 260) ∧ (pm_len (hp L xs z) 80 = some 65536) ∧ (pm_len (hp L xs z) 81 = some 16) ∧ (pm_len (hp L xs z) 82 = some 65536) ∧ (pm_len (hp L xs z) 83 = some 256) ∧ (pm_len (hp L xs z) 84 = some 8) ∧ (pm_len (hp L xs z) 85 = some 8) ∧ (pm_len (hp L xs z) 86 = some 8) ∧ (pm_len (hp L xs z) 87 = some 8) ∧ (pm_len (hp L xs z) 88 = some 8) ∧ (pm_len (hp L xs z) 89 = some 8) := ⟨zr_len rfl ⟨lb rfl, lb rfl⟩ (lb rfl), zr_len rfl ⟨lb rfl, lb rfl⟩ (lb rfl), zr_len rfl ⟨lb rfl, lb rfl⟩ (lb rfl), zr_len rfl ⟨lb rfl, lb rfl⟩ (lb rfl), zr_len rfl ⟨lb rfl, lb rfl⟩ (lb rfl), zr_len rfl ⟨lb rfl, lb rfl⟩ (lb rfl), zr_len rfl ⟨lb rfl, lb rfl⟩ (lb rfl), zr_len rfl ⟨lb rfl, lb rfl⟩ (lb rfl), zr_len rfl ⟨lb rfl, lb rfl⟩ (lb rfl), zr_len rfl ⟨lb rfl, lb rfl⟩ (lb rfl), zr_len rfl ⟨lb rfl, lb rfl⟩ (lb rfl), zr_len rfl ⟨lb rfl, lb rfl⟩ (lb rfl), zr_len rfl ⟨lb rfl, lb rfl⟩ (lb rfl), zr_len rfl ⟨lb rfl, lb rfl⟩ (lb rfl), zr_len rfl ⟨lb rfl, lb rfl⟩ (lb rfl), zr_len rfl ⟨lb rfl, lb rfl⟩ (lb rfl), zr_len rfl ⟨lb rfl, lb rfl⟩ (lb rfl), zr_len rfl ⟨lb rfl, lb rfl⟩ (lb rfl), zr_len rfl ⟨lb rfl, lb rfl⟩ (lb rfl), zr_len rfl ⟨lb rfl, lb rfl⟩ (lb rfl), zr_len rfl ⟨lb rfl, lb rfl⟩ (lb rfl), zr_len rfl ⟨lb rfl, lb rfl⟩ (lb rfl), zr_len rfl ⟨lb rfl, lb rfl⟩ (lb rfl), zr_len rfl ⟨lb rfl, lb rfl⟩ (lb rfl), zr_len rfl ⟨lb rfl, lb rfl⟩ (lb rfl), zr_len rfl ⟨lb rfl, lb rfl⟩ (lb rfl), zr_len rfl ⟨lb rfl, lb rfl⟩ (lb rfl), zr_len rfl ⟨lb rfl, lb rfl⟩ (lb rfl), zr_len rfl ⟨lb rfl, lb rfl⟩ (lb rfl), zr_len rfl ⟨lb rfl, lb rfl⟩ (lb rfl), zr_len rfl ⟨lb rfl, lb rfl⟩ (lb rfl), zr_len rfl ⟨lb rfl, lb rfl⟩ (lb rfl), zr_len rfl ⟨lb rfl, lb rfl⟩ (lb rfl), zr_len rfl ⟨lb rfl, lb rfl⟩ (lb rfl), zr_len rfl ⟨lb rfl, lb rfl⟩ (lb rfl), zr_len rfl ⟨lb rfl, lb rfl⟩ (lb rfl), zr_len rfl ⟨lb rfl, lb rfl⟩ (lb rfl), zr_len rfl ⟨lb rfl, lb rfl⟩ (lb rfl), zr_len rfl ⟨lb rfl, lb rfl⟩ (lb rfl), zr_len rfl ⟨lb rfl, lb rfl⟩ (lb rfl)⟩
theorem zr_5 {L : Nat} {xs : Nat → Int32} {z : z_T} : (pm_len (hp L xs z) 90 = some 8) ∧ (pm_len (hp L xs z) 91 = some 8) ∧ (pm_len (hp L xs z) 92 = some 8) ∧ (pm_len (hp L xs z) 93 = some 8) ∧ (pm_len (hp L xs z) 94 = some 8) ∧ (pm_len (hp L xs z) 95 = some 8) ∧ (pm_len (hp L xs z) 96 = some 8) ∧ (pm_len (hp L xs z) 97 = some 8) ∧ (pm_len (hp L xs z) 98 = some 8) ∧ (pm_len (hp L xs z) 99 = some 8) ∧ (pm_len (hp L xs z) 100 = some 8) ∧ (pm_len (hp L xs z) 101 = some 8) ∧ (pm_len (hp L xs z) 102 = some 8) ∧ (pm_len (hp L xs z) 103 = some 8) ∧ (pm_len (hp L xs z) 104 = some 256) ∧ (pm_len (hp L xs z) 106 = some 274) ∧ (pm_len (hp L xs z) 107 = some 274) ∧ (pm_len (hp L xs z) 108 = some 274) ∧ (pm_len (hp L xs z) 109 = some 16) ∧ (pm_len (hp L xs z) 110 = some 16) ∧ (pm_len (hp L xs z) 111 = some 16) ∧ (pm_len (hp L xs z) 112 = some 16) ∧ (pm_len (hp L xs z) 113 = some 260) ∧ (pm_len (hp L xs z) 114 = some 260) ∧ (pm_len (hp L xs z) 115 = some 260) ∧ (pm_len (hp L xs z) 116 = some 16) ∧ (pm_len (hp L xs z) 117 = some 16) ∧ (pm_len (hp L xs z) 118 = some 16) ∧ (pm_len (hp L xs z) 119 = some 16) ∧ (pm_len (hp L xs z) 120 = some 260) ∧ (pm_len (hp L xs z) 121 = some 16) ∧ (pm_len (hp L xs z) 122 = some 16) ∧ (pm_len (hp L xs z) 123 = some 16) ∧ (pm_len (hp L xs z) 124 = some 16) ∧ (pm_len (hp L xs z) 125 = some 260) ∧ (pm_len (hp L xs z) 126 = some 10) ∧ (pm_len (hp L xs z) 127 = some 16) ∧ (pm_len (hp L xs z) 128 = some 16) ∧ (pm_len (hp L xs z) 129 = some 65536) ∧ (pm_len (hp L xs z) 130 = some 16) := ⟨zr_len rfl ⟨lb rfl, lb rfl⟩ (lb rfl), zr_len rfl ⟨lb rfl, lb rfl⟩ (lb rfl), zr_len rfl ⟨lb rfl, lb rfl⟩ (lb rfl), zr_len rfl ⟨lb rfl, lb rfl⟩ (lb rfl), zr_len rfl ⟨lb rfl, lb rfl⟩ (lb rfl), zr_len rfl ⟨lb rfl, lb rfl⟩ (lb rfl), zr_len rfl ⟨lb rfl, lb rfl⟩ (lb rfl), zr_len rfl ⟨lb rfl, lb rfl⟩ (lb rfl), zr_len rfl ⟨lb rfl, lb rfl⟩ (lb rfl), zr_len rfl ⟨lb rfl, lb rfl⟩ (lb rfl), zr_len rfl ⟨lb rfl, lb rfl⟩ (lb rfl), zr_len rfl ⟨lb rfl, lb rfl⟩ (lb rfl), zr_len rfl ⟨lb rfl, lb rfl⟩ (lb rfl), zr_len rfl ⟨lb rfl, lb rfl⟩ (lb rfl), zr_len rfl ⟨lb rfl, lb rfl⟩ (lb rfl), zr_len rfl ⟨lb rfl, lb rfl⟩ (lb rfl), zr_len rfl ⟨lb rfl, lb rfl⟩ (lb rfl), zr_len rfl ⟨lb rfl, lb rfl⟩ (lb rfl), zr_len rfl ⟨lb rfl, lb rfl⟩ (lb rfl), zr_len rfl ⟨lb rfl, lb rfl⟩ (lb rfl), zr_len rfl ⟨lb rfl, lb rfl⟩ (lb rfl), zr_len rfl ⟨lb rfl, lb rfl⟩ (lb rfl), zr_len rfl ⟨lb rfl, lb rfl⟩ (lb rfl), zr_len rfl ⟨lb rfl, lb rfl⟩ (lb rfl), zr_len rfl ⟨lb rfl, lb rfl⟩ (lb rfl), zr_len rfl ⟨lb rfl, lb rfl⟩ (lb rfl), zr_len rfl ⟨lb rfl, lb rfl⟩ (lb rfl), zr_len rfl ⟨lb rfl, lb rfl⟩ (lb rfl), zr_len rfl ⟨lb rfl, lb rfl⟩ (lb rfl), zr_len rfl ⟨lb rfl, lb rfl⟩ (lb rfl), zr_len rfl ⟨lb rfl, lb rfl⟩ (lb rfl), zr_len rfl ⟨lb rfl, lb rfl⟩ (lb rfl), zr_len rfl ⟨lb rfl, lb rfl⟩ (lb rfl), zr_len rfl ⟨lb rfl, lb rfl⟩ (lb rfl), zr_len rfl ⟨lb rfl, lb rfl⟩ (lb rfl), zr_len rfl ⟨lb rfl, lb rfl⟩ (lb rfl), zr_len rfl ⟨lb rfl, lb rfl⟩ (lb rfl), zr_len rfl ⟨lb rfl, lb rfl⟩ (lb rfl), zr_len rfl ⟨lb rfl, lb rfl⟩ (lb rfl), zr_len rfl ⟨lb rfl, lb rfl⟩ (lb rfl)⟩
theorem zr_6 {L : Nat} {xs : Nat → Int32} {z : z_T} : (pm_len (hp L xs z) 131 = some 65536) ∧ (pm_len (hp L xs z) 132 = some 256) ∧ (pm_len (hp L xs z) 133 = some 8) ∧ (pm_len (hp L xs z) 134 = some 2048) := ⟨zr_len rfl ⟨lb rfl, lb rfl⟩ (lb rfl), zr_len rfl ⟨lb rfl, lb rfl⟩ (lb rfl), zr_len rfl ⟨lb rfl, lb rfl⟩ (lb rfl), zr_len rfl ⟨lb rfl, lb rfl⟩ (lb rfl)⟩
theorem zw_0 {L : Nat} {xs : Nat → Int32} {z : z_T} : (∀ v, pm_put [(0, 7, 2)] (hp L xs z) 7 (.ref v) = some (hp L xs (uw z v))) ∧ (∀ v, pm_put [(0, 8, 0)] (hp L xs z) 7 (.int v) = some (hp L xs (ui z 7 8 v))) ∧ (pm_put [(0, 9, 1)] (hp L xs z) 7 (.int 0) = some (hp L xs (ui z 7 9 0))) ∧ (pm_put [(0, 9, 1)] (hp L xs z) 7 (.int 1) = some (hp L xs (ui z 7 9 1))) ∧ (∀ v, pm_put [(1, 2, 0)] (hp L xs z) 8 (.int v) = some (hp L xs (ui z 8 2 v))) ∧ (∀ v, pm_put [(1, 2, 0)] (hp L xs z) 11 (.int v) = some (hp L xs (ui z 11 2 v))) ∧ (∀ v, pm_put [(1, 3, 0)] (hp L xs z) 8 (.int v) = some (hp L xs (ui z 8 3 v))) ∧ (∀ v, pm_put [(1, 3, 0)] (hp L xs z) 11 (.int v) = some (hp L xs (ui z 11 3 v))) ∧ (pm_put [(2, 0, 1)] (hp L xs z) 14 (.int 0) = some (hp L xs (ui z 14 0 0))) ∧ (pm_put [(2, 0, 1)] (hp L xs z) 14 (.int 1) = some (hp L xs (ui z 14 0 1))) ∧ (∀ v, pm_put [(2, 1, 0)] (hp L xs z) 14 (.int v) = some (hp L xs (ui z 14 1 v))) ∧ (∀ v, pm_put [(2, 10, 0)] (hp L xs z) 14 (.int v) = some (hp L xs (ui z 14 10 v))) ∧ (∀ v, pm_put [(2, 2, 0)] (hp L xs z) 14 (.int v) = some (hp L xs (ui z 14 2 v))) ∧ (∀ v, pm_put [(2, 3, 0)] (hp L xs z) 14 (.int v) = some (hp L xs (ui z 14 3 v))) ∧ (∀ v, pm_put [(2, 4, 0)] (hp L xs z) 14 (.int v) = some (hp L xs (ui z 14 4 v))) ∧ (∀ v, pm_put [(2, 5, 0)] (hp L xs z) 14 (.int v) = some (hp L xs (ui z 14 5 v))) ∧ (∀ v, pm_put [(2, 6, 0)] (hp L xs z) 14 (.int v) = some (hp L xs (ui z 14 6 v))) ∧ (∀ v, pm_put [(2, 7, 0)] (hp L xs z) 14 (.int v) = some (hp L xs (ui z 14 7 v))) ∧ (∀ v, pm_put [(2, 8, 0)] (hp L xs z) 14 (.int v) = some (hp L xs (ui z 14 8 v))) ∧ (∀ v, pm_put [(2, 9, 0)] (hp L xs z) 14 (.int v) = some (hp L xs (ui z 14 9 v))) ∧ (∀ v, pm_put [(3, 3, 0)] (hp L xs z) 15 (.int v) = some (hp L xs (ui z 15 3 v))) ∧ (∀ v, pm_put [(3, 3, 0)] (hp L xs z) 35 (.int v) = some (hp L xs (ui z 35 3 v))) ∧ (∀ v, pm_put [(3, 3, 0)] (hp L xs z) 55 (.int v) = some (hp L xs (ui z 55 3 v))) ∧ (∀ v, pm_put [(3, 4, 0)] (hp L xs z) 15 (.int v) = some (hp L xs (ui z 15 4 v))) ∧ (∀ v, pm_put [(3, 4, 0)] (hp L xs z) 35 (.int v) = some (hp L xs (ui z 35 4 v))) ∧ (∀ v, pm_put [(3, 4, 0)] (hp L xs z) 55 (.int v) = some (hp L xs (ui z 55 4 v))) ∧ (∀ v, pm_put [(3, 5, 0)] (hp L xs z) 15 (.int v) = some (hp L xs (ui z 15 5 v))) ∧ (∀ v, pm_put [(3, 5, 0)] (hp L xs z) 35 (.int v) = some (hp L xs (ui z 35 5 v))) ∧ (∀ v, pm_put [(3, 5, 0)] (hp L xs z) 55 (.int v) = some (hp L xs (ui z 55 5 v))) ∧ (∀ v, pm_put [(3, 6, 0)] (hp L xs z) 15 (.int v) = some (hp L xs (ui z 15 6 v))) ∧ (∀ v, pm_put [(3, 6, 0)] (hp L xs z) 35 (.int v) = some (hp L xs (ui z 35 6 v))) ∧ (∀ v, pm_put [(3, 6, 0)] (hp L xs z) 55 (.int v) = some (hp L xs (ui z 55 6 v))) ∧ (∀ v, pm_put [(3, 7, 0)] (hp L xs z) 15 (.int v) = some (hp L xs (ui z 15 7 v))) ∧ (∀ v, pm_put [(3, 7, 0)] (hp L xs z) 35 (.int v) = some (hp L xs (ui z 35 7 v))) ∧ (∀ v, pm_put [(3, 7, 0)] (hp L xs z) 55 (.int v) = some (hp L xs (ui z 55 7 v))) ∧ (∀ v, pm_put [(3, 8, 0)] (hp L xs z) 15 (.int v) = some (hp L xs (ui z 15 8 v))) ∧ (∀ v, pm_put [(3, 8, 0)] (hp L xs z) 35 (.int v) = some (hp L xs (ui z 35 8 v))) ∧ (∀ v, pm_put [(3, 8, 0)] (hp L xs z) 55 (.int v) = some (hp L xs (ui z 55 8 v))) ∧ (∀ v, pm_put [(5, 10, 0)] (hp L xs z) 105 (.int v) = some (hp L xs (ui z 105 10 v))) ∧ (∀ v, pm_put [(5, 12, 0)] (hp L xs z) 105 (.int v) = some (hp L xs (ui z 105 12 v))) := ⟨fun v => zw_W rfl, fun v => zw_put rfl ⟨lb rfl, lb rfl⟩ rfl rfl rfl, zw_put rfl ⟨lb rfl, lb rfl⟩ rfl rfl rfl, zw_put rfl ⟨lb rfl, lb rfl⟩ rfl rfl rfl, fun v => zw_put rfl ⟨lb rfl, lb rfl⟩ rfl rfl rfl, fun v => zw_put rfl ⟨lb rfl, lb rfl⟩ rfl rfl rfl, fun v => zw_put rfl ⟨lb rfl, lb rfl⟩ rfl rfl rfl, fun v => zw_put rfl ⟨lb rfl, lb rfl⟩ rfl rfl rfl, zw_put rfl ⟨lb rfl, lb rfl⟩ rfl rfl rfl, zw_put rfl ⟨lb rfl, lb rfl⟩ rfl rfl rfl, fun v => zw_put rfl ⟨lb rfl, lb rfl⟩ rfl rfl rfl, fun v => zw_put rfl ⟨lb rfl, lb rfl⟩ rfl rfl rfl, fun v => zw_put rfl ⟨lb rfl, lb rfl⟩ rfl rfl rfl, fun v => zw_put rfl ⟨lb rfl, lb rfl⟩ rfl rfl rfl, fun v => zw_put rfl ⟨lb rfl, lb rfl⟩ rfl rfl rfl, fun v => zw_put rfl ⟨lb rfl, lb rfl⟩ rfl rfl rfl, fun v => zw_put rfl ⟨lb rfl, lb rfl⟩ rfl rfl rfl, fun v => zw_put rfl ⟨lb rfl, lb rfl⟩ rfl rfl rfl, fun v => zw_put rfl ⟨lb rfl, lb rfl⟩ rfl rfl rfl, fun v => zw_put rfl ⟨lb rfl, lb rfl⟩ rfl rfl rfl, fun v => zw_put rfl ⟨lb rfl, lb rfl⟩ rfl rfl rfl, fun v => zw_put rfl ⟨lb rfl, lb rfl⟩ rfl rfl rfl, fun v => zw_put rfl ⟨lb rfl, lb rfl⟩ rfl rfl rfl, fun v => zw_put rfl ⟨lb rfl, lb rfl⟩ rfl rfl rfl, fun v => zw_put rfl ⟨lb rfl, lb rfl⟩ rfl rfl rfl, fun v => zw_put rfl ⟨lb rfl, lb rfl⟩ rfl rfl rfl, fun v => zw_put rfl ⟨lb rfl, lb rfl⟩ rfl rfl rfl, fun v => zw_put rfl ⟨lb rfl, lb rfl⟩ rfl rfl rfl, fun v => zw_put rfl ⟨lb rfl, lb rfl⟩ rfl rfl rfl, fun v => zw_put rfl ⟨lb rfl, lb rfl⟩ rfl rfl rfl, fun v => zw_put rfl ⟨lb rfl, lb rfl⟩ rfl rfl rfl, fun v => zw_put rfl ⟨lb rfl, lb rfl⟩ rfl rfl rfl, fun v => zw_put rfl ⟨lb rfl, lb rfl⟩ rfl rfl rfl, fun v => zw_put rfl ⟨lb rfl, lb rfl⟩ rfl rfl rfl, fun v => zw_put rfl ⟨lb rfl, lb rfl⟩ rfl rfl rfl, fun v => zw_put rfl ⟨lb rfl, lb rfl⟩ rfl rfl rfl, fun v => zw_put rfl ⟨lb rfl, lb rfl⟩ rfl rfl rfl, fun v => zw_put rfl ⟨lb rfl, lb rfl⟩ rfl rfl rfl, fun v => zw_put rfl ⟨lb rfl, lb rfl⟩ rfl rfl rfl, fun v => zw_put rfl ⟨lb rfl, lb rfl⟩ rfl rfl rfl⟩
theorem zw_1 {L : Nat} {xs : Nat → Int32} {z : z_T} : (∀ v, pm_put [(5, 13, 0)] (hp L xs z) 105 (.int v) = some (hp L xs (ui z 105 13 v))) ∧ (∀ v, pm_put [(5, 14, 0)] (hp L xs z) 105 (.int v) = some (hp L xs (ui z 105 14 v))) ∧ (∀ v, pm_put [(5, 15, 0)] (hp L xs z) 105 (.int v) = some (hp L xs (ui z 105 15 v))) ∧ (∀ v, pm_put [(5, 16, 0)] (hp L xs z) 105 (.int v) = some (hp L xs (ui z 105 16 v))) ∧ (∀ v, pm_put [(5, 17, 0)] (hp L xs z) 105 (.int v) = some (hp L xs (ui z 105 17 v))) ∧ (∀ v, pm_put [(5, 18, 0)] (hp L xs z) 105 (.int v) = some (hp L xs (ui z 105 18 v))) ∧ (∀ v, pm_put [(5, 19, 0)] (hp L xs z) 105 (.int v) = some (hp L xs (ui z 105 19 v))) ∧ (∀ v, pm_put [(5, 20, 0)] (hp L xs z) 105 (.int v) = some (hp L xs (ui z 105 20 v))) ∧ (∀ v, pm_put [(5, 21, 0)] (hp L xs z) 105 (.int v) = some (hp L xs (ui z 105 21 v))) ∧ (∀ v, pm_put [(5, 35, 0)] (hp L xs z) 105 (.int v) = some (hp L xs (ui z 105 35 v))) ∧ (∀ v, pm_put [(5, 37, 0)] (hp L xs z) 105 (.int v) = some (hp L xs (ui z 105 37 v))) ∧ (∀ v, pm_put [(5, 38, 0)] (hp L xs z) 105 (.int v) = some (hp L xs (ui z 105 38 v))) ∧ (∀ v, pm_put [(5, 39, 0)] (hp L xs z) 105 (.int v) = some (hp L xs (ui z 105 39 v))) ∧ (∀ v, pm_put [(5, 41, 0)] (hp L xs z) 105 (.int v) = some (hp L xs (ui z 105 41 v))) ∧ (∀ v, pm_put [(5, 42, 0)] (hp L xs z) 105 (.int v) = some (hp L xs (ui z 105 42 v))) ∧ (∀ v, pm_put [(5, 43, 0)] (hp L xs z) 105 (.int v) = some (hp L xs (ui z 105 43 v))) ∧ (∀ v, pm_put [(5, 44, 0)] (hp L xs z) 105 (.int v) = some (hp L xs (ui z 105 44 v))) ∧ (pm_put [(5, 51, 1)] (hp L xs z) 105 (.int 0) = some (hp L xs (ui z 105 51 0))) ∧ (pm_put [(5, 51, 1)] (hp L xs z) 105 (.int 1) = some (hp L xs (ui z 105 51 1))) ∧ (∀ v, pm_put [(5, 7, 0)] (hp L xs z) 105 (.int v) = some (hp L xs (ui z 105 7 v))) ∧ (∀ v, pm_put [(5, 8, 0)] (hp L xs z) 105 (.int v) = some (hp L xs (ui z 105 8 v))) ∧ (∀ v, pm_put [(5, 9, 0)] (hp L xs z) 105 (.int v) = some (hp L xs (ui z 105 9 v))) := ⟨fun v => zw_put rfl ⟨lb rfl, lb rfl⟩ rfl rfl rfl, fun v => zw_put rfl ⟨lb rfl, lb rfl⟩ rfl rfl rfl, fun v => zw_put rfl ⟨lb rfl, lb rfl⟩ rfl rfl rfl, fun v => zw_put rfl ⟨lb rfl, lb rfl⟩ rfl rfl rfl, fun v => zw_put rfl ⟨lb rfl, lb rfl⟩ rfl rfl rfl, fun v => zw_put rfl ⟨lb rfl, lb rfl⟩ rfl rfl rfl, fun v => zw_put rfl ⟨lb rfl, lb rfl⟩ rfl rfl rfl, fun v => zw_put rfl ⟨lb rfl, lb rfl⟩ rfl rfl rfl, fun v => zw_put rfl ⟨lb rfl, lb rfl⟩ rfl rfl rfl, fun v => zw_put rfl ⟨lb rfl, lb rfl⟩ rfl rfl rfl, fun v => zw_put rfl ⟨lb rfl, lb rfl⟩ rfl rfl rfl, fun v => zw_put rfl ⟨lb rfl, lb rfl⟩ rfl rfl rfl, fun v => zw_put rfl ⟨lb rfl, lb rfl⟩ rfl rfl rfl, fun v => zw_put rfl ⟨lb rfl, lb rfl⟩ rfl rfl rfl, fun v => zw_put rfl ⟨lb rfl, lb rfl⟩ rfl rfl rfl, fun v => zw_put rfl ⟨lb rfl, lb rfl⟩ rfl rfl rfl, fun v => zw_put rfl ⟨lb rfl, lb rfl⟩ rfl rfl rfl, zw_put rfl ⟨lb rfl, lb rfl⟩ rfl rfl rfl, zw_put rfl ⟨lb rfl, lb rfl⟩ rfl rfl rfl, fun v => zw_put rfl ⟨lb rfl, lb rfl⟩ rfl rfl rfl, fun v => zw_put rfl ⟨lb rfl, lb rfl⟩ rfl rfl rfl, fun v => zw_put rfl ⟨lb rfl, lb rfl⟩ rfl rfl rfl⟩
theorem zs_rows_16 : ∀ k, k < 16 → z_sh (17 + k) = .inr (.inl (0, 16)) := fun k hk => match k, hk with
  | 0, _ => rfl
  | 1, _ => rfl
  | 2, _ => rfl
  | 3, _ => rfl
  | 4, _ => rfl
  | 5, _ => rfl
  | 6, _ => rfl
  | 7, _ => rfl
  | 8, _ => rfl
  | 9, _ => rfl
  | 10, _ => rfl
  | 11, _ => rfl
  | 12, _ => rfl
  | 13, _ => rfl
  | 14, _ => rfl
  | 15, _ => rfl
  | j + 16, h => absurd h (by omega)
theorem zs_rows_36 : ∀ k, k < 16 → z_sh (37 + k) = .inr (.inl (0, 16)) := fun k hk => match k, hk with
  | 0, _ => rfl
  | 1, _ => rfl
  | 2, _ => rfl
  | 3, _ => rfl
  | 4, _ => rfl
  | 5, _ => rfl
  | 6, _ => rfl
  | 7, _ => rfl
  | 8, _ => rfl
  | 9, _ => rfl
  | 10, _ => rfl
  | 11, _ => rfl
  | 12, _ => rfl
  | 13, _ => rfl
  | 14, _ => rfl
  | 15, _ => rfl
  | j + 16, h => absurd h (by omega)
theorem zs_rows_56 : ∀ k, k < 16 → z_sh (57 + k) = .inr (.inl (0, 16)) := fun k hk => match k, hk with
  | 0, _ => rfl
  | 1, _ => rfl
  | 2, _ => rfl
  | 3, _ => rfl
  | 4, _ => rfl
  | 5, _ => rfl
  | 6, _ => rfl
  | 7, _ => rfl
  | 8, _ => rfl
  | 9, _ => rfl
  | 10, _ => rfl
  | 11, _ => rfl
  | 12, _ => rfl
  | 13, _ => rfl
  | 14, _ => rfl
  | 15, _ => rfl
  | j + 16, h => absurd h (by omega)
theorem zs_rows_86 : ∀ k, k < 8 → z_sh (87 + k) = .inr (.inl (0, 8)) := fun k hk => match k, hk with
  | 0, _ => rfl
  | 1, _ => rfl
  | 2, _ => rfl
  | 3, _ => rfl
  | 4, _ => rfl
  | 5, _ => rfl
  | 6, _ => rfl
  | 7, _ => rfl
  | j + 8, h => absurd h (by omega)
theorem zs_rows_95 : ∀ k, k < 8 → z_sh (96 + k) = .inr (.inl (0, 8)) := fun k hk => match k, hk with
  | 0, _ => rfl
  | 1, _ => rfl
  | 2, _ => rfl
  | 3, _ => rfl
  | 4, _ => rfl
  | 5, _ => rfl
  | 6, _ => rfl
  | 7, _ => rfl
  | j + 8, h => absurd h (by omega)
theorem za_0 {L : Nat} {xs : Nat → Int32} {z : z_T} : (∀ k, k < 16 → pm_ai 0 (hp L xs z) 9 (ii k) = some (z.1 9 k)) ∧ (∀ k v, k < 16 → pm_si 0 (hp L xs z) 9 (ii k) v = some (hp L xs (ui z 9 k v))) ∧ (∀ k, k < 16 → pm_ai 0 (hp L xs z) 10 (ii k) = some (z.1 10 k)) ∧ (∀ k v, k < 16 → pm_si 0 (hp L xs z) 10 (ii k) v = some (hp L xs (ui z 10 k v))) ∧ (∀ k, k < 16 → pm_ai 0 (hp L xs z) 12 (ii k) = some (z.1 12 k)) ∧ (∀ k v, k < 16 → pm_si 0 (hp L xs z) 12 (ii k) v = some (hp L xs (ui z 12 k v))) ∧ (∀ k, k < 16 → pm_ai 0 (hp L xs z) 13 (ii k) = some (z.1 13 k)) ∧ (∀ k v, k < 16 → pm_si 0 (hp L xs z) 13 (ii k) v = some (hp L xs (ui z 13 k v))) ∧ (∀ k, k < 16 → pm_aR (hp L xs z) 16 (ii k) = some (17 + k)) ∧ (∀ k j, k < 16 → j < 16 → pm_ai 0 (hp L xs z) (17 + k) (ii j) = some (z.1 (17 + k) j)) ∧ (∀ k j v, k < 16 → j < 16 → pm_si 0 (hp L xs z) (17 + k) (ii j) v = some (hp L xs (ui z (17 + k) j v))) ∧ (∀ k, k < 16 → pm_ai 0 (hp L xs z) 17 (ii k) = some (z.1 17 k)) ∧ (∀ k v, k < 16 → pm_si 0 (hp L xs z) 17 (ii k) v = some (hp L xs (ui z 17 k v))) ∧ (∀ k, k < 16 → pm_ai 0 (hp L xs z) 18 (ii k) = some (z.1 18 k)) ∧ (∀ k v, k < 16 → pm_si 0 (hp L xs z) 18 (ii k) v = some (hp L xs (ui z 18 k v))) ∧ (∀ k, k < 16 → pm_ai 0 (hp L xs z) 19 (ii k) = some (z.1 19 k)) ∧ (∀ k v, k < 16 → pm_si 0 (hp L xs z) 19 (ii k) v = some (hp L xs (ui z 19 k v))) ∧ (∀ k, k < 16 → pm_ai 0 (hp L xs z) 20 (ii k) = some (z.1 20 k)) ∧ (∀ k v, k < 16 → pm_si 0 (hp L xs z) 20 (ii k) v = some (hp L xs (ui z 20 k v))) ∧ (∀ k, k < 16 → pm_ai 0 (hp L xs z) 21 (ii k) = some (z.1 21 k)) ∧ (∀ k v, k < 16 → pm_si 0 (hp L xs z) 21 (ii k) v = some (hp L xs (ui z 21 k v))) ∧ (∀ k, k < 16 → pm_ai 0 (hp L xs z) 22 (ii k) = some (z.1 22 k)) ∧ (∀ k v, k < 16 → pm_si 0 (hp L xs z) 22 (ii k) v = some (hp L xs (ui z 22 k v))) ∧ (∀ k, k < 16 → pm_ai 0 (hp L xs z) 23 (ii k) = some (z.1 23 k)) ∧ (∀ k v, k < 16 → pm_si 0 (hp L xs z) 23 (ii k) v = some (hp L xs (ui z 23 k v))) ∧ (∀ k, k < 16 → pm_ai 0 (hp L xs z) 24 (ii k) = some (z.1 24 k)) ∧ (∀ k v, k < 16 → pm_si 0 (hp L xs z) 24 (ii k) v = some (hp L xs (ui z 24 k v))) ∧ (∀ k, k < 16 → pm_ai 0 (hp L xs z) 25 (ii k) = some (z.1 25 k)) ∧ (∀ k v, k < 16 → pm_si 0 (hp L xs z) 25 (ii k) v = some (hp L xs (ui z 25 k v))) ∧ (∀ k, k < 16 → pm_ai 0 (hp L xs z) 26 (ii k) = some (z.1 26 k)) ∧ (∀ k v, k < 16 → pm_si 0 (hp L xs z) 26 (ii k) v = some (hp L xs (ui z 26 k v))) ∧ (∀ k, k < 16 → pm_ai 0 (hp L xs z) 27 (ii k) = some (z.1 27 k)) ∧ (∀ k v, k < 16 → pm_si 0 (hp L xs z) 27 (ii k) v = some (hp L xs (ui z 27 k v))) ∧ (∀ k, k < 16 → pm_ai 0 (hp L xs z) 28 (ii k) = some (z.1 28 k)) ∧ (∀ k v, k < 16 → pm_si 0 (hp L xs z) 28 (ii k) v = some (hp L xs (ui z 28 k v))) ∧ (∀ k, k < 16 → pm_ai 0 (hp L xs z) 29 (ii k) = some (z.1 29 k)) ∧ (∀ k v, k < 16 → pm_si 0 (hp L xs z) 29 (ii k) v = some (hp L xs (ui z 29 k v))) ∧ (∀ k, k < 16 → pm_ai 0 (hp L xs z) 30 (ii k) = some (z.1 30 k)) ∧ (∀ k v, k < 16 → pm_si 0 (hp L xs z) 30 (ii k) v = some (hp L xs (ui z 30 k v))) ∧ (∀ k, k < 16 → pm_ai 0 (hp L xs z) 31 (ii k) = some (z.1 31 k)) := ⟨fun k hk => zr_ai rfl ⟨lb rfl, lb rfl⟩ (by decide) (lb rfl) hk, fun k v hk => zw_si rfl ⟨lb rfl, lb rfl⟩ (by decide) (lb rfl) hk, fun k hk => zr_ai rfl ⟨lb rfl, lb rfl⟩ (by decide) (lb rfl) hk, fun k v hk => zw_si rfl ⟨lb rfl, lb rfl⟩ (by decide) (lb rfl) hk, fun k hk => zr_ai rfl ⟨lb rfl, lb rfl⟩ (by decide) (lb rfl) hk, fun k v hk => zw_si rfl ⟨lb rfl, lb rfl⟩ (by decide) (lb rfl) hk, fun k hk => zr_ai rfl ⟨lb rfl, lb rfl⟩ (by decide) (lb rfl) hk, fun k v hk => zw_si rfl ⟨lb rfl, lb rfl⟩ (by decide) (lb rfl) hk, fun k hk => zr_aR rfl ⟨lb rfl, lb rfl⟩ (lb rfl) hk, fun k j hk hj => zr_ai (zs_rows_16 k hk) ⟨Nat.le_trans (lb rfl) (Nat.le_add_right _ _), Nat.lt_of_lt_of_le (Nat.add_lt_add_left hk _) (lb rfl)⟩ (by decide) (lb rfl) hj, fun k j v hk hj => zw_si (zs_rows_16 k hk) ⟨Nat.le_trans (lb rfl) (Nat.le_add_right _ _), Nat.lt_of_lt_of_le (Nat.add_lt_add_left hk _) (lb rfl)⟩ (by decide) (lb rfl) hj, fun k hk => zr_ai rfl ⟨lb rfl, lb rfl⟩ (by decide) (lb rfl) hk, fun k v hk => zw_si rfl ⟨lb rfl, lb rfl⟩ (by decide) (lb rfl) hk, fun k hk => zr_ai rfl ⟨lb rfl, lb rfl⟩ (by decide) (lb rfl) hk, fun k v hk => zw_si rfl ⟨lb rfl, lb rfl⟩ (by decide) (lb rfl) hk, fun k hk => zr_ai rfl ⟨lb rfl, lb rfl⟩ (by decide) (lb rfl) hk, fun k v hk => zw_si rfl ⟨lb rfl, lb rfl⟩ (by decide) (lb rfl) hk, fun k hk => zr_ai rfl ⟨lb rfl, lb rfl⟩ (by decide) (lb rfl) hk, fun k v hk => zw_si rfl ⟨lb rfl, lb rfl⟩ (by decide) (lb rfl) hk, fun k hk => zr_ai rfl ⟨lb rfl, lb rfl⟩ (by decide) (lb rfl) hk, fun k v hk => zw_si rfl ⟨lb rfl, lb rfl⟩ (by decide) (lb rfl) hk, fun k hk => zr_ai rfl ⟨lb rfl, lb rfl⟩ (by decide) (lb rfl) hk, fun k v hk => zw_si rfl ⟨lb rfl, lb rfl⟩ (by decide) (lb rfl) hk, fun k hk => zr_ai rfl ⟨lb rfl, lb rfl⟩ (by decide) (lb rfl) hk, fun k v hk => zw_si rfl ⟨lb rfl, lb rfl⟩ (by decide) (lb rfl) hk, fun k hk => zr_ai rfl ⟨lb rfl, lb rfl⟩ (by decide) (lb rfl) hk, fun k v hk => zw_si rfl ⟨lb rfl, lb rfl⟩ (by decide) (lb rfl) hk, fun k hk => zr_ai rfl ⟨lb rfl, lb rfl⟩ (by decide) (lb rfl) hk, fun k v hk => zw_si rfl ⟨lb rfl, lb rfl⟩ (by decide) (lb rfl) hk, fun k hk => zr_ai rfl ⟨lb rfl, lb rfl⟩ (by decide) (lb rfl) hk, fun k v hk => zw_si rfl ⟨lb rfl, lb rfl⟩ (by decide) (lb rfl) hk, fun k hk => zr_ai rfl ⟨lb rfl, lb rfl⟩ (by decide) (lb rfl) hk, fun k v hk => zw_si rfl ⟨lb rfl, lb rfl⟩ (by decide) (lb rfl) hk, fun k hk => zr_ai rfl ⟨lb rfl, lb rfl⟩ (by decide) (lb rfl) hk, fun k v hk => zw_si rfl ⟨lb rfl, lb rfl⟩ (by decide) (lb rfl) hk, fun k hk => zr_ai rfl ⟨lb rfl, lb rfl⟩ (by decide) (lb rfl) hk, fun k v hk => zw_si rfl ⟨lb rfl, lb rfl⟩ (by decide) (lb rfl) hk, fun k hk => zr_ai rfl ⟨lb rfl, lb rfl⟩ (by decide) (lb rfl) hk, fun k v hk => zw_si rfl ⟨lb rfl, lb rfl⟩ (by decide) (lb rfl) hk, fun k hk => zr_ai rfl ⟨lb rfl, lb rfl⟩ (by decide) (lb rfl) hk⟩
theorem za_1 {L : Nat} {xs : Nat → Int32} {z : z_T} : (∀ k v, k < 16 → pm_si 0 (hp L xs z) 31 (ii k) v = some (hp L xs (ui z 31 k v))) ∧ (∀ k, k < 16 → pm_ai 0 (hp L xs z) 32 (ii k) = some (z.1 32 k)) ∧ (∀ k v, k < 16 → pm_si 0 (hp L xs z) 32 (ii k) v = some (hp L xs (ui z 32 k v))) ∧ (∀ k, k < 16 → pm_ai 0 (hp L xs z) 33 (ii k) = some (z.1 33 k)) ∧ (∀ k v, k < 16 → pm_si 0 (hp L xs z) 33 (ii k) v = some (hp L xs (ui z 33 k v))) ∧ (∀ k, k < 16 → pm_ai 0 (hp L xs z) 34 (ii k) = some (z.1 34 k)) ∧ (∀ k v, k < 16 → pm_si 0 (hp L xs z) 34 (ii k) v = some (hp L xs (ui z 34 k v))) ∧ (∀ k, k < 16 → pm_aR (hp L xs z) 36 (ii k) = some (37 + k)) ∧ (∀ k j, k < 16 → j < 16 → pm_ai 0 (hp L xs z) (37 + k) (ii j) = some (z.1 (37 + k) j)) ∧ (∀ k j v, k < 16 → j < 16 → pm_si 0 (hp L xs z) (37 + k) (ii j) v = some (hp L xs (ui z (37 + k) j v))) ∧ (∀ k, k < 16 → pm_ai 0 (hp L xs z) 37 (ii k) = some (z.1 37 k)) ∧ (∀ k v, k < 16 → pm_si 0 (hp L xs z) 37 (ii k) v = some (hp L xs (ui z 37 k v))) ∧ (∀ k, k < 16 → pm_ai 0 (hp L xs z) 38 (ii k) = some (z.1 38 k)) ∧ (∀ k v, k < 16 → pm_si 0 (hp L xs z) 38 (ii k) v = some (hp L xs (ui z 38 k v))) ∧ (∀ k, k < 16 → pm_ai 0 (hp L xs z) 39 (ii k) = some (z.1 39 k)) ∧ (∀ k v, k < 16 → pm_si 0 (hp L xs z) 39 (ii k) v = some (hp L xs (ui z 39 k v))) ∧ (∀ k, k < 16 → pm_ai 0 (hp L xs z) 40 (ii k) = some (z.1 40 k)) ∧ (∀ k v, k < 16 → pm_si 0 (hp L xs z) 40 (ii k) v = some (hp L xs (ui z 40 k v))) ∧ (∀ k, k < 16 → pm_ai 0 (hp L xs z) 41 (ii k) = some (z.1 41 k)) ∧ (∀ k v, k < 16 → pm_si 0 (hp L xs z) 41 (ii k) v = some (hp L xs (ui z 41 k v))) ∧ (∀ k, k < 16 → pm_ai 0 (hp L xs z) 42 (ii k) = some (z.1 42 k)) ∧ (∀ k v, k < 16 → pm_si 0 (hp L xs z) 42 (ii k) v = some (hp L xs (ui z 42 k v))) ∧ (∀ k, k < 16 → pm_ai 0 (hp L xs z) 43 (ii k) = some (z.1 43 k)) ∧ (∀ k v, k < 16 → pm_si 0 (hp L xs z) 43 (ii k) v = some (hp L xs (ui z 43 k v))) ∧ (∀ k, k < 16 → pm_ai 0 (hp L xs z) 44 (ii k) = some (z.1 44 k)) ∧ (∀ k v, k < 16 → pm_si 0 (hp L xs z) 44 (ii k) v = some (hp L xs (ui z 44 k v))) ∧ (∀ k, k < 16 → pm_ai 0 (hp L xs z) 45 (ii k) = some (z.1 45 k)) ∧ (∀ k v, k < 16 → pm_si 0 (hp L xs z) 45 (ii k) v = some (hp L xs (ui z 45 k v))) ∧ (∀ k, k < 16 → pm_ai 0 (hp L xs z) 46 (ii k) = some (z.1 46 k)) ∧ (∀ k v, k < 16 → pm_si 0 (hp L xs z) 46 (ii k) v = some (hp L xs (ui z 46 k v))) ∧ (∀ k, k < 16 → pm_ai 0 (hp L xs z) 47 (ii k) = some (z.1 47 k)) ∧ (∀ k v, k < 16 → pm_si 0 (hp L xs z) 47 (ii k) v = some (hp L xs (ui z 47 k v))) ∧ (∀ k, k < 16 → pm_ai 0 (hp L xs z) 48 (ii k) = some (z.1 48 k)) ∧ (∀ k v, k < 16 → pm_si 0 (hp L xs z) 48 (ii k) v = some (hp L xs (ui z 48 k v))) ∧ (∀ k, k < 16 → pm_ai 0 (hp L xs z) 49 (ii k) = some (z.1 49 k)) ∧ (∀ k v, k < 16 → pm_si 0 (hp L xs z) 49 (ii k) v = some (hp L xs (ui z 49 k v))) ∧ (∀ k, k < 16 → pm_ai 0 (hp L xs z) 50 (ii k) = some (z.1 50 k)) ∧ (∀ k v, k < 16 → pm_si 0 (hp L xs z) 50 (ii k) v = some (hp L xs (ui z 50 k v))) ∧ (∀ k, k < 16 → pm_ai 0 (hp L xs z) 51 (ii k) = some (z.1 51 k)) ∧ (∀ k v, k < 16 → pm_si 0 (hp L xs z) 51 (ii k) v = some (hp L xs (ui z 51 k v))) := ⟨fun k v hk => zw_si rfl ⟨lb rfl, lb rfl⟩ (by decide) (lb rfl) hk, fun k hk => zr_ai rfl ⟨lb rfl, lb rfl⟩ (by decide) (lb rfl) hk, fun k v hk => zw_si rfl ⟨lb rfl, lb rfl⟩ (by decide) (lb rfl) hk, fun k hk => zr_ai rfl ⟨lb rfl, lb rfl⟩ (by decide) (lb rfl) hk, fun k v hk => zw_si rfl ⟨lb rfl, lb rfl⟩ (by decide) (lb rfl) hk, fun k hk => zr_ai rfl ⟨lb rfl, lb rfl⟩ (by decide) (lb rfl) hk, fun k v hk => zw_si rfl ⟨lb rfl, lb rfl⟩ (by decide) (lb rfl) hk, fun k hk => zr_aR rfl ⟨lb rfl, lb rfl⟩ (lb rfl) hk, fun k j hk hj => zr_ai (zs_rows_36 k hk) ⟨Nat.le_trans (lb rfl) (Nat.le_add_right _ _), Nat.lt_of_lt_of_le (Nat.add_lt_add_left hk _) (lb rfl)⟩ (by decide) (lb rfl) hj, fun k j v hk hj => zw_si (zs_rows_36 k hk) ⟨Nat.le_trans (lb rfl) (Nat.le_add_right _ _), Nat.lt_of_lt_of_le (Nat.add_lt_add_left hk _) (lb rfl)⟩ (by decide) (lb rfl) hj, fun k hk => zr_ai rfl ⟨lb rfl, lb rfl⟩ (by decide) (lb rfl) hk, fun k v hk => zw_si rfl ⟨lb rfl, lb rfl⟩ (by decide) (lb rfl) hk, fun k hk => zr_ai rfl ⟨lb rfl, lb rfl⟩ (by decide) (lb rfl) hk, fun k v hk => zw_si rfl ⟨lb rfl, lb rfl⟩ (by decide) (lb rfl) hk, fun k hk => zr_ai rfl ⟨lb rfl, lb rfl⟩ (by decide) (lb rfl) hk, fun k v hk => zw_si rfl ⟨lb rfl, lb rfl⟩ (by decide) (lb rfl) hk, fun k hk => zr_ai rfl ⟨lb rfl, lb rfl⟩ (by decide) (lb rfl) hk, fun k v hk => zw_si rfl ⟨lb rfl, lb rfl⟩ (by decide) (lb rfl) hk, fun k hk => zr_ai rfl ⟨lb rfl, lb rfl⟩ (by decide) (lb rfl) hk, fun k v hk => zw_si rfl ⟨lb rfl, lb rfl⟩ (by decide) (lb rfl) hk, fun k hk => zr_ai rfl ⟨lb rfl, lb rfl⟩ (by decide) (lb rfl) hk, fun k v hk => zw_si rfl ⟨lb rfl, lb rfl⟩ (by decide) (lb rfl) hk, fun k hk => zr_ai rfl ⟨lb rfl, lb rfl⟩ (by decide) (lb rfl) hk, fun k v hk => zw_si rfl ⟨lb rfl, lb rfl⟩ (by decide) (lb rfl) hk, fun k hk => zr_ai rfl ⟨lb rfl, lb rfl⟩ (by decide) (lb rfl) hk, fun k v hk => zw_si rfl ⟨lb rfl, lb rfl⟩ (by decide) (lb rfl) hk, fun k hk => zr_ai rfl ⟨lb rfl, lb rfl⟩ (by decide) (lb rfl) hk, fun k v hk => zw_si rfl ⟨lb rfl, lb rfl⟩ (by decide) (lb rfl) hk, fun k hk => zr_ai rfl ⟨lb rfl, lb rfl⟩ (by decide) (lb rfl) hk, fun k v hk => zw_si rfl ⟨lb rfl, lb rfl⟩ (by decide) (lb rfl) hk, fun k hk => zr_ai rfl ⟨lb rfl, lb rfl⟩ (by decide) (lb rfl) hk, fun k v hk => zw_si rfl ⟨lb rfl, lb rfl⟩ (by decide) (lb rfl) hk, fun k hk => zr_ai rfl ⟨lb rfl, lb rfl⟩ (by decide) (lb rfl) hk, fun k v hk => zw_si rfl ⟨lb rfl, lb rfl⟩ (by decide) (lb rfl) hk, fun k hk => zr_ai rfl ⟨lb rfl, lb rfl⟩ (by decide) (lb rfl) hk, fun k v hk => zw_si rfl ⟨lb rfl, lb rfl⟩ (by decide) (lb rfl) hk, fun k hk => zr_ai rfl ⟨lb rfl, lb rfl⟩ (by decide) (lb rfl) hk, fun k v hk => zw_si rfl ⟨lb rfl, lb rfl⟩ (by decide) (lb rfl) hk, fun k hk => zr_ai rfl ⟨lb rfl, lb rfl⟩ (by decide) (lb rfl) hk, fun k v hk => zw_si rfl ⟨lb rfl, lb rfl⟩ (by decide) (lb rfl) hk⟩
theorem za_2 {L : Nat} {xs : Nat → Int32} {z : z_T} : (∀ k, k < 16 → pm_ai 0 (hp L xs z) 52 (ii k) = some (z.1 52 k)) ∧ (∀ k v, k < 16 → pm_si 0 (hp L xs z) 52 (ii k) v = some (hp L xs (ui z 52 k v))) ∧ (∀ k, k < 16 → pm_ai 0 (hp L xs z) 53 (ii k) = some (z.1 53 k)) ∧ (∀ k v, k < 16 → pm_si 0 (hp L xs z) 53 (ii k) v = some (hp L xs (ui z 53 k v))) ∧ (∀ k, k < 16 → pm_ai 0 (hp L xs z) 54 (ii k) = some (z.1 54 k)) ∧ (∀ k v, k < 16 → pm_si 0 (hp L xs z) 54 (ii k) v = some (hp L xs (ui z 54 k v))) ∧ (∀ k, k < 16 → pm_aR (hp L xs z) 56 (ii k) = some (57 + k)) ∧ (∀ k j, k < 16 → j < 16 → pm_ai 0 (hp L xs z) (57 + k) (ii j) = some (z.1 (57 + k) j)) ∧ (∀ k j v, k < 16 → j < 16 → pm_si 0 (hp L xs z) (57 + k) (ii j) v = some (hp L xs (ui z (57 + k) j v))) ∧ (∀ k, k < 16 → pm_ai 0 (hp L xs z) 57 (ii k) = some (z.1 57 k)) ∧ (∀ k v, k < 16 → pm_si 0 (hp L xs z) 57 (ii k) v = some (hp L xs (ui z 57 k v))) ∧ (∀ k, k < 16 → pm_ai 0 (hp L xs z) 58 (ii k) = some (z.1 58 k)) ∧ (∀ k v, k < 16 → pm_si 0 (hp L xs z) 58 (ii k) v = some (hp L xs (ui z 58 k v))) ∧ (∀ k, k < 16 → pm_ai 0 (hp L xs z) 59 (ii k) = some (z.1 59 k)) ∧ (∀ k v, k < 16 → pm_si 0 (hp L xs z) 59 (ii k) v = some (hp L xs (ui z 59 k v))) ∧ (∀ k, k < 16 → pm_ai 0 (hp L xs z) 60 (ii k) = some (z.1 60 k)) ∧ (∀ k v, k < 16 → pm_si 0 (hp L xs z) 60 (ii k) v = some (hp L xs (ui z 60 k v))) ∧ (∀ k, k < 16 → pm_ai 0 (hp L xs z) 61 (ii k) = some (z.1 61 k)) ∧ (∀ k v, k < 16 → pm_si 0 (hp L xs z) 61 (ii k) v = some (hp L xs (ui z 61 k v))) ∧ (∀ k, k < 16 → pm_ai 0 (hp L xs z) 62 (ii k) = some (z.1 62 k)) ∧ (∀ k v, k < 16 → pm_si 0 (hp L xs z) 62 (ii k) v = some (hp L xs (ui z 62 k v))) ∧ (∀ k, k < 16 → pm_ai 0 (hp L xs z) 63 (ii k) = some (z.1 63 k)) ∧ (∀ k v, k < 16 → pm_si 0 (hp L xs z) 63 (ii k) v = some (hp L xs (ui z 63 k v))) ∧ (∀ k, k < 16 → pm_ai 0 (hp L xs z) 64 (ii k) = some (z.1 64 k)) ∧ (∀ k v, k < 16 → pm_si 0 (hp L xs z) 64 (ii k) v = some (hp L xs (ui z 64 k v))) ∧ (∀ k, k < 16 → pm_ai 0 (hp L xs z) 65 (ii k) = some (z.1 65 k)) ∧ (∀ k v, k < 16 → pm_si 0 (hp L xs z) 65 (ii k) v = some (hp L xs (ui z 65 k v))) ∧ (∀ k, k < 16 → pm_ai 0 (hp L xs z) 66 (ii k) = some (z.1 66 k)) ∧ (∀ k v, k < 16 → pm_si 0 (hp L xs z) 66 (ii k) v = some (hp L xs (ui z 66 k v))) ∧ (∀ k, k < 16 → pm_ai 0 (hp L xs z) 67 (ii k) = some (z.1 67 k)) ∧ (∀ k v, k < 16 → pm_si 0 (hp L xs z) 67 (ii k) v = some (hp L xs (ui z 67 k v))) ∧ (∀ k, k < 16 → pm_ai 0 (hp L xs z) 68 (ii k) = some (z.1 68 k)) ∧ (∀ k v, k < 16 → pm_si 0 (hp L xs z) 68 (ii k) v = some (hp L xs (ui z 68 k v))) ∧ (∀ k, k < 16 → pm_ai 0 (hp L xs z) 69 (ii k) = some (z.1 69 k)) ∧ (∀ k v, k < 16 → pm_si 0 (hp L xs z) 69 (ii k) v = some (hp L xs (ui z 69 k v))) ∧ (∀ k, k < 16 → pm_ai 0 (hp L xs z) 70 (ii k) = some (z.1 70 k)) ∧ (∀ k v, k < 16 → pm_si 0 (hp L xs z) 70 (ii k) v = some (hp L xs (ui z 70 k v))) ∧ (∀ k, k < 16 → pm_ai 0 (hp L xs z) 71 (ii k) = some (z.1 71 k)) ∧ (∀ k v, k < 16 → pm_si 0 (hp L xs z) 71 (ii k) v = some (hp L xs (ui z 71 k v))) ∧ (∀ k, k < 16 → pm_ai 0 (hp L xs z) 72 (ii k) = some (z.1 72 k)) := ⟨fun k hk => zr_ai rfl ⟨lb rfl, lb rfl⟩ (by decide) (lb rfl) hk, fun k v hk => zw_si rfl ⟨lb rfl, lb rfl⟩ (by decide) (lb rfl) hk, fun k hk => zr_ai rfl ⟨lb rfl, lb rfl⟩ (by decide) (lb rfl) hk, fun k v hk => zw_si rfl ⟨lb rfl, lb rfl⟩ (by decide) (lb rfl) hk, fun k hk => zr_ai rfl ⟨lb rfl, lb rfl⟩ (by decide) (lb rfl) hk, fun k v hk => zw_si rfl ⟨lb rfl, lb rfl⟩ (by decide) (lb rfl) hk, fun k hk => zr_aR rfl ⟨lb rfl, lb rfl⟩ (lb rfl) hk, fun k j hk hj => zr_ai (zs_rows_56 k hk) ⟨Nat.le_trans (lb rfl) (Nat.le_add_right _ _), Nat.lt_of_lt_of_le (Nat.add_lt_add_left hk _) (lb rfl)⟩ (by decide) (lb rfl) hj, fun k j v hk hj => zw_si (zs_rows_56 k hk) ⟨Nat.le_trans (lb rfl) (Nat.le_add_right _ _), Nat.lt_of_lt_of_le (Nat.add_lt_add_left hk _) (lb rfl)⟩ (by decide) (lb rfl) hj, fun k hk => zr_ai rfl ⟨lb rfl, lb rfl⟩ (by decide) (lb rfl) hk, fun k v hk => zw_si rfl ⟨lb rfl, lb rfl⟩ (by decide) (lb rfl) hk, fun k hk => zr_ai rfl ⟨lb rfl, lb rfl⟩ (by decide) (lb rfl) hk, fun k v hk => zw_si rfl ⟨lb rfl, lb rfl⟩ (by decide) (lb rfl) hk, fun k hk => zr_ai rfl ⟨lb rfl, lb rfl⟩ (by decide) (lb rfl) hk, fun k v hk => zw_si rfl ⟨lb rfl, lb rfl⟩ (by decide) (lb rfl) hk, fun k hk => zr_ai rfl ⟨lb rfl, lb rfl⟩ (by decide) (lb rfl) hk, fun k v hk => zw_si rfl ⟨lb rfl, lb rfl⟩ (by decide) (lb rfl) hk, fun k hk => zr_ai rfl ⟨lb rfl, lb rfl⟩ (by decide) (lb rfl) hk, fun k v hk => zw_si rfl ⟨lb rfl, lb rfl⟩ (by decide) (lb rfl) hk, fun k hk => zr_ai rfl ⟨lb rfl, lb rfl⟩ (by decide) (lb rfl) hk, fun k v hk => zw_si rfl ⟨lb rfl, lb rfl⟩ (by decide) (lb rfl) hk, fun k hk => zr_ai rfl ⟨lb rfl, lb rfl⟩ (by decide) (lb rfl) hk, fun k v hk => zw_si rfl ⟨lb rfl, lb rfl⟩ (by decide) (lb rfl) hk, fun k hk => zr_ai rfl ⟨lb rfl, lb rfl⟩ (by decide) (lb rfl) hk, fun k v hk => zw_si rfl ⟨lb rfl, lb rfl⟩ (by decide) (lb rfl) hk, fun k hk => zr_ai rfl ⟨lb rfl, lb rfl⟩ (by decide) (lb rfl) hk, fun k v hk => zw_si rfl ⟨lb rfl, lb rfl⟩ (by decide) (lb rfl) hk, fun k hk => zr_ai rfl ⟨lb rfl, lb rfl⟩ (by decide) (lb rfl) hk, fun k v hk => zw_si rfl ⟨lb rfl, lb rfl⟩ (by decide) (lb rfl) hk, fun k hk => zr_ai rfl ⟨lb rfl, lb rfl⟩ (by decide) (lb rfl) hk, fun k v hk => zw_si rfl ⟨lb rfl, lb rfl⟩ (by decide) (lb rfl) hk, fun k hk => zr_ai rfl ⟨lb rfl, lb rfl⟩ (by decide) (lb rfl) hk, fun k v hk => zw_si rfl ⟨lb rfl, lb rfl⟩ (by decide) (lb rfl) hk, fun k hk => zr_ai rfl ⟨lb rfl, lb rfl⟩ (by decide) (lb rfl) hk, fun k v hk => zw_si rfl ⟨lb rfl, lb rfl⟩ (by decide) (lb rfl) hk, fun k hk => zr_ai rfl ⟨lb rfl, lb rfl⟩ (by decide) (lb rfl) hk, fun k v hk => zw_si rfl ⟨lb rfl, lb rfl⟩ (by decide) (lb rfl) hk, fun k hk => zr_ai rfl ⟨lb rfl, lb rfl⟩ (by decide) (lb rfl) hk, fun k v hk => zw_si rfl ⟨lb rfl, lb rfl⟩ (by decide) (lb rfl) hk, fun k hk => zr_ai rfl ⟨lb rfl, lb rfl⟩ (by decide) (lb rfl) hk⟩
theorem za_3 {L : Nat} {xs : Nat → Int32} {z : z_T} : (∀ k v, k < 16 → pm_si 0 (hp L xs z) 72 (ii k) v = some (hp L xs (ui z 72 k v))) ∧ (∀ k, k < 16 → pm_ai 0 (hp L xs z) 73 (ii k) = some (z.1 73 k)) ∧ (∀ k v, k < 16 → pm_si 0 (hp L xs z) 73 (ii k) v = some (hp L xs (ui z 73 k v))) ∧ (∀ k, k < 16 → pm_ai 0 (hp L xs z) 74 (ii k) = some (z.1 74 k)) ∧ (∀ k v, k < 16 → pm_si 0 (hp L xs z) 74 (ii k) v = some (hp L xs (ui z 74 k v))) ∧ (∀ k, k < 260 → pm_ai 1 (hp L xs z) 75 (ii k) = some (z.1 75 k)) ∧ (∀ k v, k < 260 → pm_si 1 (hp L xs z) 75 (ii k) v = some (hp L xs (ui z 75 k v))) ∧ (∀ k, k < 65536 → pm_al (hp L xs z) 80 (ii k) = some (z.2.1 80 k)) ∧ (∀ k v, k < 65536 → pm_sl (hp L xs z) 80 (ii k) v = some (hp L xs (ul z 80 k v))) ∧ (∀ k, k < 16 → pm_ai 0 (hp L xs z) 81 (ii k) = some (z.1 81 k)) ∧ (∀ k v, k < 16 → pm_si 0 (hp L xs z) 81 (ii k) v = some (hp L xs (ui z 81 k v))) ∧ (∀ k, k < 65536 → pm_ai 0 (hp L xs z) 82 (ii k) = some (z.1 82 k)) ∧ (∀ k v, k < 65536 → pm_si 0 (hp L xs z) 82 (ii k) v = some (hp L xs (ui z 82 k v))) ∧ (∀ k, k < 256 → pm_ai 0 (hp L xs z) 83 (ii k) = some (z.1 83 k)) ∧ (∀ k v, k < 256 → pm_si 0 (hp L xs z) 83 (ii k) v = some (hp L xs (ui z 83 k v))) ∧ (∀ k, k < 8 → pm_ai 0 (hp L xs z) 84 (ii k) = some (z.1 84 k)) ∧ (∀ k v, k < 8 → pm_si 0 (hp L xs z) 84 (ii k) v = some (hp L xs (ui z 84 k v))) ∧ (∀ k, k < 8 → pm_ai 0 (hp L xs z) 85 (ii k) = some (z.1 85 k)) ∧ (∀ k v, k < 8 → pm_si 0 (hp L xs z) 85 (ii k) v = some (hp L xs (ui z 85 k v))) ∧ (∀ k, k < 8 → pm_aR (hp L xs z) 86 (ii k) = some (87 + k)) ∧ (∀ k j, k < 8 → j < 8 → pm_ai 0 (hp L xs z) (87 + k) (ii j) = some (z.1 (87 + k) j)) ∧ (∀ k j v, k < 8 → j < 8 → pm_si 0 (hp L xs z) (87 + k) (ii j) v = some (hp L xs (ui z (87 + k) j v))) ∧ (∀ k, k < 8 → pm_ai 0 (hp L xs z) 87 (ii k) = some (z.1 87 k)) ∧ (∀ k v, k < 8 → pm_si 0 (hp L xs z) 87 (ii k) v = some (hp L xs (ui z 87 k v))) ∧ (∀ k, k < 8 → pm_ai 0 (hp L xs z) 88 (ii k) = some (z.1 88 k)) ∧ (∀ k v, k < 8 → pm_si 0 (hp L xs z) 88 (ii k) v = some (hp L xs (ui z 88 k v))) ∧ (∀ k, k < 8 → pm_ai 0 (hp L xs z) 89 (ii k) = some (z.1 89 k)) ∧ (∀ k v, k < 8 → pm_si 0 (hp L xs z) 89 (ii k) v = some (hp L xs (ui z 89 k v))) ∧ (∀ k, k < 8 → pm_ai 0 (hp L xs z) 90 (ii k) = some (z.1 90 k)) ∧ (∀ k v, k < 8 → pm_si 0 (hp L xs z) 90 (ii k) v = some (hp L xs (ui z 90 k v))) ∧ (∀ k, k < 8 → pm_ai 0 (hp L xs z) 91 (ii k) = some (z.1 91 k)) ∧ (∀ k v, k < 8 → pm_si 0 (hp L xs z) 91 (ii k) v = some (hp L xs (ui z 91 k v))) ∧ (∀ k, k < 8 → pm_ai 0 (hp L xs z) 92 (ii k) = some (z.1 92 k)) ∧ (∀ k v, k < 8 → pm_si 0 (hp L xs z) 92 (ii k) v = some (hp L xs (ui z 92 k v))) ∧ (∀ k, k < 8 → pm_ai 0 (hp L xs z) 93 (ii k) = some (z.1 93 k)) ∧ (∀ k v, k < 8 → pm_si 0 (hp L xs z) 93 (ii k) v = some (hp L xs (ui z 93 k v))) ∧ (∀ k, k < 8 → pm_ai 0 (hp L xs z) 94 (ii k) = some (z.1 94 k)) ∧ (∀ k v, k < 8 → pm_si 0 (hp L xs z) 94 (ii k) v = some (hp L xs (ui z 94 k v))) ∧ (∀ k, k < 8 → pm_aR (hp L xs z) 95 (ii k) = some (96 + k)) ∧ (∀ k j, k < 8 → j < 8 → pm_ai 0 (hp L xs z) (96 + k) (ii j) = some (z.1 (96 + k) j)) := ⟨fun k v hk => zw_si rfl ⟨lb rfl, lb rfl⟩ (by decide) (lb rfl) hk, fun k hk => zr_ai rfl ⟨lb rfl, lb rfl⟩ (by decide) (lb rfl) hk, fun k v hk => zw_si rfl ⟨lb rfl, lb rfl⟩ (by decide) (lb rfl) hk, fun k hk => zr_ai rfl ⟨lb rfl, lb rfl⟩ (by decide) (lb rfl) hk, fun k v hk => zw_si rfl ⟨lb rfl, lb rfl⟩ (by decide) (lb rfl) hk, fun k hk => zr_ai rfl ⟨lb rfl, lb rfl⟩ (by decide) (lb rfl) hk, fun k v hk => zw_si rfl ⟨lb rfl, lb rfl⟩ (by decide) (lb rfl) hk, fun k hk => zr_al rfl ⟨lb rfl, lb rfl⟩ (lb rfl) hk, fun k v hk => zw_sl rfl ⟨lb rfl, lb rfl⟩ (lb rfl) hk, fun k hk => zr_ai rfl ⟨lb rfl, lb rfl⟩ (by decide) (lb rfl) hk, fun k v hk => zw_si rfl ⟨lb rfl, lb rfl⟩ (by decide) (lb rfl) hk, fun k hk => zr_ai rfl ⟨lb rfl, lb rfl⟩ (by decide) (lb rfl) hk, fun k v hk => zw_si rfl ⟨lb rfl, lb rfl⟩ (by decide) (lb rfl) hk, fun k hk => zr_ai rfl ⟨lb rfl, lb rfl⟩ (by decide) (lb rfl) hk, fun k v hk => zw_si rfl ⟨lb rfl, lb rfl⟩ (by decide) (lb rfl) hk, fun k hk => zr_ai rfl ⟨lb rfl, lb rfl⟩ (by decide) (lb rfl) hk, fun k v hk => zw_si rfl ⟨lb rfl, lb rfl⟩ (by decide) (lb rfl) hk, fun k hk => zr_ai rfl ⟨lb rfl, lb rfl⟩ (by decide) (lb rfl) hk, fun k v hk => zw_si rfl ⟨lb rfl, lb rfl⟩ (by decide) (lb rfl) hk, fun k hk => zr_aR rfl ⟨lb rfl, lb rfl⟩ (lb rfl) hk, fun k j hk hj => zr_ai (zs_rows_86 k hk) ⟨Nat.le_trans (lb rfl) (Nat.le_add_right _ _), Nat.lt_of_lt_of_le (Nat.add_lt_add_left hk _) (lb rfl)⟩ (by decide) (lb rfl) hj, fun k j v hk hj => zw_si (zs_rows_86 k hk) ⟨Nat.le_trans (lb rfl) (Nat.le_add_right _ _), Nat.lt_of_lt_of_le (Nat.add_lt_add_left hk _) (lb rfl)⟩ (by decide) (lb rfl) hj, fun k hk => zr_ai rfl ⟨lb rfl, lb rfl⟩ (by decide) (lb rfl) hk, fun k v hk => zw_si rfl ⟨lb rfl, lb rfl⟩ (by decide) (lb rfl) hk, fun k hk => zr_ai rfl ⟨lb rfl, lb rfl⟩ (by decide) (lb rfl) hk, fun k v hk => zw_si rfl ⟨lb rfl, lb rfl⟩ (by decide) (lb rfl) hk, fun k hk => zr_ai rfl ⟨lb rfl, lb rfl⟩ (by decide) (lb rfl) hk, fun k v hk => zw_si rfl ⟨lb rfl, lb rfl⟩ (by decide) (lb rfl) hk, fun k hk => zr_ai rfl ⟨lb rfl, lb rfl⟩ (by decide) (lb rfl) hk, fun k v hk => zw_si rfl ⟨lb rfl, lb rfl⟩ (by decide) (lb rfl) hk, fun k hk => zr_ai rfl ⟨lb rfl, lb rfl⟩ (by decide) (lb rfl) hk, fun k v hk => zw_si rfl ⟨lb rfl, lb rfl⟩ (by decide) (lb rfl) hk, fun k hk => zr_ai rfl ⟨lb rfl, lb rfl⟩ (by decide) (lb rfl) hk, fun k v hk => zw_si rfl ⟨lb rfl, lb rfl⟩ (by decide) (lb rfl) hk, fun k hk => zr_ai rfl ⟨lb rfl, lb rfl⟩ (by decide) (lb rfl) hk, fun k v hk => zw_si rfl ⟨lb rfl, lb rfl⟩ (by decide) (lb rfl) hk, fun k hk => zr_ai rfl ⟨lb rfl, lb rfl⟩ (by decide) (lb rfl) hk, fun k v hk => zw_si rfl ⟨lb rfl, lb rfl⟩ (by decide) (lb rfl) hk, fun k hk => zr_aR rfl ⟨lb rfl, lb rfl⟩ (lb rfl) hk, fun k j hk hj => zr_ai (zs_rows_95 k hk) ⟨Nat.le_trans (lb rfl) (Nat.le_add_right _ _), Nat.lt_of_lt_of_le (Nat.add_lt_add_left hk _) (lb rfl)⟩ (by decide) (lb rfl) hj⟩
theorem za_4 {L : Nat} {xs : Nat → Int32} {z : z_T} : (∀ k j v, k < 8 → j < 8 → pm_si 0 (hp L xs z) (96 + k) (ii j) v = some (hp L xs (ui z (96 + k) j v))) ∧ (∀ k, k < 8 → pm_ai 0 (hp L xs z) 96 (ii k) = some (z.1 96 k)) ∧ (∀ k v, k < 8 → pm_si 0 (hp L xs z) 96 (ii k) v = some (hp L xs (ui z 96 k v))) ∧ (∀ k, k < 8 → pm_ai 0 (hp L xs z) 97 (ii k) = some (z.1 97 k)) ∧ (∀ k v, k < 8 → pm_si 0 (hp L xs z) 97 (ii k) v = some (hp L xs (ui z 97 k v))) ∧ (∀ k, k < 8 → pm_ai 0 (hp L xs z) 98 (ii k) = some (z.1 98 k)) ∧ (∀ k v, k < 8 → pm_si 0 (hp L xs z) 98 (ii k) v = some (hp L xs (ui z 98 k v))) ∧ (∀ k, k < 8 → pm_ai 0 (hp L xs z) 99 (ii k) = some (z.1 99 k)) ∧ (∀ k v, k < 8 → pm_si 0 (hp L xs z) 99 (ii k) v = some (hp L xs (ui z 99 k v))) ∧ (∀ k, k < 8 → pm_ai 0 (hp L xs z) 100 (ii k) = some (z.1 100 k)) ∧ (∀ k v, k < 8 → pm_si 0 (hp L xs z) 100 (ii k) v = some (hp L xs (ui z 100 k v))) ∧ (∀ k, k < 8 → pm_ai 0 (hp L xs z) 101 (ii k) = some (z.1 101 k)) ∧ (∀ k v, k < 8 → pm_si 0 (hp L xs z) 101 (ii k) v = some (hp L xs (ui z 101 k v))) ∧ (∀ k, k < 8 → pm_ai 0 (hp L xs z) 102 (ii k) = some (z.1 102 k)) ∧ (∀ k v, k < 8 → pm_si 0 (hp L xs z) 102 (ii k) v = some (hp L xs (ui z 102 k v))) ∧ (∀ k, k < 8 → pm_ai 0 (hp L xs z) 103 (ii k) = some (z.1 103 k)) ∧ (∀ k v, k < 8 → pm_si 0 (hp L xs z) 103 (ii k) v = some (hp L xs (ui z 103 k v))) ∧ (∀ k, k < 256 → pm_ai 0 (hp L xs z) 104 (ii k) = some (z.1 104 k)) ∧ (∀ k v, k < 256 → pm_si 0 (hp L xs z) 104 (ii k) v = some (hp L xs (ui z 104 k v))) ∧ (∀ k, k < 274 → pm_ai 0 (hp L xs z) 106 (ii k) = some (z.1 106 k)) ∧ (∀ k v, k < 274 → pm_si 0 (hp L xs z) 106 (ii k) v = some (hp L xs (ui z 106 k v))) ∧ (∀ k, k < 274 → pm_ai 0 (hp L xs z) 107 (ii k) = some (z.1 107 k)) ∧ (∀ k v, k < 274 → pm_si 0 (hp L xs z) 107 (ii k) v = some (hp L xs (ui z 107 k v))) ∧ (∀ k, k < 274 → pm_ai 0 (hp L xs z) 108 (ii k) = some (z.1 108 k)) ∧ (∀ k v, k < 274 → pm_si 0 (hp L xs z) 108 (ii k) v = some (hp L xs (ui z 108 k v))) ∧ (∀ k, k < 16 → pm_ai 0 (hp L xs z) 109 (ii k) = some (z.1 109 k)) ∧ (∀ k v, k < 16 → pm_si 0 (hp L xs z) 109 (ii k) v = some (hp L xs (ui z 109 k v))) ∧ (∀ k, k < 16 → pm_ai 0 (hp L xs z) 110 (ii k) = some (z.1 110 k)) ∧ (∀ k v, k < 16 → pm_si 0 (hp L xs z) 110 (ii k) v = some (hp L xs (ui z 110 k v))) ∧ (∀ k, k < 16 → pm_ai 0 (hp L xs z) 111 (ii k) = some (z.1 111 k)) ∧ (∀ k v, k < 16 → pm_si 0 (hp L xs z) 111 (ii k) v = some (hp L xs (ui z 111 k v))) ∧ (∀ k, k < 16 → pm_ai 0 (hp L xs z) 112 (ii k) = some (z.1 112 k)) ∧ (∀ k v, k < 16 → pm_si 0 (hp L xs z) 112 (ii k) v = some (hp L xs (ui z 112 k v))) ∧ (∀ k, k < 260 → pm_ai 1 (hp L xs z) 113 (ii k) = some (z.1 113 k)) ∧ (∀ k v, k < 260 → pm_si 1 (hp L xs z) 113 (ii k) v = some (hp L xs (ui z 113 k v))) ∧ (∀ k, k < 260 → pm_ai 0 (hp L xs z) 114 (ii k) = some (z.1 114 k)) ∧ (∀ k v, k < 260 → pm_si 0 (hp L xs z) 114 (ii k) v = some (hp L xs (ui z 114 k v))) ∧ (∀ k, k < 260 → pm_ai 0 (hp L xs z) 115 (ii k) = some (z.1 115 k)) ∧ (∀ k v, k < 260 → pm_si 0 (hp L xs z) 115 (ii k) v = some (hp L xs (ui z 115 k v))) ∧ (∀ k, k < 16 → pm_ai 0 (hp L xs z) 116 (ii k) = some (z.1 116 k)) := ⟨fun k j v hk hj => zw_si (zs_rows_95 k hk) ⟨Nat.le_trans (lb rfl) (Nat.le_add_right _ _), Nat.lt_of_lt_of_le (Nat.add_lt_add_left hk _) (lb rfl)⟩ (by decide) (lb rfl) hj, fun k hk => zr_ai rfl ⟨lb rfl, lb rfl⟩ (by decide) (lb rfl) hk, fun k v hk => zw_si rfl ⟨lb rfl, lb rfl⟩ (by decide) (lb rfl) hk, fun k hk => zr_ai rfl ⟨lb rfl, lb rfl⟩ (by decide) (lb rfl) hk, fun k v hk => zw_si rfl ⟨lb rfl, lb rfl⟩ (by decide) (lb rfl) hk, fun k hk => zr_ai rfl ⟨lb rfl, lb rfl⟩ (by decide) (lb rfl) hk, fun k v hk => zw_si rfl ⟨lb rfl, lb rfl⟩ (by decide) (lb rfl) hk, fun k hk => zr_ai rfl ⟨lb rfl, lb rfl⟩ (by decide) (lb rfl) hk, fun k v hk => zw_si rfl ⟨lb rfl, lb rfl⟩ (by decide) (lb rfl) hk, fun k hk => zr_ai rfl ⟨lb rfl, lb rfl⟩ (by decide) (lb rfl) hk, fun k v hk => zw_si rfl ⟨lb rfl, lb rfl⟩ (by decide) (lb rfl) hk, fun k hk => zr_ai rfl ⟨lb rfl, lb rfl⟩ (by decide) (lb rfl) hk, fun k v hk => zw_si rfl ⟨lb rfl, lb rfl⟩ (by decide) (lb rfl) hk, fun k hk => zr_ai rfl ⟨lb rfl, lb rfl⟩ (by decide) (lb rfl) hk, fun k v hk => zw_si rfl ⟨lb rfl, lb rfl⟩ (by decide) (lb rfl) hk, fun k hk => zr_ai rfl ⟨lb rfl, lb rfl⟩ (by decide) (lb rfl) hk, fun k v hk => zw_si rfl ⟨lb rfl, lb rfl⟩ (by decide) (lb rfl) hk, fun k hk => zr_ai rfl ⟨lb rfl, lb rfl⟩ (by decide) (lb rfl) hk, fun k v hk => zw_si rfl ⟨lb rfl, lb rfl⟩ (by decide) (lb rfl) hk, fun k hk => zr_ai rfl ⟨lb rfl, lb rfl⟩ (by decide) (lb rfl) hk, fun k v hk => zw_si rfl ⟨lb rfl, lb rfl⟩ (by decide) (lb rfl) hk, fun k hk => zr_ai rfl ⟨lb rfl, lb rfl⟩ (by decide) (lb rfl) hk, fun k v hk => zw_si rfl ⟨lb rfl, lb rfl⟩ (by decide) (lb rfl) hk, fun k hk => zr_ai rfl ⟨lb rfl, lb rfl⟩ (by decide) (lb rfl) hk, fun k v hk => zw_si rfl ⟨lb rfl, lb rfl⟩ (by decide) (lb rfl) hk, fun k hk => zr_ai rfl ⟨lb rfl, lb rfl⟩ (by decide) (lb rfl) hk, fun k v hk => zw_si rfl ⟨lb rfl, lb rfl⟩ (by decide) (lb rfl) hk, fun k hk => zr_ai rfl ⟨lb rfl, lb rfl⟩ (by decide) (lb rfl) hk, fun k v hk => zw_si rfl ⟨lb rfl, lb rfl⟩ (by decide) (lb rfl) hk, fun k hk => zr_ai rfl ⟨lb rfl, lb rfl⟩ (by decide) (lb rfl) hk, fun k v hk => zw_si rfl ⟨lb rfl, lb rfl⟩ (by decide) (lb rfl) hk, fun k hk => zr_ai rfl ⟨lb rfl, lb rfl⟩ (by decide) (lb rfl) hk, fun k v hk => zw_si rfl ⟨lb rfl, lb rfl⟩ (by decide) (lb rfl) hk, fun k hk => zr_ai rfl ⟨lb rfl, lb rfl⟩ (by decide) (lb rfl) hk, fun k v hk => zw_si rfl ⟨lb rfl, lb rfl⟩ (by decide) (lb rfl) hk, fun k hk => zr_ai rfl ⟨lb rfl, lb rfl⟩ (by decide) (lb rfl) hk, fun k v hk => zw_si rfl ⟨lb rfl, lb rfl⟩ (by decide) (lb rfl) hk, fun k hk => zr_ai rfl ⟨lb rfl, lb rfl⟩ (by decide) (lb rfl) hk, fun k v hk => zw_si rfl ⟨lb rfl, lb rfl⟩ (by decide) (lb rfl) hk, fun k hk => zr_ai rfl ⟨lb rfl, lb rfl⟩ (by decide) (lb rfl) hk⟩
theorem za_5 {L : Nat} {xs : Nat → Int32} {z : z_T} : (∀ k v, k < 16 → pm_si 0 (hp L xs z) 116 (ii k) v = some (hp L xs (ui z 116 k v))) ∧ (∀ k, k < 16 → pm_ai 0 (hp L xs z) 117 (ii k) = some (z.1 117 k)) ∧ (∀ k v, k < 16 → pm_si 0 (hp L xs z) 117 (ii k) v = some (hp L xs (ui z 117 k v))) ∧ (∀ k, k < 16 → pm_ai 0 (hp L xs z) 118 (ii k) = some (z.1 118 k)) ∧ (∀ k v, k < 16 → pm_si 0 (hp L xs z) 118 (ii k) v = some (hp L xs (ui z 118 k v))) ∧ (∀ k, k < 16 → pm_ai 0 (hp L xs z) 119 (ii k) = some (z.1 119 k)) ∧ (∀ k v, k < 16 → pm_si 0 (hp L xs z) 119 (ii k) v = some (hp L xs (ui z 119 k v))) ∧ (∀ k, k < 260 → pm_ai 0 (hp L xs z) 120 (ii k) = some (z.1 120 k)) ∧ (∀ k v, k < 260 → pm_si 0 (hp L xs z) 120 (ii k) v = some (hp L xs (ui z 120 k v))) ∧ (∀ k, k < 16 → pm_ai 0 (hp L xs z) 121 (ii k) = some (z.1 121 k)) ∧ (∀ k v, k < 16 → pm_si 0 (hp L xs z) 121 (ii k) v = some (hp L xs (ui z 121 k v))) ∧ (∀ k, k < 16 → pm_ai 0 (hp L xs z) 122 (ii k) = some (z.1 122 k)) ∧ (∀ k v, k < 16 → pm_si 0 (hp L xs z) 122 (ii k) v = some (hp L xs (ui z 122 k v))) ∧ (∀ k, k < 16 → pm_ai 0 (hp L xs z) 123 (ii k) = some (z.1 123 k)) ∧ (∀ k v, k < 16 → pm_si 0 (hp L xs z) 123 (ii k) v = some (hp L xs (ui z 123 k v))) ∧ (∀ k, k < 16 → pm_ai 0 (hp L xs z) 124 (ii k) = some (z.1 124 k)) ∧ (∀ k v, k < 16 → pm_si 0 (hp L xs z) 124 (ii k) v = some (hp L xs (ui z 124 k v))) ∧ (∀ k, k < 260 → pm_ai 0 (hp L xs z) 125 (ii k) = some (z.1 125 k)) ∧ (∀ k v, k < 260 → pm_si 0 (hp L xs z) 125 (ii k) v = some (hp L xs (ui z 125 k v))) ∧ (∀ k, k < 10 → pm_ai 0 (hp L xs z) 126 (ii k) = some (z.1 126 k)) ∧ (∀ k v, k < 10 → pm_si 0 (hp L xs z) 126 (ii k) v = some (hp L xs (ui z 126 k v))) ∧ (∀ k, k < 16 → pm_ai 0 (hp L xs z) 127 (ii k) = some (z.1 127 k)) ∧ (∀ k v, k < 16 → pm_si 0 (hp L xs z) 127 (ii k) v = some (hp L xs (ui z 127 k v))) ∧ (∀ k, k < 16 → pm_ai 0 (hp L xs z) 128 (ii k) = some (z.1 128 k)) ∧ (∀ k v, k < 16 → pm_si 0 (hp L xs z) 128 (ii k) v = some (hp L xs (ui z 128 k v))) ∧ (∀ k, k < 65536 → pm_al (hp L xs z) 129 (ii k) = some (z.2.1 129 k)) ∧ (∀ k v, k < 65536 → pm_sl (hp L xs z) 129 (ii k) v = some (hp L xs (ul z 129 k v))) ∧ (∀ k, k < 16 → pm_ai 0 (hp L xs z) 130 (ii k) = some (z.1 130 k)) ∧ (∀ k v, k < 16 → pm_si 0 (hp L xs z) 130 (ii k) v = some (hp L xs (ui z 130 k v))) ∧ (∀ k, k < 65536 → pm_ai 0 (hp L xs z) 131 (ii k) = some (z.1 131 k)) ∧ (∀ k v, k < 65536 → pm_si 0 (hp L xs z) 131 (ii k) v = some (hp L xs (ui z 131 k v))) ∧ (∀ k, k < 256 → pm_ai 0 (hp L xs z) 132 (ii k) = some (z.1 132 k)) ∧ (∀ k v, k < 256 → pm_si 0 (hp L xs z) 132 (ii k) v = some (hp L xs (ui z 132 k v))) ∧ (∀ k, k < 8 → pm_ai 0 (hp L xs z) 133 (ii k) = some (z.1 133 k)) ∧ (∀ k v, k < 8 → pm_si 0 (hp L xs z) 133 (ii k) v = some (hp L xs (ui z 133 k v))) ∧ (∀ k, k < 2048 → pm_ai 0 (hp L xs z) 134 (ii k) = some (z.1 134 k)) ∧ (∀ k v, k < 2048 → pm_si 0 (hp L xs z) 134 (ii k) v = some (hp L xs (ui z 134 k v))) := ⟨fun k v hk => zw_si rfl ⟨lb rfl, lb rfl⟩ (by decide) (lb rfl) hk, fun k hk => zr_ai rfl ⟨lb rfl, lb rfl⟩ (by decide) (lb rfl) hk, fun k v hk => zw_si rfl ⟨lb rfl, lb rfl⟩ (by decide) (lb rfl) hk, fun k hk => zr_ai rfl ⟨lb rfl, lb rfl⟩ (by decide) (lb rfl) hk, fun k v hk => zw_si rfl ⟨lb rfl, lb rfl⟩ (by decide) (lb rfl) hk, fun k hk => zr_ai rfl ⟨lb rfl, lb rfl⟩ (by decide) (lb rfl) hk, fun k v hk => zw_si rfl ⟨lb rfl, lb rfl⟩ (by decide) (lb rfl) hk, fun k hk => zr_ai rfl ⟨lb rfl, lb rfl⟩ (by decide) (lb rfl) hk, fun k v hk => zw_si rfl ⟨lb rfl, lb rfl⟩ (by decide) (lb rfl) hk, fun k hk => zr_ai rfl ⟨lb rfl, lb rfl⟩ (by decide) (lb rfl) hk, fun k v hk => zw_si rfl ⟨lb rfl, lb rfl⟩ (by decide) (lb rfl) hk, fun k hk => zr_ai rfl ⟨lb rfl, lb rfl⟩ (by decide) (lb rfl) hk, fun k v hk => zw_si rfl ⟨lb rfl, lb rfl⟩ (by decide) (lb rfl) hk, fun k hk => zr_ai rfl ⟨lb rfl, lb rfl⟩ (by decide) (lb rfl) hk, fun k v hk => zw_si rfl ⟨lb rfl, lb rfl⟩ (by decide) (lb rfl) hk, fun k hk => zr_ai rfl ⟨lb rfl, lb rfl⟩ (by decide) (lb rfl) hk, fun k v hk => zw_si rfl ⟨lb rfl, lb rfl⟩ (by decide) (lb rfl) hk, fun k hk => zr_ai rfl ⟨lb rfl, lb rfl⟩ (by decide) (lb rfl) hk, fun k v hk => zw_si rfl ⟨lb rfl, lb rfl⟩ (by decide) (lb rfl) hk, fun k hk => zr_ai rfl ⟨lb rfl, lb rfl⟩ (by decide) (lb rfl) hk, fun k v hk => zw_si rfl ⟨lb rfl, lb rfl⟩ (by decide) (lb rfl) hk, fun k hk => zr_ai rfl ⟨lb rfl, lb rfl⟩ (by decide) (lb rfl) hk, fun k v hk => zw_si rfl ⟨lb rfl, lb rfl⟩ (by decide) (lb rfl) hk, fun k hk => zr_ai rfl ⟨lb rfl, lb rfl⟩ (by decide) (lb rfl) hk, fun k v hk => zw_si rfl ⟨lb rfl, lb rfl⟩ (by decide) (lb rfl) hk, fun k hk => zr_al rfl ⟨lb rfl, lb rfl⟩ (lb rfl) hk, fun k v hk => zw_sl rfl ⟨lb rfl, lb rfl⟩ (lb rfl) hk, fun k hk => zr_ai rfl ⟨lb rfl, lb rfl⟩ (by decide) (lb rfl) hk, fun k v hk => zw_si rfl ⟨lb rfl, lb rfl⟩ (by decide) (lb rfl) hk, fun k hk => zr_ai rfl ⟨lb rfl, lb rfl⟩ (by decide) (lb rfl) hk, fun k v hk => zw_si rfl ⟨lb rfl, lb rfl⟩ (by decide) (lb rfl) hk, fun k hk => zr_ai rfl ⟨lb rfl, lb rfl⟩ (by decide) (lb rfl) hk, fun k v hk => zw_si rfl ⟨lb rfl, lb rfl⟩ (by decide) (lb rfl) hk, fun k hk => zr_ai rfl ⟨lb rfl, lb rfl⟩ (by decide) (lb rfl) hk, fun k v hk => zw_si rfl ⟨lb rfl, lb rfl⟩ (by decide) (lb rfl) hk, fun k hk => zr_ai rfl ⟨lb rfl, lb rfl⟩ (by decide) (lb rfl) hk, fun k v hk => zw_si rfl ⟨lb rfl, lb rfl⟩ (by decide) (lb rfl) hk⟩
