/-! THE PLAIN LAW: new cells, texts searched -/
set_option maxRecDepth 100000
/-- a cell behind those of both towns -/
def ue (z : z_T) (e : Nat) (c : pm_C) : z_T := (z.1, z.2.1, z.2.2.1, fun i => if i = e then c else z.2.2.2.1 i, z.2.2.2.2)
/-- one more cell -/
def nx (z : z_T) (k : Nat) : z_T := (z.1, z.2.1, z.2.2.1, z.2.2.2.1, z.2.2.2.2.1 + 1, z.2.2.2.2.2 + k)
theorem ue_ue {z : z_T} {e : Nat} {a b : pm_C} : ue (ue z e a) e b = ue z e b := by
  unfold ue
  refine Prod.ext rfl (Prod.ext rfl (Prod.ext rfl (Prod.ext (funext fun i => ?_) rfl)))
  show (if i = e then b else if i = e then a else z.2.2.2.1 i) = if i = e then b else z.2.2.2.1 i
  split <;> rfl
theorem ui_ue {z : z_T} {e i k : Nat} {c : pm_C} {v : Int32} : ui (ue z e c) i k v = ue (ui z i k v) e c := rfl
section
variable {L : Nat} {xs : Nat → Int32} {z : z_T} {e cl : Nat} {fs : List Value}
theorem ze_g {c : pm_C} (he : 135 ≤ e ∧ e < 135 + z.2.2.2.2.1) : pm_g (hp L xs (ue z e c)) e = some c := by
  unfold pm_g hp ue
  rw [if_pos (show e < 135 + z.2.2.2.2.1 from he.2)]
  dsimp only
  rw [if_neg (by omega), if_neg (by omega), if_pos rfl]
theorem ze_s {c c2 : pm_C} (he : 135 ≤ e ∧ e < 135 + z.2.2.2.2.1) : pm_s (hp L xs (ue z e c)) e c2 = hp L xs (ue z e c2) := by
  unfold pm_s hp
  refine Prod.ext (funext fun j => ?_) rfl
  dsimp only
  by_cases hj : j = e
  · subst hj
    rw [if_pos rfl, if_neg (by omega), if_neg (by omega)]
    exact (if_pos rfl).symm
  · rw [if_neg hj]
    by_cases h1 : j < 7
    · rw [if_pos h1, if_pos h1]
    · rw [if_neg h1, if_neg h1]
      by_cases h2 : j < 135
      · rw [if_pos h2, if_pos h2]
        unfold z_c
        split
        · rename_i fs h
          have : ∀ (fs : List (Option (Option Nat))) (q : Nat), z_fs (ue z e c) j fs q = z_fs (ue z e c2) j fs q := by
            intro fs
            induction fs with
            | nil => exact fun _ => rfl
            | cons x r ih =>
              intro q
              match x with
              | none => exact congrArg _ (ih _)
              | some none => exact congrArg _ (ih _)
              | some (some a) => exact congrArg _ (ih _)
          rw [this]
        · rfl
        · show (if j = e then c else z.2.2.2.1 j) = if j = e then c2 else z.2.2.2.1 j
          rw [if_neg hj, if_neg hj]
      · rw [if_neg h2, if_neg h2]
        show (if j = e then c else z.2.2.2.1 j) = if j = e then c2 else z.2.2.2.1 j
        rw [if_neg hj, if_neg hj]
theorem ze_fI {T : List (Nat × Nat)} {k : Nat} {v : Int32} (he : 135 ≤ e ∧ e < 135 + z.2.2.2.2.1) (hT : pm_lk T cl = some k) (hf : fs[k]? = some (.int v)) : pm_fI T (hp L xs (ue z e (.inr (cl, fs)))) e = some v := by
  unfold pm_fI pm_fld
  rw [ze_g he]
  show (match (pm_lk T cl).bind fun k => fs[k]? with | some (.int x) => some x | _ => none) = _
  rw [hT, Option.bind_some, hf]
theorem ze_fR {T : List (Nat × Nat)} {k a : Nat} (he : 135 ≤ e ∧ e < 135 + z.2.2.2.2.1) (hT : pm_lk T cl = some k) (hf : fs[k]? = some (.ref a)) : pm_fR T (hp L xs (ue z e (.inr (cl, fs)))) e = some a := by
  unfold pm_fR pm_fld
  rw [ze_g he]
  show (match (pm_lk T cl).bind fun k => fs[k]? with | some (.ref x) => some x | _ => none) = _
  rw [hT, Option.bind_some, hf]
theorem ze_cl (he : 135 ≤ e ∧ e < 135 + z.2.2.2.2.1) : pm_cl_ (hp L xs (ue z e (.inr (cl, fs)))) e = some cl := by
  unfold pm_cl_
  rw [ze_g he]
theorem ze_put {T : List (Nat × Nat × Nat)} {k kd : Nat} {v : Value} (he : 135 ≤ e ∧ e < 135 + z.2.2.2.2.1) (hT : pm_lk T cl = some (k, kd)) (hf : pm_fit kd v = true) (hk : k < fs.length) : pm_put T (hp L xs (ue z e (.inr (cl, fs)))) e v = some (hp L xs (ue z e (.inr (cl, fs.set k v)))) := by
  unfold pm_put
  rw [ze_g he]
  show ((pm_lk T cl).bind fun q => if pm_fit q.2 v = true ∧ q.1 < fs.length then some (pm_s (hp L xs (ue z e (.inr (cl, fs)))) e (.inr (cl, fs.set q.1 v))) else none) = _
  rw [hT, Option.bind_some, if_pos ⟨hf, hk⟩, ze_s he]
theorem ze_nw {c : Nat} : pm_nw (hp L xs z) c = hp L xs (ue (nx z (pm_df c).length) (135 + z.2.2.2.2.1) (.inr (c, pm_df c))) := by
  unfold pm_nw pm_a hp
  refine Prod.ext (funext fun j => ?_) rfl
  dsimp only
  by_cases hj : j = 135 + z.2.2.2.2.1
  · subst hj
    rw [if_pos rfl, if_neg (by omega), if_neg (by omega)]
    exact (if_pos rfl).symm
  · rw [if_neg hj]
    by_cases h1 : j < 7
    · rw [if_pos h1, if_pos h1]
    · rw [if_neg h1, if_neg h1]
      by_cases h2 : j < 135
      · rw [if_pos h2, if_pos h2]
        unfold z_c
        split
        · rename_i fs h
          have : ∀ (fs : List (Option (Option Nat))) (q : Nat), z_fs z j fs q = z_fs (ue (nx z (pm_df c).length) (135 + z.2.2.2.2.1) (.inr (c, pm_df c))) j fs q := by
            intro fs
            induction fs with
            | nil => exact fun _ => rfl
            | cons x r ih =>
              intro q
              match x with
              | none => exact congrArg _ (ih _)
              | some none => exact congrArg _ (ih _)
              | some (some a) => exact congrArg _ (ih _)
          rw [this]
        · rfl
        · show z.2.2.2.1 j = if j = 135 + z.2.2.2.2.1 then _ else z.2.2.2.1 j
          rw [if_neg hj]
      · rw [if_neg h2, if_neg h2]
        show z.2.2.2.1 j = if j = 135 + z.2.2.2.2.1 then _ else z.2.2.2.1 j
        rw [if_neg hj]
/-- texts -/
def ixl (F : Nat → Int32) (c : Int32) : Nat → Nat → Int32
  | 0, _ => -1
  | r + 1, k => if F k = c then ii k else ixl F c r (k + 1)
theorem zs_g {s : Nat} (hs : s < 7) : pm_g (hp L xs z) s = some (sd_k L xs s) := by
  unfold pm_g hp
  rw [if_pos (show s < 135 + z.2.2.2.2.1 by omega)]
  dsimp only
  rw [if_pos hs]
theorem x_ixc {b m : Nat} {F : Nat → Int32} (g2 : pm_g (hp L xs z) b = some (.inl (1, m, .inl F))) (hm : m < 100) {c : Int32} : ∀ (r k n : Nat), k + r = m → r + 1 ≤ n → (L_J1_indexOfChar_7 n b (ii m) c (ii k) (hp L xs z)).bind (fun q2 => po_s q2 (fun r => some r) fun e3 => some (-1)) = some (ixl F c r k)
  | 0, k, n, h1, h2 => by
    obtain ⟨q, rfl⟩ : ∃ q, n = q + 1 := ⟨n - 1, by omega⟩
    rw [L_J1_indexOfChar_7, if_neg (by rw [ii_lt (by omega) (by omega)]; omega)]
    rfl
  | r + 1, k, n, h1, h2 => by
    obtain ⟨q, rfl⟩ : ∃ q, n = q + 1 := ⟨n - 1, by omega⟩
    have e : pm_ai 1 (hp L xs z) b (ii k) = some (F k) := by
      unfold pm_ai
      rw [g2]
      dsimp only
      rw [if_pos ⟨rfl, ii_nn (by omega), by rw [ii_n (by omega)]; omega⟩, ii_n (by omega)]
    rw [L_J1_indexOfChar_7, if_pos (by rw [ii_lt (by omega) (by omega)]; omega), e, Option.bind_some]
    by_cases c1 : F k = c
    · rw [if_pos c1, show ixl F c (r + 1) k = ii k from if_pos c1]
      rfl
    · rw [if_neg c1, show ixl F c (r + 1) k = ixl F c r (k + 1) from if_neg c1, ii_s]
      exact x_ixc g2 hm r (k + 1) q (by omega) (by omega)
theorem x_ixo {s b m v n : Nat} {F : Nat → Int32} (g1 : pm_g (hp L xs z) s = some (.inr (30, [.ref b, .int 0]))) (g2 : pm_g (hp L xs z) b = some (.inl (1, m, .inl F))) (hm : m < 100) (hm0 : 0 < m) (hv : v < 256) (hn : 120 ≤ n) : F_J0_indexOf n (hp L xs z) s (ii v) = some (ixl F (pm_i2b (ii v)) m 0) := by
  have r1 : pm_fR [(30, 0)] (hp L xs z) s = some b := by
    unfold pm_fR pm_fld
    rw [g1]
    rfl
  have r2 : pm_fI [(30, 1)] (hp L xs z) s = some 0 := by
    unfold pm_fI pm_fld
    rw [g1]
    rfl
  have r3 : pm_cl_ (hp L xs z) s = some 30 := by
    unfold pm_cl_
    rw [g1]
  have r4 : pm_len (hp L xs z) b = some (ii m) := by
    unfold pm_len
    rw [g2]
    dsimp only
    rfl
  have r5 : narrow .byte (.int 0) = (.int 0 : Value) := rfl
  have e1 : F_J1_canEncode (ii v) = some 1 := by
    unfold F_J1_canEncode
    rw [if_neg (ii_nn (by omega)), if_neg (by rw [show (255 : Int32) = ii 255 from rfl, ii_lt (by omega) (by omega)]; omega)]
  have e2 : mx 0 0 = 0 := rfl
  have e3 : mn (ii m) (ii m) = ii m := by
    unfold mn
    split <;> rfl
  have e4 : pm_shr (ii m) 0 = ii m := by
    have : ∀ m, m < 100 → pm_shr (ii m) 0 = ii m := by decide
    exact this m hm
  have hc := x_ixc (L := L) (xs := xs) (z := z) g2 hm (c := pm_i2b (ii v)) m 0 n (Nat.zero_add _) (by omega)
  have hc : (L_J1_indexOfChar_7 n b (ii m) (pm_i2b (ii v)) 0 (hp L xs z)).bind (fun q2 => po_s q2 (fun r => some r) fun e3 => some (-1)) = some (ixl F (pm_i2b (ii v)) m 0) := hc
  have h0 : (0 : Int32) < ii m := by
    rw [show (0 : Int32) = ii 0 from rfl, ii_lt (by omega) (by omega)]
    exact hm0
  unfold F_J0_indexOf F_J0_indexOf_2 F_J0_isLatin1 F_J0_length F_J0_coder F_J1_indexOf
  simp only [r1, r2, r3, r4, r5, e1, e_max, e_min, e2, e3, e4, one_ne0, ↓reduceIte, Option.bind_some, h0]
  unfold F_J1_indexOfChar
  rw [hc]
  rfl
end
