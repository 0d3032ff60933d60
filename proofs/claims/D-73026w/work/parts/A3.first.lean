/-! THE PLAIN LAW (3): the first state -/
set_option maxRecDepth 100000
def z_i0 : Nat → Nat → Int32 := fun i => match i with
  | 15 => fun k => if k = 4 then 1 else if k = 6 then -2 else 0
  | 35 => fun k => if k = 6 then -2 else 0
  | 55 => fun k => if k = 6 then -2 else 0
  | 106 => upd (fun _ => 0) 273 1
  | _ => fun _ => 0
def z_lX : List pm_C := .inr (0, [.ref 8, .ref 11, .ref 14, .ref 15, .ref 35, .ref 55, .ref 75, .ref 76, .int 0, .int 0, .ref 80, .ref 81, .ref 82, .ref 83, .ref 84, .ref 85, .ref 86, .ref 95, .ref 104]) :: z_tX.set 7 (.inr (3, [.ref 16, .ref 33, .ref 34, .int 0, .int 1, .int 0, .int (-2), .int 0, .int 0, .ref 7]))
def z_lM : List pm_C := .inr (5, [.ref 106, .ref 107, .ref 108, .ref 109, .ref 110, .ref 111, .ref 112, .int 0, .int 0, .int 0, .int 0, .ref 113, .int 0, .int 0, .int 0, .int 0, .int 0, .int 0, .int 0, .int 0, .int 0, .int 0, .ref 114, .ref 115, .ref 116, .ref 117, .ref 118, .ref 119, .ref 120, .ref 121, .ref 122, .ref 123, .ref 124, .ref 125, .ref 126, .int 0, .ref 127, .int 0, .int 0, .int 0, .ref 128, .int 0, .int 0, .int 0, .int 0, .ref 129, .ref 130, .ref 131, .ref 132, .ref 133, .ref 134, .int 0]) :: z_tM.set 0 (.inl (0, 274, .inl (upd (fun _ => 0) 273 1)))
def z_q1 (L : Nat) (xs : Nat → Int32) : pm_H := bk (sd_k L xs, 7, 0) z_lX 133116
def z_R0 (L : Nat) (xs : Nat → Int32) : Nat → pm_C := (bk (z_q1 L xs) z_lM 135808).1
def z_0 (L : Nat) (xs : Nat → Int32) : z_T := (z_i0, fun _ _ => 0, 76, z_R0 L xs, 0, 268924)
theorem z_q1_n {L : Nat} {xs : Nat → Int32} : (z_q1 L xs).2.1 = 105 := rfl
theorem z_q1_ok {L : Nat} {xs : Nat → Int32} : F_X0_init (pm_nw (zw_h0 L xs) 0) 7 = some (z_q1 L xs) := z_initX (f := sd_k L xs) (s := 0)
theorem z_q1_e {L : Nat} {xs : Nat → Int32} : z_q1 L xs = ((z_q1 L xs).1, 105, 133116) := rfl
section
variable {L : Nat} {xs : Nat → Int32}
theorem z_lX_ok : ∀ q, q < 98 → z_lX[q]? = some (z_c (z_0 L xs) (q + 7)) := fun q hq => match q, hq with
  | 0, _ => rfl
  | 1, _ => rfl
  | 2, _ => rfl
  | 3, _ => rfl
  | 4, _ => rfl
  | 5, _ => rfl
  | 6, _ => rfl
  | 7, _ => rfl
  | 8, _ => rfl
  | 9, _ => rfl
  | 10, _ => rfl
  | 11, _ => rfl
  | 12, _ => rfl
  | 13, _ => rfl
  | 14, _ => rfl
  | 15, _ => rfl
  | 16, _ => rfl
  | 17, _ => rfl
  | 18, _ => rfl
  | 19, _ => rfl
  | 20, _ => rfl
  | 21, _ => rfl
  | 22, _ => rfl
  | 23, _ => rfl
  | 24, _ => rfl
  | 25, _ => rfl
  | 26, _ => rfl
  | 27, _ => rfl
  | 28, _ => rfl
  | 29, _ => rfl
  | 30, _ => rfl
  | 31, _ => rfl
  | 32, _ => rfl
  | 33, _ => rfl
  | 34, _ => rfl
  | 35, _ => rfl
  | 36, _ => rfl
  | 37, _ => rfl
  | 38, _ => rfl
  | 39, _ => rfl
  | 40, _ => rfl
  | 41, _ => rfl
  | 42, _ => rfl
  | 43, _ => rfl
  | 44, _ => rfl
  | 45, _ => rfl
  | 46, _ => rfl
  | 47, _ => rfl
  | 48, _ => rfl
  | 49, _ => rfl
  | 50, _ => rfl
  | 51, _ => rfl
  | 52, _ => rfl
  | 53, _ => rfl
  | 54, _ => rfl
  | 55, _ => rfl
  | 56, _ => rfl
  | 57, _ => rfl
  | 58, _ => rfl
  | 59, _ => rfl
  | 60, _ => rfl
  | 61, _ => rfl
  | 62, _ => rfl
  | 63, _ => rfl
  | 64, _ => rfl
  | 65, _ => rfl
  | 66, _ => rfl
  | 67, _ => rfl
  | 68, _ => rfl
  | 69, _ => rfl
  | 70, _ => rfl
  | 71, _ => rfl
  | 72, _ => rfl
  | 73, _ => rfl
  | 74, _ => rfl
  | 75, _ => rfl
  | 76, _ => rfl
  | 77, _ => rfl
  | 78, _ => rfl
  | 79, _ => rfl
  | 80, _ => rfl
  | 81, _ => rfl
  | 82, _ => rfl
  | 83, _ => rfl
  | 84, _ => rfl
  | 85, _ => rfl
  | 86, _ => rfl
  | 87, _ => rfl
  | 88, _ => rfl
  | 89, _ => rfl
  | 90, _ => rfl
  | 91, _ => rfl
  | 92, _ => rfl
  | 93, _ => rfl
  | 94, _ => rfl
  | 95, _ => rfl
  | 96, _ => rfl
  | 97, _ => rfl
  | j + 98, h => absurd h (by omega)
theorem z_lM_ok : ∀ q, q < 30 → z_lM[q]? = some (z_c (z_0 L xs) (q + 105)) := fun q hq => match q, hq with
  | 0, _ => rfl
  | 1, _ => rfl
  | 2, _ => rfl
  | 3, _ => rfl
  | 4, _ => rfl
  | 5, _ => rfl
  | 6, _ => rfl
  | 7, _ => rfl
  | 8, _ => rfl
  | 9, _ => rfl
  | 10, _ => rfl
  | 11, _ => rfl
  | 12, _ => rfl
  | 13, _ => rfl
  | 14, _ => rfl
  | 15, _ => rfl
  | 16, _ => rfl
  | 17, _ => rfl
  | 18, _ => rfl
  | 19, _ => rfl
  | 20, _ => rfl
  | 21, _ => rfl
  | 22, _ => rfl
  | 23, _ => rfl
  | 24, _ => rfl
  | 25, _ => rfl
  | 26, _ => rfl
  | 27, _ => rfl
  | 28, _ => rfl
  | 29, _ => rfl
  | j + 30, h => absurd h (by omega)
theorem z_0_ok : F_X6_init (pm_nw (z_q1 L xs) 5) 105 = some (hp L xs (z_0 L xs)) := by
  rw [z_q1_e, z_initM, ← z_q1_e]
  refine congrArg some (Prod.ext (funext fun j => ?_) rfl)
  show (if j < 105 then (if j < 7 then sd_k L xs j else (z_lX[j - 7]?).getD (sd_k L xs j)) else (z_lM[j - 105]?).getD (if j < 7 then sd_k L xs j else (z_lX[j - 7]?).getD (sd_k L xs j))) = (if j < 7 then sd_k L xs j else if j < 135 then z_c (z_0 L xs) j else z_R0 L xs j)
  by_cases h1 : j < 7
  · rw [if_pos (by omega), if_pos h1, if_pos h1]
  · rw [if_neg h1, if_neg h1]
    by_cases h2 : j < 105
    · rw [if_pos h2, if_pos (by omega), z_lX_ok (L := L) (xs := xs) (j - 7) (by omega), show j - 7 + 7 = j by omega]
      rfl
    · rw [if_neg h2]
      by_cases h3 : j < 135
      · rw [if_pos h3, z_lM_ok (L := L) (xs := xs) (j - 105) (by omega), show j - 105 + 105 = j by omega]
        rfl
      · rw [if_neg h3]
        show _ = (if j < 105 then (if j < 7 then sd_k L xs j else (z_lX[j - 7]?).getD (sd_k L xs j)) else (z_lM[j - 105]?).getD (if j < 7 then sd_k L xs j else (z_lX[j - 7]?).getD (sd_k L xs j)))
        rw [if_neg h2, if_neg h1]
theorem z_R0_76 : z_R0 L xs 76 = .inr (4, [.ref 77, .ref 78, .ref 79, .int 0]) := rfl
theorem z_R0_77 : z_R0 L xs 77 = z_a 0 16 := rfl
theorem z_R0_78 : z_R0 L xs 78 = z_an 4 16 := rfl
theorem z_R0_79 : z_R0 L xs 79 = z_an 5 16 := rfl
end
/-- what is left: the law's loop from the first state on -/
theorem z_law {L : Nat} {xs : Nat → Int32} (h : ∃ (n : Nat) (q : pm_H), L_L_law_18 n 0 7 105 0 (hp L xs (z_0 L xs)) = some (.inr q) ∧ q.2.1 ≤ 1200007 ∧ q.2.2 ≤ 5502250) : zw_Law L xs := by
  obtain ⟨n, q, h1, h2, h3⟩ := h
  refine ⟨n, q, ?_, h2, h3⟩
  unfold F_L_law
  show (F_X0_init (pm_nw (zw_h0 L xs) 0) 7).bind _ = _
  refine pb_some z_q1_ok ?_
  refine pb_some z_0_ok ?_
  refine pb_some h1 ?_
  rfl
