/-! DECODE ROWS BY BYTES: one lemma an opcode; a method's code is cut into short pieces once, and a row reads its own piece alone. -/
set_option maxRecDepth 100000
/-- the code has just these bytes from pc on -/
def DkAt (code : ByteArray) (pc : Nat) (bs : List UInt8) : Prop := ∀ (j : Nat) (b : UInt8), bs[j]? = some b → code.data.toList[pc + j]? = some b
/-- the piece W has the bytes bs from its place j on -/
def dkIn (W : List UInt8) (j : Nat) (bs : List UInt8) : Bool := decide ((W.drop j).take bs.length = bs)
theorem dk_seg {l W T : List UInt8} {o o2 : Nat} (h : l.drop o = W ++ T) (n : Nat) (hn : W.length = n) (ho : o + n = o2) : l.drop o2 = T := by
  subst ho
  rw [← List.drop_drop, h, List.drop_left' hn]
theorem dk_at {code : ByteArray} {W T bs : List UInt8} {o pc : Nat} (h : code.data.toList.drop o = W ++ T) (j : Nat) (hp : o + j = pc) (hw : dkIn W j bs = true) : DkAt code pc bs := by
  subst hp
  intro i b e
  have h1 := of_decide_eq_true hw
  have h2 : i < bs.length := (List.getElem?_eq_some_iff.mp e).1
  have h3 : W[j + i]? = some b := by
    rw [← h1, List.getElem?_take, if_pos h2, List.getElem?_drop] at e
    exact e
  have h4 : j + i < W.length := (List.getElem?_eq_some_iff.mp h3).1
  have h5 : (code.data.toList.drop o)[j + i]? = some b := by
    rw [h, List.getElem?_append_left h4]
    exact h3
  rw [List.getElem?_drop, ← Nat.add_assoc] at h5
  exact h5
theorem dk_u1 {A : ByteArray} {p : Nat} {b : UInt8} (h : A.data.toList[p]? = some b) : (Reader.u1 : Reader DecodeError Nat) A p = .ok (b.toNat, p + 1) := by
  obtain ⟨h1, h2⟩ := List.getElem?_eq_some_iff.mp h
  have h3 : p < A.size := by simpa using h1
  have h4 : A[p]'h3 = b := h2
  have e : (Reader.u1 : Reader DecodeError Nat) A p = (if h : p < A.size then .ok (A[p].toNat, p + 1) else .error (HasTruncated.truncated p)) := by
    show (do if h : p < A.size then do set (p + 1); Pure.pure A[p].toNat else MonadExcept.throw (HasTruncated.truncated p) : Reader DecodeError Nat) A p = _
    by_cases hi : p < A.size
    · rw [dif_pos hi, dif_pos hi]; rfl
    · rw [dif_neg hi, dif_neg hi]; rfl
  rw [e, dif_pos h3, h4]
theorem dk_bind {α β : Type} {r : Reader DecodeError α} {f : α → Reader DecodeError β} {A : ByteArray} {p s : Nat} {a : α} (h : r A p = .ok (a, s)) : (r >>= f) A p = f a A s := by
  show (do let (a, s) ← r A p; f a A s : Except DecodeError (β × Nat)) = _
  rw [h]
  rfl
theorem dk_map {α β : Type} {r : Reader DecodeError α} {g : α → β} {A : ByteArray} {p s : Nat} {a : α} (h : r A p = .ok (a, s)) : (g <$> r) A p = .ok (g a, s) := by
  show (do let (a, s) ← r A p; .ok (g a, s) : Except DecodeError (β × Nat)) = _
  rw [h]
  rfl
theorem dk_u2 {A : ByteArray} {p : Nat} {a b : UInt8} (h : A.data.toList[p]? = some a) (h2 : A.data.toList[p + 1]? = some b) : (Reader.u2 : Reader DecodeError Nat) A p = .ok (a.toNat * 256 + b.toNat, p + 2) := by
  show (Reader.u1 >>= fun hi => Reader.u1 >>= fun lo => Pure.pure (hi * 256 + lo) : Reader DecodeError Nat) A p = _
  rw [dk_bind (dk_u1 h), dk_bind (dk_u1 h2)]
  rfl
theorem dk_of {code : ByteArray} {pc n : Nat} {i : Instr} (h : Decoder.instr pc code pc = .ok (i, pc + n)) : decode code pc = .ok (i, n) := by
  have e : decode code pc = (match Decoder.instr pc code pc with | .error x => .error x | .ok (j, s) => .ok (j, s - pc)) := by
    show (do let (j, s) ← Decoder.instr pc code pc; Pure.pure (j, s - pc) : Except DecodeError (Instr × Nat)) = _
    cases Decoder.instr pc code pc <;> rfl
  rw [e, h]
  show Except.ok (i, pc + n - pc) = _
  rw [Nat.add_sub_cancel_left]
theorem dk_1 {code : ByteArray} {pc : Nat} (h : DkAt code pc [1]) : decode code pc = .ok (.aconst_null, 1) := dk_of ((dk_bind (dk_u1 (h 0 _ rfl))).trans rfl)
theorem dk_2 {code : ByteArray} {pc : Nat} (h : DkAt code pc [2]) : decode code pc = .ok (.iconst (-1), 1) := dk_of ((dk_bind (dk_u1 (h 0 _ rfl))).trans rfl)
theorem dk_3 {code : ByteArray} {pc : Nat} (h : DkAt code pc [3]) : decode code pc = .ok (.iconst 0, 1) := dk_of ((dk_bind (dk_u1 (h 0 _ rfl))).trans rfl)
theorem dk_4 {code : ByteArray} {pc : Nat} (h : DkAt code pc [4]) : decode code pc = .ok (.iconst 1, 1) := dk_of ((dk_bind (dk_u1 (h 0 _ rfl))).trans rfl)
theorem dk_5 {code : ByteArray} {pc : Nat} (h : DkAt code pc [5]) : decode code pc = .ok (.iconst 2, 1) := dk_of ((dk_bind (dk_u1 (h 0 _ rfl))).trans rfl)
theorem dk_6 {code : ByteArray} {pc : Nat} (h : DkAt code pc [6]) : decode code pc = .ok (.iconst 3, 1) := dk_of ((dk_bind (dk_u1 (h 0 _ rfl))).trans rfl)
theorem dk_7 {code : ByteArray} {pc : Nat} (h : DkAt code pc [7]) : decode code pc = .ok (.iconst 4, 1) := dk_of ((dk_bind (dk_u1 (h 0 _ rfl))).trans rfl)
theorem dk_8 {code : ByteArray} {pc : Nat} (h : DkAt code pc [8]) : decode code pc = .ok (.iconst 5, 1) := dk_of ((dk_bind (dk_u1 (h 0 _ rfl))).trans rfl)
theorem dk_9 {code : ByteArray} {pc : Nat} (h : DkAt code pc [9]) : decode code pc = .ok (.lconst 0, 1) := dk_of ((dk_bind (dk_u1 (h 0 _ rfl))).trans rfl)
theorem dk_10 {code : ByteArray} {pc : Nat} (h : DkAt code pc [10]) : decode code pc = .ok (.lconst 1, 1) := dk_of ((dk_bind (dk_u1 (h 0 _ rfl))).trans rfl)
theorem dk_16 {code : ByteArray} {pc : Nat} (a : UInt8) (h : DkAt code pc [16, a]) : decode code pc = .ok (.bipush (Reader.signed 8 a.toNat), 2) := dk_of ((dk_bind (dk_u1 (h 0 _ rfl))).trans ((dk_bind (dk_map (dk_u1 (h 1 _ rfl)))).trans rfl))
theorem dk_17 {code : ByteArray} {pc : Nat} (a b : UInt8) (h : DkAt code pc [17, a, b]) : decode code pc = .ok (.sipush (Reader.signed 16 (a.toNat * 256 + b.toNat)), 3) := dk_of ((dk_bind (dk_u1 (h 0 _ rfl))).trans ((dk_bind (dk_map (dk_u2 (h 1 _ rfl) (h 2 _ rfl)))).trans rfl))
theorem dk_18 {code : ByteArray} {pc : Nat} (a : UInt8) (h : DkAt code pc [18, a]) : decode code pc = .ok (.ldc a.toNat, 2) := dk_of ((dk_bind (dk_u1 (h 0 _ rfl))).trans ((dk_bind (dk_u1 (h 1 _ rfl))).trans rfl))
theorem dk_19 {code : ByteArray} {pc : Nat} (a b : UInt8) (h : DkAt code pc [19, a, b]) : decode code pc = .ok (.ldc_w (a.toNat * 256 + b.toNat), 3) := dk_of ((dk_bind (dk_u1 (h 0 _ rfl))).trans ((dk_bind (dk_u2 (h 1 _ rfl) (h 2 _ rfl))).trans rfl))
theorem dk_20 {code : ByteArray} {pc : Nat} (a b : UInt8) (h : DkAt code pc [20, a, b]) : decode code pc = .ok (.ldc2_w (a.toNat * 256 + b.toNat), 3) := dk_of ((dk_bind (dk_u1 (h 0 _ rfl))).trans ((dk_bind (dk_u2 (h 1 _ rfl) (h 2 _ rfl))).trans rfl))
theorem dk_21 {code : ByteArray} {pc : Nat} (a : UInt8) (h : DkAt code pc [21, a]) : decode code pc = .ok (.iload a.toNat, 2) := dk_of ((dk_bind (dk_u1 (h 0 _ rfl))).trans ((dk_bind (dk_u1 (h 1 _ rfl))).trans rfl))
theorem dk_22 {code : ByteArray} {pc : Nat} (a : UInt8) (h : DkAt code pc [22, a]) : decode code pc = .ok (.lload a.toNat, 2) := dk_of ((dk_bind (dk_u1 (h 0 _ rfl))).trans ((dk_bind (dk_u1 (h 1 _ rfl))).trans rfl))
theorem dk_26 {code : ByteArray} {pc : Nat} (h : DkAt code pc [26]) : decode code pc = .ok (.iload_n 0, 1) := dk_of ((dk_bind (dk_u1 (h 0 _ rfl))).trans rfl)
theorem dk_27 {code : ByteArray} {pc : Nat} (h : DkAt code pc [27]) : decode code pc = .ok (.iload_n 1, 1) := dk_of ((dk_bind (dk_u1 (h 0 _ rfl))).trans rfl)
theorem dk_28 {code : ByteArray} {pc : Nat} (h : DkAt code pc [28]) : decode code pc = .ok (.iload_n 2, 1) := dk_of ((dk_bind (dk_u1 (h 0 _ rfl))).trans rfl)
theorem dk_29 {code : ByteArray} {pc : Nat} (h : DkAt code pc [29]) : decode code pc = .ok (.iload_n 3, 1) := dk_of ((dk_bind (dk_u1 (h 0 _ rfl))).trans rfl)
theorem dk_42 {code : ByteArray} {pc : Nat} (h : DkAt code pc [42]) : decode code pc = .ok (.aload_n 0, 1) := dk_of ((dk_bind (dk_u1 (h 0 _ rfl))).trans rfl)
theorem dk_43 {code : ByteArray} {pc : Nat} (h : DkAt code pc [43]) : decode code pc = .ok (.aload_n 1, 1) := dk_of ((dk_bind (dk_u1 (h 0 _ rfl))).trans rfl)
theorem dk_44 {code : ByteArray} {pc : Nat} (h : DkAt code pc [44]) : decode code pc = .ok (.aload_n 2, 1) := dk_of ((dk_bind (dk_u1 (h 0 _ rfl))).trans rfl)
theorem dk_45 {code : ByteArray} {pc : Nat} (h : DkAt code pc [45]) : decode code pc = .ok (.aload_n 3, 1) := dk_of ((dk_bind (dk_u1 (h 0 _ rfl))).trans rfl)
theorem dk_46 {code : ByteArray} {pc : Nat} (h : DkAt code pc [46]) : decode code pc = .ok (.iaload, 1) := dk_of ((dk_bind (dk_u1 (h 0 _ rfl))).trans rfl)
theorem dk_47 {code : ByteArray} {pc : Nat} (h : DkAt code pc [47]) : decode code pc = .ok (.laload, 1) := dk_of ((dk_bind (dk_u1 (h 0 _ rfl))).trans rfl)
theorem dk_50 {code : ByteArray} {pc : Nat} (h : DkAt code pc [50]) : decode code pc = .ok (.aaload, 1) := dk_of ((dk_bind (dk_u1 (h 0 _ rfl))).trans rfl)
theorem dk_51 {code : ByteArray} {pc : Nat} (h : DkAt code pc [51]) : decode code pc = .ok (.baload, 1) := dk_of ((dk_bind (dk_u1 (h 0 _ rfl))).trans rfl)
theorem dk_54 {code : ByteArray} {pc : Nat} (a : UInt8) (h : DkAt code pc [54, a]) : decode code pc = .ok (.istore a.toNat, 2) := dk_of ((dk_bind (dk_u1 (h 0 _ rfl))).trans ((dk_bind (dk_u1 (h 1 _ rfl))).trans rfl))
theorem dk_55 {code : ByteArray} {pc : Nat} (a : UInt8) (h : DkAt code pc [55, a]) : decode code pc = .ok (.lstore a.toNat, 2) := dk_of ((dk_bind (dk_u1 (h 0 _ rfl))).trans ((dk_bind (dk_u1 (h 1 _ rfl))).trans rfl))
theorem dk_58 {code : ByteArray} {pc : Nat} (a : UInt8) (h : DkAt code pc [58, a]) : decode code pc = .ok (.astore a.toNat, 2) := dk_of ((dk_bind (dk_u1 (h 0 _ rfl))).trans ((dk_bind (dk_u1 (h 1 _ rfl))).trans rfl))
theorem dk_59 {code : ByteArray} {pc : Nat} (h : DkAt code pc [59]) : decode code pc = .ok (.istore_n 0, 1) := dk_of ((dk_bind (dk_u1 (h 0 _ rfl))).trans rfl)
theorem dk_60 {code : ByteArray} {pc : Nat} (h : DkAt code pc [60]) : decode code pc = .ok (.istore_n 1, 1) := dk_of ((dk_bind (dk_u1 (h 0 _ rfl))).trans rfl)
theorem dk_61 {code : ByteArray} {pc : Nat} (h : DkAt code pc [61]) : decode code pc = .ok (.istore_n 2, 1) := dk_of ((dk_bind (dk_u1 (h 0 _ rfl))).trans rfl)
theorem dk_62 {code : ByteArray} {pc : Nat} (h : DkAt code pc [62]) : decode code pc = .ok (.istore_n 3, 1) := dk_of ((dk_bind (dk_u1 (h 0 _ rfl))).trans rfl)
theorem dk_76 {code : ByteArray} {pc : Nat} (h : DkAt code pc [76]) : decode code pc = .ok (.astore_n 1, 1) := dk_of ((dk_bind (dk_u1 (h 0 _ rfl))).trans rfl)
theorem dk_77 {code : ByteArray} {pc : Nat} (h : DkAt code pc [77]) : decode code pc = .ok (.astore_n 2, 1) := dk_of ((dk_bind (dk_u1 (h 0 _ rfl))).trans rfl)
theorem dk_78 {code : ByteArray} {pc : Nat} (h : DkAt code pc [78]) : decode code pc = .ok (.astore_n 3, 1) := dk_of ((dk_bind (dk_u1 (h 0 _ rfl))).trans rfl)
theorem dk_79 {code : ByteArray} {pc : Nat} (h : DkAt code pc [79]) : decode code pc = .ok (.iastore, 1) := dk_of ((dk_bind (dk_u1 (h 0 _ rfl))).trans rfl)
theorem dk_80 {code : ByteArray} {pc : Nat} (h : DkAt code pc [80]) : decode code pc = .ok (.lastore, 1) := dk_of ((dk_bind (dk_u1 (h 0 _ rfl))).trans rfl)
theorem dk_83 {code : ByteArray} {pc : Nat} (h : DkAt code pc [83]) : decode code pc = .ok (.aastore, 1) := dk_of ((dk_bind (dk_u1 (h 0 _ rfl))).trans rfl)
theorem dk_84 {code : ByteArray} {pc : Nat} (h : DkAt code pc [84]) : decode code pc = .ok (.bastore, 1) := dk_of ((dk_bind (dk_u1 (h 0 _ rfl))).trans rfl)
theorem dk_87 {code : ByteArray} {pc : Nat} (h : DkAt code pc [87]) : decode code pc = .ok (.pop, 1) := dk_of ((dk_bind (dk_u1 (h 0 _ rfl))).trans rfl)
theorem dk_89 {code : ByteArray} {pc : Nat} (h : DkAt code pc [89]) : decode code pc = .ok (.dup, 1) := dk_of ((dk_bind (dk_u1 (h 0 _ rfl))).trans rfl)
theorem dk_92 {code : ByteArray} {pc : Nat} (h : DkAt code pc [92]) : decode code pc = .ok (.dup2, 1) := dk_of ((dk_bind (dk_u1 (h 0 _ rfl))).trans rfl)
theorem dk_96 {code : ByteArray} {pc : Nat} (h : DkAt code pc [96]) : decode code pc = .ok (.iadd, 1) := dk_of ((dk_bind (dk_u1 (h 0 _ rfl))).trans rfl)
theorem dk_97 {code : ByteArray} {pc : Nat} (h : DkAt code pc [97]) : decode code pc = .ok (.ladd, 1) := dk_of ((dk_bind (dk_u1 (h 0 _ rfl))).trans rfl)
theorem dk_100 {code : ByteArray} {pc : Nat} (h : DkAt code pc [100]) : decode code pc = .ok (.isub, 1) := dk_of ((dk_bind (dk_u1 (h 0 _ rfl))).trans rfl)
theorem dk_104 {code : ByteArray} {pc : Nat} (h : DkAt code pc [104]) : decode code pc = .ok (.imul, 1) := dk_of ((dk_bind (dk_u1 (h 0 _ rfl))).trans rfl)
theorem dk_108 {code : ByteArray} {pc : Nat} (h : DkAt code pc [108]) : decode code pc = .ok (.idiv, 1) := dk_of ((dk_bind (dk_u1 (h 0 _ rfl))).trans rfl)
theorem dk_112 {code : ByteArray} {pc : Nat} (h : DkAt code pc [112]) : decode code pc = .ok (.irem, 1) := dk_of ((dk_bind (dk_u1 (h 0 _ rfl))).trans rfl)
theorem dk_116 {code : ByteArray} {pc : Nat} (h : DkAt code pc [116]) : decode code pc = .ok (.ineg, 1) := dk_of ((dk_bind (dk_u1 (h 0 _ rfl))).trans rfl)
theorem dk_120 {code : ByteArray} {pc : Nat} (h : DkAt code pc [120]) : decode code pc = .ok (.ishl, 1) := dk_of ((dk_bind (dk_u1 (h 0 _ rfl))).trans rfl)
theorem dk_122 {code : ByteArray} {pc : Nat} (h : DkAt code pc [122]) : decode code pc = .ok (.ishr, 1) := dk_of ((dk_bind (dk_u1 (h 0 _ rfl))).trans rfl)
theorem dk_124 {code : ByteArray} {pc : Nat} (h : DkAt code pc [124]) : decode code pc = .ok (.iushr, 1) := dk_of ((dk_bind (dk_u1 (h 0 _ rfl))).trans rfl)
theorem dk_126 {code : ByteArray} {pc : Nat} (h : DkAt code pc [126]) : decode code pc = .ok (.iand, 1) := dk_of ((dk_bind (dk_u1 (h 0 _ rfl))).trans rfl)
theorem dk_128 {code : ByteArray} {pc : Nat} (h : DkAt code pc [128]) : decode code pc = .ok (.ior, 1) := dk_of ((dk_bind (dk_u1 (h 0 _ rfl))).trans rfl)
theorem dk_130 {code : ByteArray} {pc : Nat} (h : DkAt code pc [130]) : decode code pc = .ok (.ixor, 1) := dk_of ((dk_bind (dk_u1 (h 0 _ rfl))).trans rfl)
theorem dk_132 {code : ByteArray} {pc : Nat} (a b : UInt8) (h : DkAt code pc [132, a, b]) : decode code pc = .ok (.iinc a.toNat (Reader.signed 8 b.toNat), 3) := dk_of ((dk_bind (dk_u1 (h 0 _ rfl))).trans ((dk_bind (dk_u1 (h 1 _ rfl))).trans ((dk_bind (dk_map (dk_u1 (h 2 _ rfl)))).trans rfl)))
theorem dk_145 {code : ByteArray} {pc : Nat} (h : DkAt code pc [145]) : decode code pc = .ok (.i2b, 1) := dk_of ((dk_bind (dk_u1 (h 0 _ rfl))).trans rfl)
theorem dk_146 {code : ByteArray} {pc : Nat} (h : DkAt code pc [146]) : decode code pc = .ok (.i2c, 1) := dk_of ((dk_bind (dk_u1 (h 0 _ rfl))).trans rfl)
theorem dk_148 {code : ByteArray} {pc : Nat} (h : DkAt code pc [148]) : decode code pc = .ok (.lcmp, 1) := dk_of ((dk_bind (dk_u1 (h 0 _ rfl))).trans rfl)
theorem dk_153 {code : ByteArray} {pc : Nat} (a b : UInt8) (h : DkAt code pc [153, a, b]) : decode code pc = .ok (.ifCond .eq (Reader.signed 16 (a.toNat * 256 + b.toNat)), 3) := dk_of ((dk_bind (dk_u1 (h 0 _ rfl))).trans ((dk_bind (dk_map (dk_u2 (h 1 _ rfl) (h 2 _ rfl)))).trans rfl))
theorem dk_154 {code : ByteArray} {pc : Nat} (a b : UInt8) (h : DkAt code pc [154, a, b]) : decode code pc = .ok (.ifCond .ne (Reader.signed 16 (a.toNat * 256 + b.toNat)), 3) := dk_of ((dk_bind (dk_u1 (h 0 _ rfl))).trans ((dk_bind (dk_map (dk_u2 (h 1 _ rfl) (h 2 _ rfl)))).trans rfl))
theorem dk_155 {code : ByteArray} {pc : Nat} (a b : UInt8) (h : DkAt code pc [155, a, b]) : decode code pc = .ok (.ifCond .lt (Reader.signed 16 (a.toNat * 256 + b.toNat)), 3) := dk_of ((dk_bind (dk_u1 (h 0 _ rfl))).trans ((dk_bind (dk_map (dk_u2 (h 1 _ rfl) (h 2 _ rfl)))).trans rfl))
theorem dk_156 {code : ByteArray} {pc : Nat} (a b : UInt8) (h : DkAt code pc [156, a, b]) : decode code pc = .ok (.ifCond .ge (Reader.signed 16 (a.toNat * 256 + b.toNat)), 3) := dk_of ((dk_bind (dk_u1 (h 0 _ rfl))).trans ((dk_bind (dk_map (dk_u2 (h 1 _ rfl) (h 2 _ rfl)))).trans rfl))
theorem dk_157 {code : ByteArray} {pc : Nat} (a b : UInt8) (h : DkAt code pc [157, a, b]) : decode code pc = .ok (.ifCond .gt (Reader.signed 16 (a.toNat * 256 + b.toNat)), 3) := dk_of ((dk_bind (dk_u1 (h 0 _ rfl))).trans ((dk_bind (dk_map (dk_u2 (h 1 _ rfl) (h 2 _ rfl)))).trans rfl))
theorem dk_158 {code : ByteArray} {pc : Nat} (a b : UInt8) (h : DkAt code pc [158, a, b]) : decode code pc = .ok (.ifCond .le (Reader.signed 16 (a.toNat * 256 + b.toNat)), 3) := dk_of ((dk_bind (dk_u1 (h 0 _ rfl))).trans ((dk_bind (dk_map (dk_u2 (h 1 _ rfl) (h 2 _ rfl)))).trans rfl))
theorem dk_159 {code : ByteArray} {pc : Nat} (a b : UInt8) (h : DkAt code pc [159, a, b]) : decode code pc = .ok (.if_icmp .eq (Reader.signed 16 (a.toNat * 256 + b.toNat)), 3) := dk_of ((dk_bind (dk_u1 (h 0 _ rfl))).trans ((dk_bind (dk_map (dk_u2 (h 1 _ rfl) (h 2 _ rfl)))).trans rfl))
theorem dk_160 {code : ByteArray} {pc : Nat} (a b : UInt8) (h : DkAt code pc [160, a, b]) : decode code pc = .ok (.if_icmp .ne (Reader.signed 16 (a.toNat * 256 + b.toNat)), 3) := dk_of ((dk_bind (dk_u1 (h 0 _ rfl))).trans ((dk_bind (dk_map (dk_u2 (h 1 _ rfl) (h 2 _ rfl)))).trans rfl))
theorem dk_161 {code : ByteArray} {pc : Nat} (a b : UInt8) (h : DkAt code pc [161, a, b]) : decode code pc = .ok (.if_icmp .lt (Reader.signed 16 (a.toNat * 256 + b.toNat)), 3) := dk_of ((dk_bind (dk_u1 (h 0 _ rfl))).trans ((dk_bind (dk_map (dk_u2 (h 1 _ rfl) (h 2 _ rfl)))).trans rfl))
theorem dk_162 {code : ByteArray} {pc : Nat} (a b : UInt8) (h : DkAt code pc [162, a, b]) : decode code pc = .ok (.if_icmp .ge (Reader.signed 16 (a.toNat * 256 + b.toNat)), 3) := dk_of ((dk_bind (dk_u1 (h 0 _ rfl))).trans ((dk_bind (dk_map (dk_u2 (h 1 _ rfl) (h 2 _ rfl)))).trans rfl))
theorem dk_163 {code : ByteArray} {pc : Nat} (a b : UInt8) (h : DkAt code pc [163, a, b]) : decode code pc = .ok (.if_icmp .gt (Reader.signed 16 (a.toNat * 256 + b.toNat)), 3) := dk_of ((dk_bind (dk_u1 (h 0 _ rfl))).trans ((dk_bind (dk_map (dk_u2 (h 1 _ rfl) (h 2 _ rfl)))).trans rfl))
theorem dk_164 {code : ByteArray} {pc : Nat} (a b : UInt8) (h : DkAt code pc [164, a, b]) : decode code pc = .ok (.if_icmp .le (Reader.signed 16 (a.toNat * 256 + b.toNat)), 3) := dk_of ((dk_bind (dk_u1 (h 0 _ rfl))).trans ((dk_bind (dk_map (dk_u2 (h 1 _ rfl) (h 2 _ rfl)))).trans rfl))
theorem dk_167 {code : ByteArray} {pc : Nat} (a b : UInt8) (h : DkAt code pc [167, a, b]) : decode code pc = .ok (.goto (Reader.signed 16 (a.toNat * 256 + b.toNat)), 3) := dk_of ((dk_bind (dk_u1 (h 0 _ rfl))).trans ((dk_bind (dk_map (dk_u2 (h 1 _ rfl) (h 2 _ rfl)))).trans rfl))
theorem dk_172 {code : ByteArray} {pc : Nat} (h : DkAt code pc [172]) : decode code pc = .ok (.ireturn, 1) := dk_of ((dk_bind (dk_u1 (h 0 _ rfl))).trans rfl)
theorem dk_173 {code : ByteArray} {pc : Nat} (h : DkAt code pc [173]) : decode code pc = .ok (.lreturn, 1) := dk_of ((dk_bind (dk_u1 (h 0 _ rfl))).trans rfl)
theorem dk_176 {code : ByteArray} {pc : Nat} (h : DkAt code pc [176]) : decode code pc = .ok (.areturn, 1) := dk_of ((dk_bind (dk_u1 (h 0 _ rfl))).trans rfl)
theorem dk_177 {code : ByteArray} {pc : Nat} (h : DkAt code pc [177]) : decode code pc = .ok (.return_, 1) := dk_of ((dk_bind (dk_u1 (h 0 _ rfl))).trans rfl)
theorem dk_178 {code : ByteArray} {pc : Nat} (a b : UInt8) (h : DkAt code pc [178, a, b]) : decode code pc = .ok (.getstatic (a.toNat * 256 + b.toNat), 3) := dk_of ((dk_bind (dk_u1 (h 0 _ rfl))).trans ((dk_bind (dk_u2 (h 1 _ rfl) (h 2 _ rfl))).trans rfl))
theorem dk_180 {code : ByteArray} {pc : Nat} (a b : UInt8) (h : DkAt code pc [180, a, b]) : decode code pc = .ok (.getfield (a.toNat * 256 + b.toNat), 3) := dk_of ((dk_bind (dk_u1 (h 0 _ rfl))).trans ((dk_bind (dk_u2 (h 1 _ rfl) (h 2 _ rfl))).trans rfl))
theorem dk_181 {code : ByteArray} {pc : Nat} (a b : UInt8) (h : DkAt code pc [181, a, b]) : decode code pc = .ok (.putfield (a.toNat * 256 + b.toNat), 3) := dk_of ((dk_bind (dk_u1 (h 0 _ rfl))).trans ((dk_bind (dk_u2 (h 1 _ rfl) (h 2 _ rfl))).trans rfl))
theorem dk_182 {code : ByteArray} {pc : Nat} (a b : UInt8) (h : DkAt code pc [182, a, b]) : decode code pc = .ok (.invokevirtual (a.toNat * 256 + b.toNat), 3) := dk_of ((dk_bind (dk_u1 (h 0 _ rfl))).trans ((dk_bind (dk_u2 (h 1 _ rfl) (h 2 _ rfl))).trans rfl))
theorem dk_183 {code : ByteArray} {pc : Nat} (a b : UInt8) (h : DkAt code pc [183, a, b]) : decode code pc = .ok (.invokespecial (a.toNat * 256 + b.toNat), 3) := dk_of ((dk_bind (dk_u1 (h 0 _ rfl))).trans ((dk_bind (dk_u2 (h 1 _ rfl) (h 2 _ rfl))).trans rfl))
theorem dk_184 {code : ByteArray} {pc : Nat} (a b : UInt8) (h : DkAt code pc [184, a, b]) : decode code pc = .ok (.invokestatic (a.toNat * 256 + b.toNat), 3) := dk_of ((dk_bind (dk_u1 (h 0 _ rfl))).trans ((dk_bind (dk_u2 (h 1 _ rfl) (h 2 _ rfl))).trans rfl))
theorem dk_187 {code : ByteArray} {pc : Nat} (a b : UInt8) (h : DkAt code pc [187, a, b]) : decode code pc = .ok (.new (a.toNat * 256 + b.toNat), 3) := dk_of ((dk_bind (dk_u1 (h 0 _ rfl))).trans ((dk_bind (dk_u2 (h 1 _ rfl) (h 2 _ rfl))).trans rfl))
theorem dk_188_8 {code : ByteArray} {pc : Nat} (h : DkAt code pc [188, 8]) : decode code pc = .ok (.newarray .byte, 2) := dk_of ((dk_bind (dk_u1 (h 0 _ rfl))).trans ((dk_bind (dk_u1 (h 1 _ rfl))).trans rfl))
theorem dk_188_10 {code : ByteArray} {pc : Nat} (h : DkAt code pc [188, 10]) : decode code pc = .ok (.newarray .int, 2) := dk_of ((dk_bind (dk_u1 (h 0 _ rfl))).trans ((dk_bind (dk_u1 (h 1 _ rfl))).trans rfl))
theorem dk_188_11 {code : ByteArray} {pc : Nat} (h : DkAt code pc [188, 11]) : decode code pc = .ok (.newarray .long, 2) := dk_of ((dk_bind (dk_u1 (h 0 _ rfl))).trans ((dk_bind (dk_u1 (h 1 _ rfl))).trans rfl))
theorem dk_189 {code : ByteArray} {pc : Nat} (a b : UInt8) (h : DkAt code pc [189, a, b]) : decode code pc = .ok (.anewarray (a.toNat * 256 + b.toNat), 3) := dk_of ((dk_bind (dk_u1 (h 0 _ rfl))).trans ((dk_bind (dk_u2 (h 1 _ rfl) (h 2 _ rfl))).trans rfl))
theorem dk_190 {code : ByteArray} {pc : Nat} (h : DkAt code pc [190]) : decode code pc = .ok (.arraylength, 1) := dk_of ((dk_bind (dk_u1 (h 0 _ rfl))).trans rfl)
theorem dk_191 {code : ByteArray} {pc : Nat} (h : DkAt code pc [191]) : decode code pc = .ok (.athrow, 1) := dk_of ((dk_bind (dk_u1 (h 0 _ rfl))).trans rfl)
theorem dk_198 {code : ByteArray} {pc : Nat} (a b : UInt8) (h : DkAt code pc [198, a, b]) : decode code pc = .ok (.ifnull (Reader.signed 16 (a.toNat * 256 + b.toNat)), 3) := dk_of ((dk_bind (dk_u1 (h 0 _ rfl))).trans ((dk_bind (dk_map (dk_u2 (h 1 _ rfl) (h 2 _ rfl)))).trans rfl))
/-! java/lang/String -/
set_option maxRecDepth 100000
def RJ0 : String := "java/lang/String"
abbrev cJ0_indexOf : ByteArray := prog_24_method_79_code
def yJ0_indexOf : MethodName := ⟨RJ0, "indexOf", "(I)I"⟩
def dkwJ0_indexOf_0 : List UInt8 := [42, 27, 3, 182, 2, 121, 172]
abbrev dktJ0_indexOf_0 : List UInt8 := dkwJ0_indexOf_0 ++ []
theorem dksJ0_indexOf_0 : cJ0_indexOf.data.toList.drop 0 = dktJ0_indexOf_0 := by decide +kernel
theorem dJ0_indexOf_0 : decode cJ0_indexOf 0 = .ok (.aload_n 0, 1) := dk_42 (dk_at dksJ0_indexOf_0 0 rfl rfl)
theorem dJ0_indexOf_1 : decode cJ0_indexOf 1 = .ok (.iload_n 1, 1) := dk_27 (dk_at dksJ0_indexOf_0 1 rfl rfl)
theorem dJ0_indexOf_2 : decode cJ0_indexOf 2 = .ok (.iconst 0, 1) := dk_3 (dk_at dksJ0_indexOf_0 2 rfl rfl)
theorem dJ0_indexOf_3 : decode cJ0_indexOf 3 = .ok (.invokevirtual 633, 3) := dk_182 2 121 (dk_at dksJ0_indexOf_0 3 rfl rfl)
theorem dJ0_indexOf_6 : decode cJ0_indexOf 6 = .ok (.ireturn, 1) := dk_172 (dk_at dksJ0_indexOf_0 6 rfl rfl)
abbrev cJ0_indexOf_2 : ByteArray := prog_24_method_80_code
def yJ0_indexOf_2 : MethodName := ⟨RJ0, "indexOf", "(II)I"⟩
def dkwJ0_indexOf_2_1 : List UInt8 := [180, 0, 9, 27, 28, 42, 182, 1, 249, 184, 2, 128, 172]
abbrev dktJ0_indexOf_2_1 : List UInt8 := dkwJ0_indexOf_2_1 ++ []
def dkwJ0_indexOf_2_0 : List UInt8 := [42, 182, 1, 236, 153, 0, 19, 42, 180, 0, 9, 27, 28, 42, 182, 1, 249, 184, 2, 125, 167, 0, 16, 42]
abbrev dktJ0_indexOf_2_0 : List UInt8 := dkwJ0_indexOf_2_0 ++ dktJ0_indexOf_2_1
theorem dksJ0_indexOf_2_0 : cJ0_indexOf_2.data.toList.drop 0 = dktJ0_indexOf_2_0 := by decide +kernel
theorem dksJ0_indexOf_2_1 : cJ0_indexOf_2.data.toList.drop 24 = dktJ0_indexOf_2_1 := dk_seg dksJ0_indexOf_2_0 24 rfl rfl
theorem dJ0_indexOf_2_0 : decode cJ0_indexOf_2 0 = .ok (.aload_n 0, 1) := dk_42 (dk_at dksJ0_indexOf_2_0 0 rfl rfl)
theorem dJ0_indexOf_2_1 : decode cJ0_indexOf_2 1 = .ok (.invokevirtual 492, 3) := dk_182 1 236 (dk_at dksJ0_indexOf_2_0 1 rfl rfl)
theorem dJ0_indexOf_2_4 : decode cJ0_indexOf_2 4 = .ok (.ifCond .eq 19, 3) := dk_153 0 19 (dk_at dksJ0_indexOf_2_0 4 rfl rfl)
theorem dJ0_indexOf_2_7 : decode cJ0_indexOf_2 7 = .ok (.aload_n 0, 1) := dk_42 (dk_at dksJ0_indexOf_2_0 7 rfl rfl)
theorem dJ0_indexOf_2_8 : decode cJ0_indexOf_2 8 = .ok (.getfield 9, 3) := dk_180 0 9 (dk_at dksJ0_indexOf_2_0 8 rfl rfl)
theorem dJ0_indexOf_2_11 : decode cJ0_indexOf_2 11 = .ok (.iload_n 1, 1) := dk_27 (dk_at dksJ0_indexOf_2_0 11 rfl rfl)
theorem dJ0_indexOf_2_12 : decode cJ0_indexOf_2 12 = .ok (.iload_n 2, 1) := dk_28 (dk_at dksJ0_indexOf_2_0 12 rfl rfl)
theorem dJ0_indexOf_2_13 : decode cJ0_indexOf_2 13 = .ok (.aload_n 0, 1) := dk_42 (dk_at dksJ0_indexOf_2_0 13 rfl rfl)
theorem dJ0_indexOf_2_14 : decode cJ0_indexOf_2 14 = .ok (.invokevirtual 505, 3) := dk_182 1 249 (dk_at dksJ0_indexOf_2_0 14 rfl rfl)
theorem dJ0_indexOf_2_17 : decode cJ0_indexOf_2 17 = .ok (.invokestatic 637, 3) := dk_184 2 125 (dk_at dksJ0_indexOf_2_0 17 rfl rfl)
theorem dJ0_indexOf_2_20 : decode cJ0_indexOf_2 20 = .ok (.goto 16, 3) := dk_167 0 16 (dk_at dksJ0_indexOf_2_0 20 rfl rfl)
theorem dJ0_indexOf_2_23 : decode cJ0_indexOf_2 23 = .ok (.aload_n 0, 1) := dk_42 (dk_at dksJ0_indexOf_2_0 23 rfl rfl)
theorem dJ0_indexOf_2_24 : decode cJ0_indexOf_2 24 = .ok (.getfield 9, 3) := dk_180 0 9 (dk_at dksJ0_indexOf_2_1 0 rfl rfl)
theorem dJ0_indexOf_2_27 : decode cJ0_indexOf_2 27 = .ok (.iload_n 1, 1) := dk_27 (dk_at dksJ0_indexOf_2_1 3 rfl rfl)
theorem dJ0_indexOf_2_28 : decode cJ0_indexOf_2 28 = .ok (.iload_n 2, 1) := dk_28 (dk_at dksJ0_indexOf_2_1 4 rfl rfl)
theorem dJ0_indexOf_2_29 : decode cJ0_indexOf_2 29 = .ok (.aload_n 0, 1) := dk_42 (dk_at dksJ0_indexOf_2_1 5 rfl rfl)
theorem dJ0_indexOf_2_30 : decode cJ0_indexOf_2 30 = .ok (.invokevirtual 505, 3) := dk_182 1 249 (dk_at dksJ0_indexOf_2_1 6 rfl rfl)
theorem dJ0_indexOf_2_33 : decode cJ0_indexOf_2 33 = .ok (.invokestatic 640, 3) := dk_184 2 128 (dk_at dksJ0_indexOf_2_1 9 rfl rfl)
theorem dJ0_indexOf_2_36 : decode cJ0_indexOf_2 36 = .ok (.ireturn, 1) := dk_172 (dk_at dksJ0_indexOf_2_1 12 rfl rfl)
abbrev cJ0_isLatin1 : ByteArray := prog_24_method_154_code
def yJ0_isLatin1 : MethodName := ⟨RJ0, "isLatin1", "()Z"⟩
def dkwJ0_isLatin1_0 : List UInt8 := [178, 0, 38, 153, 0, 14, 42, 180, 0, 15, 154, 0, 7, 4, 167, 0, 4, 3, 172]
abbrev dktJ0_isLatin1_0 : List UInt8 := dkwJ0_isLatin1_0 ++ []
theorem dksJ0_isLatin1_0 : cJ0_isLatin1.data.toList.drop 0 = dktJ0_isLatin1_0 := by decide +kernel
theorem dJ0_isLatin1_0 : decode cJ0_isLatin1 0 = .ok (.getstatic 38, 3) := dk_178 0 38 (dk_at dksJ0_isLatin1_0 0 rfl rfl)
theorem dJ0_isLatin1_3 : decode cJ0_isLatin1 3 = .ok (.ifCond .eq 14, 3) := dk_153 0 14 (dk_at dksJ0_isLatin1_0 3 rfl rfl)
theorem dJ0_isLatin1_6 : decode cJ0_isLatin1 6 = .ok (.aload_n 0, 1) := dk_42 (dk_at dksJ0_isLatin1_0 6 rfl rfl)
theorem dJ0_isLatin1_7 : decode cJ0_isLatin1 7 = .ok (.getfield 15, 3) := dk_180 0 15 (dk_at dksJ0_isLatin1_0 7 rfl rfl)
theorem dJ0_isLatin1_10 : decode cJ0_isLatin1 10 = .ok (.ifCond .ne 7, 3) := dk_154 0 7 (dk_at dksJ0_isLatin1_0 10 rfl rfl)
theorem dJ0_isLatin1_13 : decode cJ0_isLatin1 13 = .ok (.iconst 1, 1) := dk_4 (dk_at dksJ0_isLatin1_0 13 rfl rfl)
theorem dJ0_isLatin1_14 : decode cJ0_isLatin1 14 = .ok (.goto 4, 3) := dk_167 0 4 (dk_at dksJ0_isLatin1_0 14 rfl rfl)
theorem dJ0_isLatin1_17 : decode cJ0_isLatin1 17 = .ok (.iconst 0, 1) := dk_3 (dk_at dksJ0_isLatin1_0 17 rfl rfl)
theorem dJ0_isLatin1_18 : decode cJ0_isLatin1 18 = .ok (.ireturn, 1) := dk_172 (dk_at dksJ0_isLatin1_0 18 rfl rfl)
abbrev cJ0_length : ByteArray := prog_24_method_54_code
def yJ0_length : MethodName := ⟨RJ0, "length", "()I"⟩
def dkwJ0_length_0 : List UInt8 := [42, 180, 0, 9, 190, 42, 182, 1, 79, 122, 172]
abbrev dktJ0_length_0 : List UInt8 := dkwJ0_length_0 ++ []
theorem dksJ0_length_0 : cJ0_length.data.toList.drop 0 = dktJ0_length_0 := by decide +kernel
theorem dJ0_length_0 : decode cJ0_length 0 = .ok (.aload_n 0, 1) := dk_42 (dk_at dksJ0_length_0 0 rfl rfl)
theorem dJ0_length_1 : decode cJ0_length 1 = .ok (.getfield 9, 3) := dk_180 0 9 (dk_at dksJ0_length_0 1 rfl rfl)
theorem dJ0_length_4 : decode cJ0_length 4 = .ok (.arraylength, 1) := dk_190 (dk_at dksJ0_length_0 4 rfl rfl)
theorem dJ0_length_5 : decode cJ0_length 5 = .ok (.aload_n 0, 1) := dk_42 (dk_at dksJ0_length_0 5 rfl rfl)
theorem dJ0_length_6 : decode cJ0_length 6 = .ok (.invokevirtual 335, 3) := dk_182 1 79 (dk_at dksJ0_length_0 6 rfl rfl)
theorem dJ0_length_9 : decode cJ0_length 9 = .ok (.ishr, 1) := dk_122 (dk_at dksJ0_length_0 9 rfl rfl)
theorem dJ0_length_10 : decode cJ0_length 10 = .ok (.ireturn, 1) := dk_172 (dk_at dksJ0_length_0 10 rfl rfl)
abbrev cJ0_coder : ByteArray := prog_24_method_152_code
def yJ0_coder : MethodName := ⟨RJ0, "coder", "()B"⟩
def dkwJ0_coder_0 : List UInt8 := [178, 0, 38, 153, 0, 10, 42, 180, 0, 15, 167, 0, 4, 4, 172]
abbrev dktJ0_coder_0 : List UInt8 := dkwJ0_coder_0 ++ []
theorem dksJ0_coder_0 : cJ0_coder.data.toList.drop 0 = dktJ0_coder_0 := by decide +kernel
theorem dJ0_coder_0 : decode cJ0_coder 0 = .ok (.getstatic 38, 3) := dk_178 0 38 (dk_at dksJ0_coder_0 0 rfl rfl)
theorem dJ0_coder_3 : decode cJ0_coder 3 = .ok (.ifCond .eq 10, 3) := dk_153 0 10 (dk_at dksJ0_coder_0 3 rfl rfl)
theorem dJ0_coder_6 : decode cJ0_coder 6 = .ok (.aload_n 0, 1) := dk_42 (dk_at dksJ0_coder_0 6 rfl rfl)
theorem dJ0_coder_7 : decode cJ0_coder 7 = .ok (.getfield 15, 3) := dk_180 0 15 (dk_at dksJ0_coder_0 7 rfl rfl)
theorem dJ0_coder_10 : decode cJ0_coder 10 = .ok (.goto 4, 3) := dk_167 0 4 (dk_at dksJ0_coder_0 10 rfl rfl)
theorem dJ0_coder_13 : decode cJ0_coder 13 = .ok (.iconst 1, 1) := dk_4 (dk_at dksJ0_coder_0 13 rfl rfl)
theorem dJ0_coder_14 : decode cJ0_coder 14 = .ok (.ireturn, 1) := dk_172 (dk_at dksJ0_coder_0 14 rfl rfl)
abbrev cJ0_checkBoundsBeginEnd : ByteArray := prog_24_method_158_code
def yJ0_checkBoundsBeginEnd : MethodName := ⟨RJ0, "checkBoundsBeginEnd", "(III)V"⟩
def dkwJ0_checkBoundsBeginEnd_0 : List UInt8 := [26, 27, 28, 178, 4, 29, 184, 4, 38, 87, 177]
abbrev dktJ0_checkBoundsBeginEnd_0 : List UInt8 := dkwJ0_checkBoundsBeginEnd_0 ++ []
theorem dksJ0_checkBoundsBeginEnd_0 : cJ0_checkBoundsBeginEnd.data.toList.drop 0 = dktJ0_checkBoundsBeginEnd_0 := by decide +kernel
theorem dJ0_checkBoundsBeginEnd_0 : decode cJ0_checkBoundsBeginEnd 0 = .ok (.iload_n 0, 1) := dk_26 (dk_at dksJ0_checkBoundsBeginEnd_0 0 rfl rfl)
theorem dJ0_checkBoundsBeginEnd_1 : decode cJ0_checkBoundsBeginEnd 1 = .ok (.iload_n 1, 1) := dk_27 (dk_at dksJ0_checkBoundsBeginEnd_0 1 rfl rfl)
theorem dJ0_checkBoundsBeginEnd_2 : decode cJ0_checkBoundsBeginEnd 2 = .ok (.iload_n 2, 1) := dk_28 (dk_at dksJ0_checkBoundsBeginEnd_0 2 rfl rfl)
theorem dJ0_checkBoundsBeginEnd_3 : decode cJ0_checkBoundsBeginEnd 3 = .ok (.getstatic 1053, 3) := dk_178 4 29 (dk_at dksJ0_checkBoundsBeginEnd_0 3 rfl rfl)
theorem dJ0_checkBoundsBeginEnd_6 : decode cJ0_checkBoundsBeginEnd 6 = .ok (.invokestatic 1062, 3) := dk_184 4 38 (dk_at dksJ0_checkBoundsBeginEnd_0 6 rfl rfl)
theorem dJ0_checkBoundsBeginEnd_9 : decode cJ0_checkBoundsBeginEnd 9 = .ok (.pop, 1) := dk_87 (dk_at dksJ0_checkBoundsBeginEnd_0 9 rfl rfl)
theorem dJ0_checkBoundsBeginEnd_10 : decode cJ0_checkBoundsBeginEnd 10 = .ok (.return_, 1) := dk_177 (dk_at dksJ0_checkBoundsBeginEnd_0 10 rfl rfl)
theorem q109 : (Jvm.Cond.initialized "java/lang/String") ∈ lw_all := lw_g (lw_at lw_m1 9 rfl) rfl
theorem q420 : (Jvm.Cond.instanceMethod ({ cls := "java/lang/String", name := "indexOf", desc := "(I)I" } : Jvm.MethodName)) ∈ lw_all := lw_g (lw_at lw_m2 80 rfl) rfl
theorem q421 : (Jvm.Cond.selects "java/lang/String" ({ cls := "java/lang/String", name := "indexOf", desc := "(I)I" } : Jvm.MethodName) ({ cls := "java/lang/String", name := "indexOf", desc := "(I)I" } : Jvm.MethodName)) ∈ lw_all := lw_g (lw_at lw_m2 81 rfl) rfl
theorem q422 : (Jvm.Cond.code ({ cls := "java/lang/String", name := "indexOf", desc := "(I)I" } : Jvm.MethodName) prog_24_method_79_code (2 : Nat) (Option.some Jvm.ClassFile.FieldType.int)) ∈ lw_all := lw_g (lw_at lw_m2 82 rfl) rfl
theorem q423 : (Jvm.Cond.methodLink "java/lang/String" (633 : Nat) ({ cls := "java/lang/String", name := "indexOf", desc := "(II)I" } : Jvm.MethodName)) ∈ lw_all := lw_g (lw_at lw_m2 83 rfl) rfl
theorem q424 : (Jvm.Cond.instanceMethod ({ cls := "java/lang/String", name := "indexOf", desc := "(II)I" } : Jvm.MethodName)) ∈ lw_all := lw_g (lw_at lw_m2 84 rfl) rfl
theorem q425 : (Jvm.Cond.selects "java/lang/String" ({ cls := "java/lang/String", name := "indexOf", desc := "(II)I" } : Jvm.MethodName) ({ cls := "java/lang/String", name := "indexOf", desc := "(II)I" } : Jvm.MethodName)) ∈ lw_all := lw_g (lw_at lw_m2 85 rfl) rfl
theorem q426 : (Jvm.Cond.code ({ cls := "java/lang/String", name := "indexOf", desc := "(II)I" } : Jvm.MethodName) prog_24_method_80_code (3 : Nat) (Option.some Jvm.ClassFile.FieldType.int)) ∈ lw_all := lw_g (lw_at lw_m2 86 rfl) rfl
theorem q427 : (Jvm.Cond.methodLink "java/lang/String" (492 : Nat) ({ cls := "java/lang/String", name := "isLatin1", desc := "()Z" } : Jvm.MethodName)) ∈ lw_all := lw_g (lw_at lw_m2 87 rfl) rfl
theorem q428 : (Jvm.Cond.instanceMethod ({ cls := "java/lang/String", name := "isLatin1", desc := "()Z" } : Jvm.MethodName)) ∈ lw_all := lw_g (lw_at lw_m2 88 rfl) rfl
theorem q429 : (Jvm.Cond.selects "java/lang/String" ({ cls := "java/lang/String", name := "isLatin1", desc := "()Z" } : Jvm.MethodName) ({ cls := "java/lang/String", name := "isLatin1", desc := "()Z" } : Jvm.MethodName)) ∈ lw_all := lw_g (lw_at lw_m2 89 rfl) rfl
theorem q430 : (Jvm.Cond.code ({ cls := "java/lang/String", name := "isLatin1", desc := "()Z" } : Jvm.MethodName) prog_24_method_154_code (1 : Nat) (Option.some Jvm.ClassFile.FieldType.boolean)) ∈ lw_all := lw_g (lw_at lw_m2 90 rfl) rfl
theorem q431 : (Jvm.Cond.fieldLink "java/lang/String" (38 : Nat) "java/lang/String" "COMPACT_STRINGS" "Z") ∈ lw_all := lw_g (lw_at lw_m2 91 rfl) rfl
theorem q432 : (Jvm.Cond.laysStatic "java/lang/String" "COMPACT_STRINGS" "Z") ∈ lw_tbl := lw_at lw_m2 92 rfl
theorem q433 : (Jvm.Cond.methodLink "java/lang/String" (505 : Nat) ({ cls := "java/lang/String", name := "length", desc := "()I" } : Jvm.MethodName)) ∈ lw_all := lw_g (lw_at lw_m2 93 rfl) rfl
theorem q434 : (Jvm.Cond.instanceMethod ({ cls := "java/lang/String", name := "length", desc := "()I" } : Jvm.MethodName)) ∈ lw_all := lw_g (lw_at lw_m2 94 rfl) rfl
theorem q435 : (Jvm.Cond.selects "java/lang/String" ({ cls := "java/lang/String", name := "length", desc := "()I" } : Jvm.MethodName) ({ cls := "java/lang/String", name := "length", desc := "()I" } : Jvm.MethodName)) ∈ lw_all := lw_g (lw_at lw_m2 95 rfl) rfl
theorem q436 : (Jvm.Cond.code ({ cls := "java/lang/String", name := "length", desc := "()I" } : Jvm.MethodName) prog_24_method_54_code (1 : Nat) (Option.some Jvm.ClassFile.FieldType.int)) ∈ lw_all := lw_g (lw_at lw_m2 96 rfl) rfl
theorem q437 : (Jvm.Cond.methodLink "java/lang/String" (335 : Nat) ({ cls := "java/lang/String", name := "coder", desc := "()B" } : Jvm.MethodName)) ∈ lw_all := lw_g (lw_at lw_m2 97 rfl) rfl
theorem q438 : (Jvm.Cond.instanceMethod ({ cls := "java/lang/String", name := "coder", desc := "()B" } : Jvm.MethodName)) ∈ lw_all := lw_g (lw_at lw_m2 98 rfl) rfl
theorem q439 : (Jvm.Cond.selects "java/lang/String" ({ cls := "java/lang/String", name := "coder", desc := "()B" } : Jvm.MethodName) ({ cls := "java/lang/String", name := "coder", desc := "()B" } : Jvm.MethodName)) ∈ lw_all := lw_g (lw_at lw_m2 99 rfl) rfl
theorem q440 : (Jvm.Cond.code ({ cls := "java/lang/String", name := "coder", desc := "()B" } : Jvm.MethodName) prog_24_method_152_code (1 : Nat) (Option.some Jvm.ClassFile.FieldType.byte)) ∈ lw_all := lw_g (lw_at lw_m2 100 rfl) rfl
theorem q441 : (Jvm.Cond.methodLink "java/lang/String" (637 : Nat) ({ cls := "java/lang/StringLatin1", name := "indexOf", desc := "([BIII)I" } : Jvm.MethodName)) ∈ lw_all := lw_g (lw_at lw_m2 101 rfl) rfl
theorem q456 : (Jvm.Cond.methodLink "java/lang/String" (640 : Nat) ({ cls := "java/lang/StringUTF16", name := "indexOf", desc := "([BIII)I" } : Jvm.MethodName)) ∈ lw_all := lw_g (lw_at lw_m2 116 rfl) rfl
theorem q472 : (Jvm.Cond.static ({ cls := "java/lang/String", name := "checkBoundsBeginEnd", desc := "(III)V" } : Jvm.MethodName)) ∈ lw_all := lw_g (lw_at lw_m2 132 rfl) rfl
theorem q473 : (Jvm.Cond.code ({ cls := "java/lang/String", name := "checkBoundsBeginEnd", desc := "(III)V" } : Jvm.MethodName) prog_24_method_158_code (3 : Nat) (Option.none : Option Jvm.ClassFile.FieldType)) ∈ lw_all := lw_g (lw_at lw_m2 133 rfl) rfl
theorem q474 : (Jvm.Cond.fieldLink "java/lang/String" (1053 : Nat) "jdk/internal/util/Preconditions" "SIOOBE_FORMATTER" "Ljava/util/function/BiFunction;") ∈ lw_all := lw_g (lw_at lw_m2 134 rfl) rfl
theorem q476 : (Jvm.Cond.methodLink "java/lang/String" (1062 : Nat) ({ cls := "jdk/internal/util/Preconditions", name := "checkFromToIndex", desc := "(IIILjava/util/function/BiFunction;)I" } : Jvm.MethodName)) ∈ lw_all := lw_g (lw_at lw_m2 136 rfl) rfl
theorem q1755 : (Jvm.Cond.fieldLink "java/lang/String" (15 : Nat) "java/lang/String" "coder" "B") ∈ lw_all := lw_g (lw_at lw_m7 215 rfl) rfl
theorem q1756 : (Jvm.Cond.fieldLink "java/lang/String" (9 : Nat) "java/lang/String" "value" "[B") ∈ lw_all := lw_g (lw_at lw_m7 216 rfl) rfl
/-! java/lang/StringLatin1 -/
set_option maxRecDepth 100000
def RJ1 : String := "java/lang/StringLatin1"
abbrev cJ1_indexOf : ByteArray := prog_25_method_22_code
def yJ1_indexOf : MethodName := ⟨RJ1, "indexOf", "([BIII)I"⟩
def dkwJ1_indexOf_1 : List UInt8 := [161, 0, 5, 2, 172, 42, 27, 28, 29, 184, 0, 95, 172]
abbrev dktJ1_indexOf_1 : List UInt8 := dkwJ1_indexOf_1 ++ []
def dkwJ1_indexOf_0 : List UInt8 := [27, 184, 0, 88, 154, 0, 5, 2, 172, 28, 3, 184, 0, 92, 61, 29, 42, 190, 184, 0, 38, 62, 28, 29]
abbrev dktJ1_indexOf_0 : List UInt8 := dkwJ1_indexOf_0 ++ dktJ1_indexOf_1
theorem dksJ1_indexOf_0 : cJ1_indexOf.data.toList.drop 0 = dktJ1_indexOf_0 := by decide +kernel
theorem dksJ1_indexOf_1 : cJ1_indexOf.data.toList.drop 24 = dktJ1_indexOf_1 := dk_seg dksJ1_indexOf_0 24 rfl rfl
theorem dJ1_indexOf_0 : decode cJ1_indexOf 0 = .ok (.iload_n 1, 1) := dk_27 (dk_at dksJ1_indexOf_0 0 rfl rfl)
theorem dJ1_indexOf_1 : decode cJ1_indexOf 1 = .ok (.invokestatic 88, 3) := dk_184 0 88 (dk_at dksJ1_indexOf_0 1 rfl rfl)
theorem dJ1_indexOf_4 : decode cJ1_indexOf 4 = .ok (.ifCond .ne 5, 3) := dk_154 0 5 (dk_at dksJ1_indexOf_0 4 rfl rfl)
theorem dJ1_indexOf_7 : decode cJ1_indexOf 7 = .ok (.iconst (-1), 1) := dk_2 (dk_at dksJ1_indexOf_0 7 rfl rfl)
theorem dJ1_indexOf_8 : decode cJ1_indexOf 8 = .ok (.ireturn, 1) := dk_172 (dk_at dksJ1_indexOf_0 8 rfl rfl)
theorem dJ1_indexOf_9 : decode cJ1_indexOf 9 = .ok (.iload_n 2, 1) := dk_28 (dk_at dksJ1_indexOf_0 9 rfl rfl)
theorem dJ1_indexOf_10 : decode cJ1_indexOf 10 = .ok (.iconst 0, 1) := dk_3 (dk_at dksJ1_indexOf_0 10 rfl rfl)
theorem dJ1_indexOf_11 : decode cJ1_indexOf 11 = .ok (.invokestatic 92, 3) := dk_184 0 92 (dk_at dksJ1_indexOf_0 11 rfl rfl)
theorem dJ1_indexOf_14 : decode cJ1_indexOf 14 = .ok (.istore_n 2, 1) := dk_61 (dk_at dksJ1_indexOf_0 14 rfl rfl)
theorem dJ1_indexOf_15 : decode cJ1_indexOf 15 = .ok (.iload_n 3, 1) := dk_29 (dk_at dksJ1_indexOf_0 15 rfl rfl)
theorem dJ1_indexOf_16 : decode cJ1_indexOf 16 = .ok (.aload_n 0, 1) := dk_42 (dk_at dksJ1_indexOf_0 16 rfl rfl)
theorem dJ1_indexOf_17 : decode cJ1_indexOf 17 = .ok (.arraylength, 1) := dk_190 (dk_at dksJ1_indexOf_0 17 rfl rfl)
theorem dJ1_indexOf_18 : decode cJ1_indexOf 18 = .ok (.invokestatic 38, 3) := dk_184 0 38 (dk_at dksJ1_indexOf_0 18 rfl rfl)
theorem dJ1_indexOf_21 : decode cJ1_indexOf 21 = .ok (.istore_n 3, 1) := dk_62 (dk_at dksJ1_indexOf_0 21 rfl rfl)
theorem dJ1_indexOf_22 : decode cJ1_indexOf 22 = .ok (.iload_n 2, 1) := dk_28 (dk_at dksJ1_indexOf_0 22 rfl rfl)
theorem dJ1_indexOf_23 : decode cJ1_indexOf 23 = .ok (.iload_n 3, 1) := dk_29 (dk_at dksJ1_indexOf_0 23 rfl rfl)
theorem dJ1_indexOf_24 : decode cJ1_indexOf 24 = .ok (.if_icmp .lt 5, 3) := dk_161 0 5 (dk_at dksJ1_indexOf_1 0 rfl rfl)
theorem dJ1_indexOf_27 : decode cJ1_indexOf 27 = .ok (.iconst (-1), 1) := dk_2 (dk_at dksJ1_indexOf_1 3 rfl rfl)
theorem dJ1_indexOf_28 : decode cJ1_indexOf 28 = .ok (.ireturn, 1) := dk_172 (dk_at dksJ1_indexOf_1 4 rfl rfl)
theorem dJ1_indexOf_29 : decode cJ1_indexOf 29 = .ok (.aload_n 0, 1) := dk_42 (dk_at dksJ1_indexOf_1 5 rfl rfl)
theorem dJ1_indexOf_30 : decode cJ1_indexOf 30 = .ok (.iload_n 1, 1) := dk_27 (dk_at dksJ1_indexOf_1 6 rfl rfl)
theorem dJ1_indexOf_31 : decode cJ1_indexOf 31 = .ok (.iload_n 2, 1) := dk_28 (dk_at dksJ1_indexOf_1 7 rfl rfl)
theorem dJ1_indexOf_32 : decode cJ1_indexOf 32 = .ok (.iload_n 3, 1) := dk_29 (dk_at dksJ1_indexOf_1 8 rfl rfl)
theorem dJ1_indexOf_33 : decode cJ1_indexOf 33 = .ok (.invokestatic 95, 3) := dk_184 0 95 (dk_at dksJ1_indexOf_1 9 rfl rfl)
theorem dJ1_indexOf_36 : decode cJ1_indexOf 36 = .ok (.ireturn, 1) := dk_172 (dk_at dksJ1_indexOf_1 12 rfl rfl)
abbrev cJ1_canEncode : ByteArray := prog_25_method_4_code
def yJ1_canEncode : MethodName := ⟨RJ1, "canEncode", "(I)Z"⟩
def dkwJ1_canEncode_0 : List UInt8 := [26, 155, 0, 14, 26, 17, 0, 255, 163, 0, 7, 4, 167, 0, 4, 3, 172]
abbrev dktJ1_canEncode_0 : List UInt8 := dkwJ1_canEncode_0 ++ []
theorem dksJ1_canEncode_0 : cJ1_canEncode.data.toList.drop 0 = dktJ1_canEncode_0 := by decide +kernel
theorem dJ1_canEncode_0 : decode cJ1_canEncode 0 = .ok (.iload_n 0, 1) := dk_26 (dk_at dksJ1_canEncode_0 0 rfl rfl)
theorem dJ1_canEncode_1 : decode cJ1_canEncode 1 = .ok (.ifCond .lt 14, 3) := dk_155 0 14 (dk_at dksJ1_canEncode_0 1 rfl rfl)
theorem dJ1_canEncode_4 : decode cJ1_canEncode 4 = .ok (.iload_n 0, 1) := dk_26 (dk_at dksJ1_canEncode_0 4 rfl rfl)
theorem dJ1_canEncode_5 : decode cJ1_canEncode 5 = .ok (.sipush 255, 3) := dk_17 0 255 (dk_at dksJ1_canEncode_0 5 rfl rfl)
theorem dJ1_canEncode_8 : decode cJ1_canEncode 8 = .ok (.if_icmp .gt 7, 3) := dk_163 0 7 (dk_at dksJ1_canEncode_0 8 rfl rfl)
theorem dJ1_canEncode_11 : decode cJ1_canEncode 11 = .ok (.iconst 1, 1) := dk_4 (dk_at dksJ1_canEncode_0 11 rfl rfl)
theorem dJ1_canEncode_12 : decode cJ1_canEncode 12 = .ok (.goto 4, 3) := dk_167 0 4 (dk_at dksJ1_canEncode_0 12 rfl rfl)
theorem dJ1_canEncode_15 : decode cJ1_canEncode 15 = .ok (.iconst 0, 1) := dk_3 (dk_at dksJ1_canEncode_0 15 rfl rfl)
theorem dJ1_canEncode_16 : decode cJ1_canEncode 16 = .ok (.ireturn, 1) := dk_172 (dk_at dksJ1_canEncode_0 16 rfl rfl)
abbrev cJ1_indexOfChar : ByteArray := prog_25_method_23_code
def yJ1_indexOfChar : MethodName := ⟨RJ1, "indexOfChar", "([BIII)I"⟩
def dkwJ1_indexOfChar_1 : List UInt8 := [172, 132, 5, 1, 167, 255, 235, 2, 172]
abbrev dktJ1_indexOfChar_1 : List UInt8 := dkwJ1_indexOfChar_1 ++ []
def dkwJ1_indexOfChar_0 : List UInt8 := [27, 145, 54, 4, 28, 54, 5, 21, 5, 29, 162, 0, 21, 42, 21, 5, 51, 21, 4, 160, 0, 6, 21, 5]
abbrev dktJ1_indexOfChar_0 : List UInt8 := dkwJ1_indexOfChar_0 ++ dktJ1_indexOfChar_1
theorem dksJ1_indexOfChar_0 : cJ1_indexOfChar.data.toList.drop 0 = dktJ1_indexOfChar_0 := by decide +kernel
theorem dksJ1_indexOfChar_1 : cJ1_indexOfChar.data.toList.drop 24 = dktJ1_indexOfChar_1 := dk_seg dksJ1_indexOfChar_0 24 rfl rfl
theorem dJ1_indexOfChar_0 : decode cJ1_indexOfChar 0 = .ok (.iload_n 1, 1) := dk_27 (dk_at dksJ1_indexOfChar_0 0 rfl rfl)
theorem dJ1_indexOfChar_1 : decode cJ1_indexOfChar 1 = .ok (.i2b, 1) := dk_145 (dk_at dksJ1_indexOfChar_0 1 rfl rfl)
theorem dJ1_indexOfChar_2 : decode cJ1_indexOfChar 2 = .ok (.istore 4, 2) := dk_54 4 (dk_at dksJ1_indexOfChar_0 2 rfl rfl)
theorem dJ1_indexOfChar_4 : decode cJ1_indexOfChar 4 = .ok (.iload_n 2, 1) := dk_28 (dk_at dksJ1_indexOfChar_0 4 rfl rfl)
theorem dJ1_indexOfChar_5 : decode cJ1_indexOfChar 5 = .ok (.istore 5, 2) := dk_54 5 (dk_at dksJ1_indexOfChar_0 5 rfl rfl)
theorem dJ1_indexOfChar_7 : decode cJ1_indexOfChar 7 = .ok (.iload 5, 2) := dk_21 5 (dk_at dksJ1_indexOfChar_0 7 rfl rfl)
theorem dJ1_indexOfChar_9 : decode cJ1_indexOfChar 9 = .ok (.iload_n 3, 1) := dk_29 (dk_at dksJ1_indexOfChar_0 9 rfl rfl)
theorem dJ1_indexOfChar_10 : decode cJ1_indexOfChar 10 = .ok (.if_icmp .ge 21, 3) := dk_162 0 21 (dk_at dksJ1_indexOfChar_0 10 rfl rfl)
theorem dJ1_indexOfChar_13 : decode cJ1_indexOfChar 13 = .ok (.aload_n 0, 1) := dk_42 (dk_at dksJ1_indexOfChar_0 13 rfl rfl)
theorem dJ1_indexOfChar_14 : decode cJ1_indexOfChar 14 = .ok (.iload 5, 2) := dk_21 5 (dk_at dksJ1_indexOfChar_0 14 rfl rfl)
theorem dJ1_indexOfChar_16 : decode cJ1_indexOfChar 16 = .ok (.baload, 1) := dk_51 (dk_at dksJ1_indexOfChar_0 16 rfl rfl)
theorem dJ1_indexOfChar_17 : decode cJ1_indexOfChar 17 = .ok (.iload 4, 2) := dk_21 4 (dk_at dksJ1_indexOfChar_0 17 rfl rfl)
theorem dJ1_indexOfChar_19 : decode cJ1_indexOfChar 19 = .ok (.if_icmp .ne 6, 3) := dk_160 0 6 (dk_at dksJ1_indexOfChar_0 19 rfl rfl)
theorem dJ1_indexOfChar_22 : decode cJ1_indexOfChar 22 = .ok (.iload 5, 2) := dk_21 5 (dk_at dksJ1_indexOfChar_0 22 rfl rfl)
theorem dJ1_indexOfChar_24 : decode cJ1_indexOfChar 24 = .ok (.ireturn, 1) := dk_172 (dk_at dksJ1_indexOfChar_1 0 rfl rfl)
theorem dJ1_indexOfChar_25 : decode cJ1_indexOfChar 25 = .ok (.iinc 5 1, 3) := dk_132 5 1 (dk_at dksJ1_indexOfChar_1 1 rfl rfl)
theorem dJ1_indexOfChar_28 : decode cJ1_indexOfChar 28 = .ok (.goto (-21), 3) := dk_167 255 235 (dk_at dksJ1_indexOfChar_1 4 rfl rfl)
theorem dJ1_indexOfChar_31 : decode cJ1_indexOfChar 31 = .ok (.iconst (-1), 1) := dk_2 (dk_at dksJ1_indexOfChar_1 7 rfl rfl)
theorem dJ1_indexOfChar_32 : decode cJ1_indexOfChar 32 = .ok (.ireturn, 1) := dk_172 (dk_at dksJ1_indexOfChar_1 8 rfl rfl)
theorem q110 : (Jvm.Cond.initialized "java/lang/StringLatin1") ∈ lw_all := lw_g (lw_at lw_m1 10 rfl) rfl
theorem q442 : (Jvm.Cond.static ({ cls := "java/lang/StringLatin1", name := "indexOf", desc := "([BIII)I" } : Jvm.MethodName)) ∈ lw_all := lw_g (lw_at lw_m2 102 rfl) rfl
theorem q443 : (Jvm.Cond.code ({ cls := "java/lang/StringLatin1", name := "indexOf", desc := "([BIII)I" } : Jvm.MethodName) prog_25_method_22_code (4 : Nat) (Option.some Jvm.ClassFile.FieldType.int)) ∈ lw_all := lw_g (lw_at lw_m2 103 rfl) rfl
theorem q444 : (Jvm.Cond.methodLink "java/lang/StringLatin1" (88 : Nat) ({ cls := "java/lang/StringLatin1", name := "canEncode", desc := "(I)Z" } : Jvm.MethodName)) ∈ lw_all := lw_g (lw_at lw_m2 104 rfl) rfl
theorem q445 : (Jvm.Cond.static ({ cls := "java/lang/StringLatin1", name := "canEncode", desc := "(I)Z" } : Jvm.MethodName)) ∈ lw_all := lw_g (lw_at lw_m2 105 rfl) rfl
theorem q446 : (Jvm.Cond.code ({ cls := "java/lang/StringLatin1", name := "canEncode", desc := "(I)Z" } : Jvm.MethodName) prog_25_method_4_code (1 : Nat) (Option.some Jvm.ClassFile.FieldType.boolean)) ∈ lw_all := lw_g (lw_at lw_m2 106 rfl) rfl
theorem q447 : (Jvm.Cond.methodLink "java/lang/StringLatin1" (92 : Nat) ({ cls := "java/lang/Math", name := "max", desc := "(II)I" } : Jvm.MethodName)) ∈ lw_all := lw_g (lw_at lw_m2 107 rfl) rfl
theorem q450 : (Jvm.Cond.methodLink "java/lang/StringLatin1" (38 : Nat) ({ cls := "java/lang/Math", name := "min", desc := "(II)I" } : Jvm.MethodName)) ∈ lw_all := lw_g (lw_at lw_m2 110 rfl) rfl
theorem q453 : (Jvm.Cond.methodLink "java/lang/StringLatin1" (95 : Nat) ({ cls := "java/lang/StringLatin1", name := "indexOfChar", desc := "([BIII)I" } : Jvm.MethodName)) ∈ lw_all := lw_g (lw_at lw_m2 113 rfl) rfl
theorem q454 : (Jvm.Cond.static ({ cls := "java/lang/StringLatin1", name := "indexOfChar", desc := "([BIII)I" } : Jvm.MethodName)) ∈ lw_all := lw_g (lw_at lw_m2 114 rfl) rfl
theorem q455 : (Jvm.Cond.code ({ cls := "java/lang/StringLatin1", name := "indexOfChar", desc := "([BIII)I" } : Jvm.MethodName) prog_25_method_23_code (6 : Nat) (Option.some Jvm.ClassFile.FieldType.int)) ∈ lw_all := lw_g (lw_at lw_m2 115 rfl) rfl
/-! java/lang/Math -/
set_option maxRecDepth 100000
def RJ2 : String := "java/lang/Math"
abbrev cJ2_max : ByteArray := prog_23_method_65_code
def yJ2_max : MethodName := ⟨RJ2, "max", "(II)I"⟩
def dkwJ2_max_0 : List UInt8 := [26, 27, 161, 0, 7, 26, 167, 0, 4, 27, 172]
abbrev dktJ2_max_0 : List UInt8 := dkwJ2_max_0 ++ []
theorem dksJ2_max_0 : cJ2_max.data.toList.drop 0 = dktJ2_max_0 := by decide +kernel
theorem dJ2_max_0 : decode cJ2_max 0 = .ok (.iload_n 0, 1) := dk_26 (dk_at dksJ2_max_0 0 rfl rfl)
theorem dJ2_max_1 : decode cJ2_max 1 = .ok (.iload_n 1, 1) := dk_27 (dk_at dksJ2_max_0 1 rfl rfl)
theorem dJ2_max_2 : decode cJ2_max 2 = .ok (.if_icmp .lt 7, 3) := dk_161 0 7 (dk_at dksJ2_max_0 2 rfl rfl)
theorem dJ2_max_5 : decode cJ2_max 5 = .ok (.iload_n 0, 1) := dk_26 (dk_at dksJ2_max_0 5 rfl rfl)
theorem dJ2_max_6 : decode cJ2_max 6 = .ok (.goto 4, 3) := dk_167 0 4 (dk_at dksJ2_max_0 6 rfl rfl)
theorem dJ2_max_9 : decode cJ2_max 9 = .ok (.iload_n 1, 1) := dk_27 (dk_at dksJ2_max_0 9 rfl rfl)
theorem dJ2_max_10 : decode cJ2_max 10 = .ok (.ireturn, 1) := dk_172 (dk_at dksJ2_max_0 10 rfl rfl)
abbrev cJ2_min : ByteArray := prog_23_method_69_code
def yJ2_min : MethodName := ⟨RJ2, "min", "(II)I"⟩
def dkwJ2_min_0 : List UInt8 := [26, 27, 163, 0, 7, 26, 167, 0, 4, 27, 172]
abbrev dktJ2_min_0 : List UInt8 := dkwJ2_min_0 ++ []
theorem dksJ2_min_0 : cJ2_min.data.toList.drop 0 = dktJ2_min_0 := by decide +kernel
theorem dJ2_min_0 : decode cJ2_min 0 = .ok (.iload_n 0, 1) := dk_26 (dk_at dksJ2_min_0 0 rfl rfl)
theorem dJ2_min_1 : decode cJ2_min 1 = .ok (.iload_n 1, 1) := dk_27 (dk_at dksJ2_min_0 1 rfl rfl)
theorem dJ2_min_2 : decode cJ2_min 2 = .ok (.if_icmp .gt 7, 3) := dk_163 0 7 (dk_at dksJ2_min_0 2 rfl rfl)
theorem dJ2_min_5 : decode cJ2_min 5 = .ok (.iload_n 0, 1) := dk_26 (dk_at dksJ2_min_0 5 rfl rfl)
theorem dJ2_min_6 : decode cJ2_min 6 = .ok (.goto 4, 3) := dk_167 0 4 (dk_at dksJ2_min_0 6 rfl rfl)
theorem dJ2_min_9 : decode cJ2_min 9 = .ok (.iload_n 1, 1) := dk_27 (dk_at dksJ2_min_0 9 rfl rfl)
theorem dJ2_min_10 : decode cJ2_min 10 = .ok (.ireturn, 1) := dk_172 (dk_at dksJ2_min_0 10 rfl rfl)
abbrev cJ2_abs : ByteArray := prog_23_method_59_code
def yJ2_abs : MethodName := ⟨RJ2, "abs", "(I)I"⟩
def dkwJ2_abs_0 : List UInt8 := [26, 156, 0, 8, 26, 116, 167, 0, 4, 26, 172]
abbrev dktJ2_abs_0 : List UInt8 := dkwJ2_abs_0 ++ []
theorem dksJ2_abs_0 : cJ2_abs.data.toList.drop 0 = dktJ2_abs_0 := by decide +kernel
theorem dJ2_abs_0 : decode cJ2_abs 0 = .ok (.iload_n 0, 1) := dk_26 (dk_at dksJ2_abs_0 0 rfl rfl)
theorem dJ2_abs_1 : decode cJ2_abs 1 = .ok (.ifCond .ge 8, 3) := dk_156 0 8 (dk_at dksJ2_abs_0 1 rfl rfl)
theorem dJ2_abs_4 : decode cJ2_abs 4 = .ok (.iload_n 0, 1) := dk_26 (dk_at dksJ2_abs_0 4 rfl rfl)
theorem dJ2_abs_5 : decode cJ2_abs 5 = .ok (.ineg, 1) := dk_116 (dk_at dksJ2_abs_0 5 rfl rfl)
theorem dJ2_abs_6 : decode cJ2_abs 6 = .ok (.goto 4, 3) := dk_167 0 4 (dk_at dksJ2_abs_0 6 rfl rfl)
theorem dJ2_abs_9 : decode cJ2_abs 9 = .ok (.iload_n 0, 1) := dk_26 (dk_at dksJ2_abs_0 9 rfl rfl)
theorem dJ2_abs_10 : decode cJ2_abs 10 = .ok (.ireturn, 1) := dk_172 (dk_at dksJ2_abs_0 10 rfl rfl)
theorem q111 : (Jvm.Cond.initialized "java/lang/Math") ∈ lw_all := lw_g (lw_at lw_m1 11 rfl) rfl
theorem q448 : (Jvm.Cond.static ({ cls := "java/lang/Math", name := "max", desc := "(II)I" } : Jvm.MethodName)) ∈ lw_all := lw_g (lw_at lw_m2 108 rfl) rfl
theorem q449 : (Jvm.Cond.code ({ cls := "java/lang/Math", name := "max", desc := "(II)I" } : Jvm.MethodName) prog_23_method_65_code (2 : Nat) (Option.some Jvm.ClassFile.FieldType.int)) ∈ lw_all := lw_g (lw_at lw_m2 109 rfl) rfl
theorem q451 : (Jvm.Cond.static ({ cls := "java/lang/Math", name := "min", desc := "(II)I" } : Jvm.MethodName)) ∈ lw_all := lw_g (lw_at lw_m2 111 rfl) rfl
theorem q452 : (Jvm.Cond.code ({ cls := "java/lang/Math", name := "min", desc := "(II)I" } : Jvm.MethodName) prog_23_method_69_code (2 : Nat) (Option.some Jvm.ClassFile.FieldType.int)) ∈ lw_all := lw_g (lw_at lw_m2 112 rfl) rfl
theorem q830 : (Jvm.Cond.static ({ cls := "java/lang/Math", name := "abs", desc := "(I)I" } : Jvm.MethodName)) ∈ lw_all := lw_g (lw_at lw_m4 10 rfl) rfl
theorem q831 : (Jvm.Cond.code ({ cls := "java/lang/Math", name := "abs", desc := "(I)I" } : Jvm.MethodName) prog_23_method_59_code (1 : Nat) (Option.some Jvm.ClassFile.FieldType.int)) ∈ lw_all := lw_g (lw_at lw_m4 11 rfl) rfl
/-! java/lang/Integer -/
set_option maxRecDepth 100000
def RJ6 : String := "java/lang/Integer"
abbrev cJ6_bitCount : ByteArray := prog_22_method_49_code
def yJ6_bitCount : MethodName := ⟨RJ6, "bitCount", "(I)I"⟩
def dkwJ6_bitCount_2 : List UInt8 := [26, 16, 63, 126, 172]
abbrev dktJ6_bitCount_2 : List UInt8 := dkwJ6_bitCount_2 ++ []
def dkwJ6_bitCount_1 : List UInt8 := [26, 26, 7, 124, 96, 19, 1, 11, 126, 59, 26, 26, 16, 8, 124, 96, 59, 26, 26, 16, 16, 124, 96, 59]
abbrev dktJ6_bitCount_1 : List UInt8 := dkwJ6_bitCount_1 ++ dktJ6_bitCount_2
def dkwJ6_bitCount_0 : List UInt8 := [26, 26, 4, 124, 19, 1, 9, 126, 100, 59, 26, 19, 1, 10, 126, 26, 5, 124, 19, 1, 10, 126, 96, 59]
abbrev dktJ6_bitCount_0 : List UInt8 := dkwJ6_bitCount_0 ++ dktJ6_bitCount_1
theorem dksJ6_bitCount_0 : cJ6_bitCount.data.toList.drop 0 = dktJ6_bitCount_0 := by decide +kernel
theorem dksJ6_bitCount_1 : cJ6_bitCount.data.toList.drop 24 = dktJ6_bitCount_1 := dk_seg dksJ6_bitCount_0 24 rfl rfl
theorem dksJ6_bitCount_2 : cJ6_bitCount.data.toList.drop 48 = dktJ6_bitCount_2 := dk_seg dksJ6_bitCount_1 24 rfl rfl
theorem dJ6_bitCount_0 : decode cJ6_bitCount 0 = .ok (.iload_n 0, 1) := dk_26 (dk_at dksJ6_bitCount_0 0 rfl rfl)
theorem dJ6_bitCount_1 : decode cJ6_bitCount 1 = .ok (.iload_n 0, 1) := dk_26 (dk_at dksJ6_bitCount_0 1 rfl rfl)
theorem dJ6_bitCount_2 : decode cJ6_bitCount 2 = .ok (.iconst 1, 1) := dk_4 (dk_at dksJ6_bitCount_0 2 rfl rfl)
theorem dJ6_bitCount_3 : decode cJ6_bitCount 3 = .ok (.iushr, 1) := dk_124 (dk_at dksJ6_bitCount_0 3 rfl rfl)
theorem dJ6_bitCount_4 : decode cJ6_bitCount 4 = .ok (.ldc_w 265, 3) := dk_19 1 9 (dk_at dksJ6_bitCount_0 4 rfl rfl)
theorem dJ6_bitCount_7 : decode cJ6_bitCount 7 = .ok (.iand, 1) := dk_126 (dk_at dksJ6_bitCount_0 7 rfl rfl)
theorem dJ6_bitCount_8 : decode cJ6_bitCount 8 = .ok (.isub, 1) := dk_100 (dk_at dksJ6_bitCount_0 8 rfl rfl)
theorem dJ6_bitCount_9 : decode cJ6_bitCount 9 = .ok (.istore_n 0, 1) := dk_59 (dk_at dksJ6_bitCount_0 9 rfl rfl)
theorem dJ6_bitCount_10 : decode cJ6_bitCount 10 = .ok (.iload_n 0, 1) := dk_26 (dk_at dksJ6_bitCount_0 10 rfl rfl)
theorem dJ6_bitCount_11 : decode cJ6_bitCount 11 = .ok (.ldc_w 266, 3) := dk_19 1 10 (dk_at dksJ6_bitCount_0 11 rfl rfl)
theorem dJ6_bitCount_14 : decode cJ6_bitCount 14 = .ok (.iand, 1) := dk_126 (dk_at dksJ6_bitCount_0 14 rfl rfl)
theorem dJ6_bitCount_15 : decode cJ6_bitCount 15 = .ok (.iload_n 0, 1) := dk_26 (dk_at dksJ6_bitCount_0 15 rfl rfl)
theorem dJ6_bitCount_16 : decode cJ6_bitCount 16 = .ok (.iconst 2, 1) := dk_5 (dk_at dksJ6_bitCount_0 16 rfl rfl)
theorem dJ6_bitCount_17 : decode cJ6_bitCount 17 = .ok (.iushr, 1) := dk_124 (dk_at dksJ6_bitCount_0 17 rfl rfl)
theorem dJ6_bitCount_18 : decode cJ6_bitCount 18 = .ok (.ldc_w 266, 3) := dk_19 1 10 (dk_at dksJ6_bitCount_0 18 rfl rfl)
theorem dJ6_bitCount_21 : decode cJ6_bitCount 21 = .ok (.iand, 1) := dk_126 (dk_at dksJ6_bitCount_0 21 rfl rfl)
theorem dJ6_bitCount_22 : decode cJ6_bitCount 22 = .ok (.iadd, 1) := dk_96 (dk_at dksJ6_bitCount_0 22 rfl rfl)
theorem dJ6_bitCount_23 : decode cJ6_bitCount 23 = .ok (.istore_n 0, 1) := dk_59 (dk_at dksJ6_bitCount_0 23 rfl rfl)
theorem dJ6_bitCount_24 : decode cJ6_bitCount 24 = .ok (.iload_n 0, 1) := dk_26 (dk_at dksJ6_bitCount_1 0 rfl rfl)
theorem dJ6_bitCount_25 : decode cJ6_bitCount 25 = .ok (.iload_n 0, 1) := dk_26 (dk_at dksJ6_bitCount_1 1 rfl rfl)
theorem dJ6_bitCount_26 : decode cJ6_bitCount 26 = .ok (.iconst 4, 1) := dk_7 (dk_at dksJ6_bitCount_1 2 rfl rfl)
theorem dJ6_bitCount_27 : decode cJ6_bitCount 27 = .ok (.iushr, 1) := dk_124 (dk_at dksJ6_bitCount_1 3 rfl rfl)
theorem dJ6_bitCount_28 : decode cJ6_bitCount 28 = .ok (.iadd, 1) := dk_96 (dk_at dksJ6_bitCount_1 4 rfl rfl)
theorem dJ6_bitCount_29 : decode cJ6_bitCount 29 = .ok (.ldc_w 267, 3) := dk_19 1 11 (dk_at dksJ6_bitCount_1 5 rfl rfl)
theorem dJ6_bitCount_32 : decode cJ6_bitCount 32 = .ok (.iand, 1) := dk_126 (dk_at dksJ6_bitCount_1 8 rfl rfl)
theorem dJ6_bitCount_33 : decode cJ6_bitCount 33 = .ok (.istore_n 0, 1) := dk_59 (dk_at dksJ6_bitCount_1 9 rfl rfl)
theorem dJ6_bitCount_34 : decode cJ6_bitCount 34 = .ok (.iload_n 0, 1) := dk_26 (dk_at dksJ6_bitCount_1 10 rfl rfl)
theorem dJ6_bitCount_35 : decode cJ6_bitCount 35 = .ok (.iload_n 0, 1) := dk_26 (dk_at dksJ6_bitCount_1 11 rfl rfl)
theorem dJ6_bitCount_36 : decode cJ6_bitCount 36 = .ok (.bipush 8, 2) := dk_16 8 (dk_at dksJ6_bitCount_1 12 rfl rfl)
theorem dJ6_bitCount_38 : decode cJ6_bitCount 38 = .ok (.iushr, 1) := dk_124 (dk_at dksJ6_bitCount_1 14 rfl rfl)
theorem dJ6_bitCount_39 : decode cJ6_bitCount 39 = .ok (.iadd, 1) := dk_96 (dk_at dksJ6_bitCount_1 15 rfl rfl)
theorem dJ6_bitCount_40 : decode cJ6_bitCount 40 = .ok (.istore_n 0, 1) := dk_59 (dk_at dksJ6_bitCount_1 16 rfl rfl)
theorem dJ6_bitCount_41 : decode cJ6_bitCount 41 = .ok (.iload_n 0, 1) := dk_26 (dk_at dksJ6_bitCount_1 17 rfl rfl)
theorem dJ6_bitCount_42 : decode cJ6_bitCount 42 = .ok (.iload_n 0, 1) := dk_26 (dk_at dksJ6_bitCount_1 18 rfl rfl)
theorem dJ6_bitCount_43 : decode cJ6_bitCount 43 = .ok (.bipush 16, 2) := dk_16 16 (dk_at dksJ6_bitCount_1 19 rfl rfl)
theorem dJ6_bitCount_45 : decode cJ6_bitCount 45 = .ok (.iushr, 1) := dk_124 (dk_at dksJ6_bitCount_1 21 rfl rfl)
theorem dJ6_bitCount_46 : decode cJ6_bitCount 46 = .ok (.iadd, 1) := dk_96 (dk_at dksJ6_bitCount_1 22 rfl rfl)
theorem dJ6_bitCount_47 : decode cJ6_bitCount 47 = .ok (.istore_n 0, 1) := dk_59 (dk_at dksJ6_bitCount_1 23 rfl rfl)
theorem dJ6_bitCount_48 : decode cJ6_bitCount 48 = .ok (.iload_n 0, 1) := dk_26 (dk_at dksJ6_bitCount_2 0 rfl rfl)
theorem dJ6_bitCount_49 : decode cJ6_bitCount 49 = .ok (.bipush 63, 2) := dk_16 63 (dk_at dksJ6_bitCount_2 1 rfl rfl)
theorem dJ6_bitCount_51 : decode cJ6_bitCount 51 = .ok (.iand, 1) := dk_126 (dk_at dksJ6_bitCount_2 3 rfl rfl)
theorem dJ6_bitCount_52 : decode cJ6_bitCount 52 = .ok (.ireturn, 1) := dk_172 (dk_at dksJ6_bitCount_2 4 rfl rfl)
abbrev cJ6_numberOfTrailingZeros : ByteArray := prog_22_method_48_code
def yJ6_numberOfTrailingZeros : MethodName := ⟨RJ6, "numberOfTrailingZeros", "(I)I"⟩
def dkwJ6_numberOfTrailingZeros_3 : List UInt8 := [5, 124, 59, 27, 26, 4, 124, 96, 172]
abbrev dktJ6_numberOfTrailingZeros_3 : List UInt8 := dkwJ6_numberOfTrailingZeros_3 ++ []
def dkwJ6_numberOfTrailingZeros_2 : List UInt8 := [124, 59, 26, 16, 16, 164, 0, 10, 132, 1, 4, 26, 7, 124, 59, 26, 7, 164, 0, 10, 132, 1, 2, 26]
abbrev dktJ6_numberOfTrailingZeros_2 : List UInt8 := dkwJ6_numberOfTrailingZeros_2 ++ dktJ6_numberOfTrailingZeros_3
def dkwJ6_numberOfTrailingZeros_1 : List UInt8 := [164, 0, 11, 132, 1, 16, 26, 16, 16, 124, 59, 26, 17, 1, 0, 164, 0, 11, 132, 1, 8, 26, 16, 8]
abbrev dktJ6_numberOfTrailingZeros_1 : List UInt8 := dkwJ6_numberOfTrailingZeros_1 ++ dktJ6_numberOfTrailingZeros_2
def dkwJ6_numberOfTrailingZeros_0 : List UInt8 := [26, 2, 130, 26, 4, 100, 126, 59, 26, 157, 0, 8, 26, 16, 32, 126, 172, 4, 60, 26, 19, 1, 8]
abbrev dktJ6_numberOfTrailingZeros_0 : List UInt8 := dkwJ6_numberOfTrailingZeros_0 ++ dktJ6_numberOfTrailingZeros_1
theorem dksJ6_numberOfTrailingZeros_0 : cJ6_numberOfTrailingZeros.data.toList.drop 0 = dktJ6_numberOfTrailingZeros_0 := by decide +kernel
theorem dksJ6_numberOfTrailingZeros_1 : cJ6_numberOfTrailingZeros.data.toList.drop 23 = dktJ6_numberOfTrailingZeros_1 := dk_seg dksJ6_numberOfTrailingZeros_0 23 rfl rfl
theorem dksJ6_numberOfTrailingZeros_2 : cJ6_numberOfTrailingZeros.data.toList.drop 47 = dktJ6_numberOfTrailingZeros_2 := dk_seg dksJ6_numberOfTrailingZeros_1 24 rfl rfl
theorem dksJ6_numberOfTrailingZeros_3 : cJ6_numberOfTrailingZeros.data.toList.drop 71 = dktJ6_numberOfTrailingZeros_3 := dk_seg dksJ6_numberOfTrailingZeros_2 24 rfl rfl
theorem dJ6_numberOfTrailingZeros_0 : decode cJ6_numberOfTrailingZeros 0 = .ok (.iload_n 0, 1) := dk_26 (dk_at dksJ6_numberOfTrailingZeros_0 0 rfl rfl)
theorem dJ6_numberOfTrailingZeros_1 : decode cJ6_numberOfTrailingZeros 1 = .ok (.iconst (-1), 1) := dk_2 (dk_at dksJ6_numberOfTrailingZeros_0 1 rfl rfl)
theorem dJ6_numberOfTrailingZeros_2 : decode cJ6_numberOfTrailingZeros 2 = .ok (.ixor, 1) := dk_130 (dk_at dksJ6_numberOfTrailingZeros_0 2 rfl rfl)
theorem dJ6_numberOfTrailingZeros_3 : decode cJ6_numberOfTrailingZeros 3 = .ok (.iload_n 0, 1) := dk_26 (dk_at dksJ6_numberOfTrailingZeros_0 3 rfl rfl)
theorem dJ6_numberOfTrailingZeros_4 : decode cJ6_numberOfTrailingZeros 4 = .ok (.iconst 1, 1) := dk_4 (dk_at dksJ6_numberOfTrailingZeros_0 4 rfl rfl)
theorem dJ6_numberOfTrailingZeros_5 : decode cJ6_numberOfTrailingZeros 5 = .ok (.isub, 1) := dk_100 (dk_at dksJ6_numberOfTrailingZeros_0 5 rfl rfl)
theorem dJ6_numberOfTrailingZeros_6 : decode cJ6_numberOfTrailingZeros 6 = .ok (.iand, 1) := dk_126 (dk_at dksJ6_numberOfTrailingZeros_0 6 rfl rfl)
theorem dJ6_numberOfTrailingZeros_7 : decode cJ6_numberOfTrailingZeros 7 = .ok (.istore_n 0, 1) := dk_59 (dk_at dksJ6_numberOfTrailingZeros_0 7 rfl rfl)
theorem dJ6_numberOfTrailingZeros_8 : decode cJ6_numberOfTrailingZeros 8 = .ok (.iload_n 0, 1) := dk_26 (dk_at dksJ6_numberOfTrailingZeros_0 8 rfl rfl)
theorem dJ6_numberOfTrailingZeros_9 : decode cJ6_numberOfTrailingZeros 9 = .ok (.ifCond .gt 8, 3) := dk_157 0 8 (dk_at dksJ6_numberOfTrailingZeros_0 9 rfl rfl)
theorem dJ6_numberOfTrailingZeros_12 : decode cJ6_numberOfTrailingZeros 12 = .ok (.iload_n 0, 1) := dk_26 (dk_at dksJ6_numberOfTrailingZeros_0 12 rfl rfl)
theorem dJ6_numberOfTrailingZeros_13 : decode cJ6_numberOfTrailingZeros 13 = .ok (.bipush 32, 2) := dk_16 32 (dk_at dksJ6_numberOfTrailingZeros_0 13 rfl rfl)
theorem dJ6_numberOfTrailingZeros_15 : decode cJ6_numberOfTrailingZeros 15 = .ok (.iand, 1) := dk_126 (dk_at dksJ6_numberOfTrailingZeros_0 15 rfl rfl)
theorem dJ6_numberOfTrailingZeros_16 : decode cJ6_numberOfTrailingZeros 16 = .ok (.ireturn, 1) := dk_172 (dk_at dksJ6_numberOfTrailingZeros_0 16 rfl rfl)
theorem dJ6_numberOfTrailingZeros_17 : decode cJ6_numberOfTrailingZeros 17 = .ok (.iconst 1, 1) := dk_4 (dk_at dksJ6_numberOfTrailingZeros_0 17 rfl rfl)
theorem dJ6_numberOfTrailingZeros_18 : decode cJ6_numberOfTrailingZeros 18 = .ok (.istore_n 1, 1) := dk_60 (dk_at dksJ6_numberOfTrailingZeros_0 18 rfl rfl)
theorem dJ6_numberOfTrailingZeros_19 : decode cJ6_numberOfTrailingZeros 19 = .ok (.iload_n 0, 1) := dk_26 (dk_at dksJ6_numberOfTrailingZeros_0 19 rfl rfl)
theorem dJ6_numberOfTrailingZeros_20 : decode cJ6_numberOfTrailingZeros 20 = .ok (.ldc_w 264, 3) := dk_19 1 8 (dk_at dksJ6_numberOfTrailingZeros_0 20 rfl rfl)
theorem dJ6_numberOfTrailingZeros_23 : decode cJ6_numberOfTrailingZeros 23 = .ok (.if_icmp .le 11, 3) := dk_164 0 11 (dk_at dksJ6_numberOfTrailingZeros_1 0 rfl rfl)
theorem dJ6_numberOfTrailingZeros_26 : decode cJ6_numberOfTrailingZeros 26 = .ok (.iinc 1 16, 3) := dk_132 1 16 (dk_at dksJ6_numberOfTrailingZeros_1 3 rfl rfl)
theorem dJ6_numberOfTrailingZeros_29 : decode cJ6_numberOfTrailingZeros 29 = .ok (.iload_n 0, 1) := dk_26 (dk_at dksJ6_numberOfTrailingZeros_1 6 rfl rfl)
theorem dJ6_numberOfTrailingZeros_30 : decode cJ6_numberOfTrailingZeros 30 = .ok (.bipush 16, 2) := dk_16 16 (dk_at dksJ6_numberOfTrailingZeros_1 7 rfl rfl)
theorem dJ6_numberOfTrailingZeros_32 : decode cJ6_numberOfTrailingZeros 32 = .ok (.iushr, 1) := dk_124 (dk_at dksJ6_numberOfTrailingZeros_1 9 rfl rfl)
theorem dJ6_numberOfTrailingZeros_33 : decode cJ6_numberOfTrailingZeros 33 = .ok (.istore_n 0, 1) := dk_59 (dk_at dksJ6_numberOfTrailingZeros_1 10 rfl rfl)
theorem dJ6_numberOfTrailingZeros_34 : decode cJ6_numberOfTrailingZeros 34 = .ok (.iload_n 0, 1) := dk_26 (dk_at dksJ6_numberOfTrailingZeros_1 11 rfl rfl)
theorem dJ6_numberOfTrailingZeros_35 : decode cJ6_numberOfTrailingZeros 35 = .ok (.sipush 256, 3) := dk_17 1 0 (dk_at dksJ6_numberOfTrailingZeros_1 12 rfl rfl)
theorem dJ6_numberOfTrailingZeros_38 : decode cJ6_numberOfTrailingZeros 38 = .ok (.if_icmp .le 11, 3) := dk_164 0 11 (dk_at dksJ6_numberOfTrailingZeros_1 15 rfl rfl)
theorem dJ6_numberOfTrailingZeros_41 : decode cJ6_numberOfTrailingZeros 41 = .ok (.iinc 1 8, 3) := dk_132 1 8 (dk_at dksJ6_numberOfTrailingZeros_1 18 rfl rfl)
theorem dJ6_numberOfTrailingZeros_44 : decode cJ6_numberOfTrailingZeros 44 = .ok (.iload_n 0, 1) := dk_26 (dk_at dksJ6_numberOfTrailingZeros_1 21 rfl rfl)
theorem dJ6_numberOfTrailingZeros_45 : decode cJ6_numberOfTrailingZeros 45 = .ok (.bipush 8, 2) := dk_16 8 (dk_at dksJ6_numberOfTrailingZeros_1 22 rfl rfl)
theorem dJ6_numberOfTrailingZeros_47 : decode cJ6_numberOfTrailingZeros 47 = .ok (.iushr, 1) := dk_124 (dk_at dksJ6_numberOfTrailingZeros_2 0 rfl rfl)
theorem dJ6_numberOfTrailingZeros_48 : decode cJ6_numberOfTrailingZeros 48 = .ok (.istore_n 0, 1) := dk_59 (dk_at dksJ6_numberOfTrailingZeros_2 1 rfl rfl)
theorem dJ6_numberOfTrailingZeros_49 : decode cJ6_numberOfTrailingZeros 49 = .ok (.iload_n 0, 1) := dk_26 (dk_at dksJ6_numberOfTrailingZeros_2 2 rfl rfl)
theorem dJ6_numberOfTrailingZeros_50 : decode cJ6_numberOfTrailingZeros 50 = .ok (.bipush 16, 2) := dk_16 16 (dk_at dksJ6_numberOfTrailingZeros_2 3 rfl rfl)
theorem dJ6_numberOfTrailingZeros_52 : decode cJ6_numberOfTrailingZeros 52 = .ok (.if_icmp .le 10, 3) := dk_164 0 10 (dk_at dksJ6_numberOfTrailingZeros_2 5 rfl rfl)
theorem dJ6_numberOfTrailingZeros_55 : decode cJ6_numberOfTrailingZeros 55 = .ok (.iinc 1 4, 3) := dk_132 1 4 (dk_at dksJ6_numberOfTrailingZeros_2 8 rfl rfl)
theorem dJ6_numberOfTrailingZeros_58 : decode cJ6_numberOfTrailingZeros 58 = .ok (.iload_n 0, 1) := dk_26 (dk_at dksJ6_numberOfTrailingZeros_2 11 rfl rfl)
theorem dJ6_numberOfTrailingZeros_59 : decode cJ6_numberOfTrailingZeros 59 = .ok (.iconst 4, 1) := dk_7 (dk_at dksJ6_numberOfTrailingZeros_2 12 rfl rfl)
theorem dJ6_numberOfTrailingZeros_60 : decode cJ6_numberOfTrailingZeros 60 = .ok (.iushr, 1) := dk_124 (dk_at dksJ6_numberOfTrailingZeros_2 13 rfl rfl)
theorem dJ6_numberOfTrailingZeros_61 : decode cJ6_numberOfTrailingZeros 61 = .ok (.istore_n 0, 1) := dk_59 (dk_at dksJ6_numberOfTrailingZeros_2 14 rfl rfl)
theorem dJ6_numberOfTrailingZeros_62 : decode cJ6_numberOfTrailingZeros 62 = .ok (.iload_n 0, 1) := dk_26 (dk_at dksJ6_numberOfTrailingZeros_2 15 rfl rfl)
theorem dJ6_numberOfTrailingZeros_63 : decode cJ6_numberOfTrailingZeros 63 = .ok (.iconst 4, 1) := dk_7 (dk_at dksJ6_numberOfTrailingZeros_2 16 rfl rfl)
theorem dJ6_numberOfTrailingZeros_64 : decode cJ6_numberOfTrailingZeros 64 = .ok (.if_icmp .le 10, 3) := dk_164 0 10 (dk_at dksJ6_numberOfTrailingZeros_2 17 rfl rfl)
theorem dJ6_numberOfTrailingZeros_67 : decode cJ6_numberOfTrailingZeros 67 = .ok (.iinc 1 2, 3) := dk_132 1 2 (dk_at dksJ6_numberOfTrailingZeros_2 20 rfl rfl)
theorem dJ6_numberOfTrailingZeros_70 : decode cJ6_numberOfTrailingZeros 70 = .ok (.iload_n 0, 1) := dk_26 (dk_at dksJ6_numberOfTrailingZeros_2 23 rfl rfl)
theorem dJ6_numberOfTrailingZeros_71 : decode cJ6_numberOfTrailingZeros 71 = .ok (.iconst 2, 1) := dk_5 (dk_at dksJ6_numberOfTrailingZeros_3 0 rfl rfl)
theorem dJ6_numberOfTrailingZeros_72 : decode cJ6_numberOfTrailingZeros 72 = .ok (.iushr, 1) := dk_124 (dk_at dksJ6_numberOfTrailingZeros_3 1 rfl rfl)
theorem dJ6_numberOfTrailingZeros_73 : decode cJ6_numberOfTrailingZeros 73 = .ok (.istore_n 0, 1) := dk_59 (dk_at dksJ6_numberOfTrailingZeros_3 2 rfl rfl)
theorem dJ6_numberOfTrailingZeros_74 : decode cJ6_numberOfTrailingZeros 74 = .ok (.iload_n 1, 1) := dk_27 (dk_at dksJ6_numberOfTrailingZeros_3 3 rfl rfl)
theorem dJ6_numberOfTrailingZeros_75 : decode cJ6_numberOfTrailingZeros 75 = .ok (.iload_n 0, 1) := dk_26 (dk_at dksJ6_numberOfTrailingZeros_3 4 rfl rfl)
theorem dJ6_numberOfTrailingZeros_76 : decode cJ6_numberOfTrailingZeros 76 = .ok (.iconst 1, 1) := dk_4 (dk_at dksJ6_numberOfTrailingZeros_3 5 rfl rfl)
theorem dJ6_numberOfTrailingZeros_77 : decode cJ6_numberOfTrailingZeros 77 = .ok (.iushr, 1) := dk_124 (dk_at dksJ6_numberOfTrailingZeros_3 6 rfl rfl)
theorem dJ6_numberOfTrailingZeros_78 : decode cJ6_numberOfTrailingZeros 78 = .ok (.iadd, 1) := dk_96 (dk_at dksJ6_numberOfTrailingZeros_3 7 rfl rfl)
theorem dJ6_numberOfTrailingZeros_79 : decode cJ6_numberOfTrailingZeros 79 = .ok (.ireturn, 1) := dk_172 (dk_at dksJ6_numberOfTrailingZeros_3 8 rfl rfl)
theorem q126 : (Jvm.Cond.initialized "java/lang/Integer") ∈ lw_all := lw_g (lw_at lw_m1 26 rfl) rfl
theorem q861 : (Jvm.Cond.static ({ cls := "java/lang/Integer", name := "bitCount", desc := "(I)I" } : Jvm.MethodName)) ∈ lw_all := lw_g (lw_at lw_m4 41 rfl) rfl
theorem q862 : (Jvm.Cond.code ({ cls := "java/lang/Integer", name := "bitCount", desc := "(I)I" } : Jvm.MethodName) prog_22_method_49_code (1 : Nat) (Option.some Jvm.ClassFile.FieldType.int)) ∈ lw_all := lw_g (lw_at lw_m4 42 rfl) rfl
theorem q863 : (Jvm.Cond.constant "java/lang/Integer" (265 : Nat) (1431655765 : Int32)) ∈ lw_all := lw_g (lw_at lw_m4 43 rfl) rfl
theorem q864 : (Jvm.Cond.constant "java/lang/Integer" (266 : Nat) (858993459 : Int32)) ∈ lw_all := lw_g (lw_at lw_m4 44 rfl) rfl
theorem q865 : (Jvm.Cond.constant "java/lang/Integer" (267 : Nat) (252645135 : Int32)) ∈ lw_all := lw_g (lw_at lw_m4 45 rfl) rfl
theorem q991 : (Jvm.Cond.static ({ cls := "java/lang/Integer", name := "numberOfTrailingZeros", desc := "(I)I" } : Jvm.MethodName)) ∈ lw_all := lw_g (lw_at lw_m4 171 rfl) rfl
theorem q992 : (Jvm.Cond.code ({ cls := "java/lang/Integer", name := "numberOfTrailingZeros", desc := "(I)I" } : Jvm.MethodName) prog_22_method_48_code (2 : Nat) (Option.some Jvm.ClassFile.FieldType.int)) ∈ lw_all := lw_g (lw_at lw_m4 172 rfl) rfl
theorem q993 : (Jvm.Cond.constant "java/lang/Integer" (264 : Nat) (65536 : Int32)) ∈ lw_all := lw_g (lw_at lw_m4 173 rfl) rfl
/-! java/lang/Object -/
set_option maxRecDepth 100000
def RJ7 : String := "java/lang/Object"
abbrev cJ7_init : ByteArray := object_method_1_code
def yJ7_init : MethodName := ⟨RJ7, "<init>", "()V"⟩
theorem dJ7_init_0 : decode cJ7_init 0 = .ok (.return_, 1) := by decide +kernel
theorem q133 : (Jvm.Cond.instanceMethod ({ cls := "java/lang/Object", name := "<init>", desc := "()V" } : Jvm.MethodName)) ∈ lw_all := lw_g (lw_at lw_m1 33 rfl) rfl
theorem q134 : (Jvm.Cond.code ({ cls := "java/lang/Object", name := "<init>", desc := "()V" } : Jvm.MethodName) object_method_1_code (1 : Nat) (Option.none : Option Jvm.ClassFile.FieldType)) ∈ lw_all := lw_g (lw_at lw_m1 34 rfl) rfl
/-! AnyKeyTown$Roll -/
set_option maxRecDepth 100000
def RX1 : String := "AnyKeyTown$Roll"
def TX1 : u_T := fun k => match k with
  | 0 => ("AnyKeyTown$Roll", "houses", "[I", true)
  | 1 => ("AnyKeyTown$Roll", "foes", "[I", true)
  | 2 => ("AnyKeyTown$Roll", "told", "I", false)
  | _ => ("AnyKeyTown$Roll", "locked", "I", false)
def tyX1 : Nat → FieldType := fun k => match k with
  | 0 => .array .int
  | 1 => .array .int
  | 2 => .int
  | _ => .int
abbrev wsX10 : List Cond := u_ws RX1 TX1 4
theorem nmX1 : ∀ a, a < 4 → ∀ b, b < 4 → a ≠ b → (TX1 a).2.1 ≠ (TX1 b).2.1 := by decide +kernel
theorem tyX1_ok : ∀ k, k < 4 → parseFieldDescriptor (TX1 k).2.2.1 = some (tyX1 k) := by decide +kernel
abbrev cX1_init : ByteArray := prog_12_method_1_code
def yX1_init : MethodName := ⟨RX1, "<init>", "()V"⟩
def dkwX1_init_0 : List UInt8 := [42, 183, 0, 3, 42, 16, 16, 188, 10, 181, 0, 9, 42, 16, 16, 188, 10, 181, 0, 15, 177]
abbrev dktX1_init_0 : List UInt8 := dkwX1_init_0 ++ []
theorem dksX1_init_0 : cX1_init.data.toList.drop 0 = dktX1_init_0 := by decide +kernel
theorem dX1_init_0 : decode cX1_init 0 = .ok (.aload_n 0, 1) := dk_42 (dk_at dksX1_init_0 0 rfl rfl)
theorem dX1_init_1 : decode cX1_init 1 = .ok (.invokespecial 3, 3) := dk_183 0 3 (dk_at dksX1_init_0 1 rfl rfl)
theorem dX1_init_4 : decode cX1_init 4 = .ok (.aload_n 0, 1) := dk_42 (dk_at dksX1_init_0 4 rfl rfl)
theorem dX1_init_5 : decode cX1_init 5 = .ok (.bipush 16, 2) := dk_16 16 (dk_at dksX1_init_0 5 rfl rfl)
theorem dX1_init_7 : decode cX1_init 7 = .ok (.newarray .int, 2) := dk_188_10 (dk_at dksX1_init_0 7 rfl rfl)
theorem dX1_init_9 : decode cX1_init 9 = .ok (.putfield 9, 3) := dk_181 0 9 (dk_at dksX1_init_0 9 rfl rfl)
theorem dX1_init_12 : decode cX1_init 12 = .ok (.aload_n 0, 1) := dk_42 (dk_at dksX1_init_0 12 rfl rfl)
theorem dX1_init_13 : decode cX1_init 13 = .ok (.bipush 16, 2) := dk_16 16 (dk_at dksX1_init_0 13 rfl rfl)
theorem dX1_init_15 : decode cX1_init 15 = .ok (.newarray .int, 2) := dk_188_10 (dk_at dksX1_init_0 15 rfl rfl)
theorem dX1_init_17 : decode cX1_init 17 = .ok (.putfield 15, 3) := dk_181 0 15 (dk_at dksX1_init_0 17 rfl rfl)
theorem dX1_init_20 : decode cX1_init 20 = .ok (.return_, 1) := dk_177 (dk_at dksX1_init_0 20 rfl rfl)
abbrev cX1_takes : ByteArray := prog_12_method_2_code
def yX1_takes : MethodName := ⟨RX1, "takes", "(LAnyKeyTown$Roll;)V"⟩
def dkwX1_takes_2 : List UInt8 := [180, 0, 22, 181, 0, 22, 177]
abbrev dktX1_takes_2 : List UInt8 := dkwX1_takes_2 ++ []
def dkwX1_takes_1 : List UInt8 := [28, 43, 180, 0, 15, 28, 46, 79, 132, 2, 1, 167, 255, 223, 42, 43, 180, 0, 18, 181, 0, 18, 42, 43]
abbrev dktX1_takes_1 : List UInt8 := dkwX1_takes_1 ++ dktX1_takes_2
def dkwX1_takes_0 : List UInt8 := [3, 61, 28, 16, 16, 162, 0, 33, 42, 180, 0, 9, 28, 43, 180, 0, 9, 28, 46, 79, 42, 180, 0, 15]
abbrev dktX1_takes_0 : List UInt8 := dkwX1_takes_0 ++ dktX1_takes_1
theorem dksX1_takes_0 : cX1_takes.data.toList.drop 0 = dktX1_takes_0 := by decide +kernel
theorem dksX1_takes_1 : cX1_takes.data.toList.drop 24 = dktX1_takes_1 := dk_seg dksX1_takes_0 24 rfl rfl
theorem dksX1_takes_2 : cX1_takes.data.toList.drop 48 = dktX1_takes_2 := dk_seg dksX1_takes_1 24 rfl rfl
theorem dX1_takes_0 : decode cX1_takes 0 = .ok (.iconst 0, 1) := dk_3 (dk_at dksX1_takes_0 0 rfl rfl)
theorem dX1_takes_1 : decode cX1_takes 1 = .ok (.istore_n 2, 1) := dk_61 (dk_at dksX1_takes_0 1 rfl rfl)
theorem dX1_takes_2 : decode cX1_takes 2 = .ok (.iload_n 2, 1) := dk_28 (dk_at dksX1_takes_0 2 rfl rfl)
theorem dX1_takes_3 : decode cX1_takes 3 = .ok (.bipush 16, 2) := dk_16 16 (dk_at dksX1_takes_0 3 rfl rfl)
theorem dX1_takes_5 : decode cX1_takes 5 = .ok (.if_icmp .ge 33, 3) := dk_162 0 33 (dk_at dksX1_takes_0 5 rfl rfl)
theorem dX1_takes_8 : decode cX1_takes 8 = .ok (.aload_n 0, 1) := dk_42 (dk_at dksX1_takes_0 8 rfl rfl)
theorem dX1_takes_9 : decode cX1_takes 9 = .ok (.getfield 9, 3) := dk_180 0 9 (dk_at dksX1_takes_0 9 rfl rfl)
theorem dX1_takes_12 : decode cX1_takes 12 = .ok (.iload_n 2, 1) := dk_28 (dk_at dksX1_takes_0 12 rfl rfl)
theorem dX1_takes_13 : decode cX1_takes 13 = .ok (.aload_n 1, 1) := dk_43 (dk_at dksX1_takes_0 13 rfl rfl)
theorem dX1_takes_14 : decode cX1_takes 14 = .ok (.getfield 9, 3) := dk_180 0 9 (dk_at dksX1_takes_0 14 rfl rfl)
theorem dX1_takes_17 : decode cX1_takes 17 = .ok (.iload_n 2, 1) := dk_28 (dk_at dksX1_takes_0 17 rfl rfl)
theorem dX1_takes_18 : decode cX1_takes 18 = .ok (.iaload, 1) := dk_46 (dk_at dksX1_takes_0 18 rfl rfl)
theorem dX1_takes_19 : decode cX1_takes 19 = .ok (.iastore, 1) := dk_79 (dk_at dksX1_takes_0 19 rfl rfl)
theorem dX1_takes_20 : decode cX1_takes 20 = .ok (.aload_n 0, 1) := dk_42 (dk_at dksX1_takes_0 20 rfl rfl)
theorem dX1_takes_21 : decode cX1_takes 21 = .ok (.getfield 15, 3) := dk_180 0 15 (dk_at dksX1_takes_0 21 rfl rfl)
theorem dX1_takes_24 : decode cX1_takes 24 = .ok (.iload_n 2, 1) := dk_28 (dk_at dksX1_takes_1 0 rfl rfl)
theorem dX1_takes_25 : decode cX1_takes 25 = .ok (.aload_n 1, 1) := dk_43 (dk_at dksX1_takes_1 1 rfl rfl)
theorem dX1_takes_26 : decode cX1_takes 26 = .ok (.getfield 15, 3) := dk_180 0 15 (dk_at dksX1_takes_1 2 rfl rfl)
theorem dX1_takes_29 : decode cX1_takes 29 = .ok (.iload_n 2, 1) := dk_28 (dk_at dksX1_takes_1 5 rfl rfl)
theorem dX1_takes_30 : decode cX1_takes 30 = .ok (.iaload, 1) := dk_46 (dk_at dksX1_takes_1 6 rfl rfl)
theorem dX1_takes_31 : decode cX1_takes 31 = .ok (.iastore, 1) := dk_79 (dk_at dksX1_takes_1 7 rfl rfl)
theorem dX1_takes_32 : decode cX1_takes 32 = .ok (.iinc 2 1, 3) := dk_132 2 1 (dk_at dksX1_takes_1 8 rfl rfl)
theorem dX1_takes_35 : decode cX1_takes 35 = .ok (.goto (-33), 3) := dk_167 255 223 (dk_at dksX1_takes_1 11 rfl rfl)
theorem dX1_takes_38 : decode cX1_takes 38 = .ok (.aload_n 0, 1) := dk_42 (dk_at dksX1_takes_1 14 rfl rfl)
theorem dX1_takes_39 : decode cX1_takes 39 = .ok (.aload_n 1, 1) := dk_43 (dk_at dksX1_takes_1 15 rfl rfl)
theorem dX1_takes_40 : decode cX1_takes 40 = .ok (.getfield 18, 3) := dk_180 0 18 (dk_at dksX1_takes_1 16 rfl rfl)
theorem dX1_takes_43 : decode cX1_takes 43 = .ok (.putfield 18, 3) := dk_181 0 18 (dk_at dksX1_takes_1 19 rfl rfl)
theorem dX1_takes_46 : decode cX1_takes 46 = .ok (.aload_n 0, 1) := dk_42 (dk_at dksX1_takes_1 22 rfl rfl)
theorem dX1_takes_47 : decode cX1_takes 47 = .ok (.aload_n 1, 1) := dk_43 (dk_at dksX1_takes_1 23 rfl rfl)
theorem dX1_takes_48 : decode cX1_takes 48 = .ok (.getfield 22, 3) := dk_180 0 22 (dk_at dksX1_takes_2 0 rfl rfl)
theorem dX1_takes_51 : decode cX1_takes 51 = .ok (.putfield 22, 3) := dk_181 0 22 (dk_at dksX1_takes_2 3 rfl rfl)
theorem dX1_takes_54 : decode cX1_takes 54 = .ok (.return_, 1) := dk_177 (dk_at dksX1_takes_2 6 rfl rfl)
abbrev cX1_isTold : ByteArray := prog_12_method_3_code
def yX1_isTold : MethodName := ⟨RX1, "isTold", "(I)Z"⟩
def dkwX1_isTold_1 : List UInt8 := [167, 0, 4, 3, 172]
abbrev dktX1_isTold_1 : List UInt8 := dkwX1_isTold_1 ++ []
def dkwX1_isTold_0 : List UInt8 := [27, 155, 0, 25, 27, 16, 16, 162, 0, 19, 42, 180, 0, 18, 27, 122, 4, 126, 4, 160, 0, 7, 4]
abbrev dktX1_isTold_0 : List UInt8 := dkwX1_isTold_0 ++ dktX1_isTold_1
theorem dksX1_isTold_0 : cX1_isTold.data.toList.drop 0 = dktX1_isTold_0 := by decide +kernel
theorem dksX1_isTold_1 : cX1_isTold.data.toList.drop 23 = dktX1_isTold_1 := dk_seg dksX1_isTold_0 23 rfl rfl
theorem dX1_isTold_0 : decode cX1_isTold 0 = .ok (.iload_n 1, 1) := dk_27 (dk_at dksX1_isTold_0 0 rfl rfl)
theorem dX1_isTold_1 : decode cX1_isTold 1 = .ok (.ifCond .lt 25, 3) := dk_155 0 25 (dk_at dksX1_isTold_0 1 rfl rfl)
theorem dX1_isTold_4 : decode cX1_isTold 4 = .ok (.iload_n 1, 1) := dk_27 (dk_at dksX1_isTold_0 4 rfl rfl)
theorem dX1_isTold_5 : decode cX1_isTold 5 = .ok (.bipush 16, 2) := dk_16 16 (dk_at dksX1_isTold_0 5 rfl rfl)
theorem dX1_isTold_7 : decode cX1_isTold 7 = .ok (.if_icmp .ge 19, 3) := dk_162 0 19 (dk_at dksX1_isTold_0 7 rfl rfl)
theorem dX1_isTold_10 : decode cX1_isTold 10 = .ok (.aload_n 0, 1) := dk_42 (dk_at dksX1_isTold_0 10 rfl rfl)
theorem dX1_isTold_11 : decode cX1_isTold 11 = .ok (.getfield 18, 3) := dk_180 0 18 (dk_at dksX1_isTold_0 11 rfl rfl)
theorem dX1_isTold_14 : decode cX1_isTold 14 = .ok (.iload_n 1, 1) := dk_27 (dk_at dksX1_isTold_0 14 rfl rfl)
theorem dX1_isTold_15 : decode cX1_isTold 15 = .ok (.ishr, 1) := dk_122 (dk_at dksX1_isTold_0 15 rfl rfl)
theorem dX1_isTold_16 : decode cX1_isTold 16 = .ok (.iconst 1, 1) := dk_4 (dk_at dksX1_isTold_0 16 rfl rfl)
theorem dX1_isTold_17 : decode cX1_isTold 17 = .ok (.iand, 1) := dk_126 (dk_at dksX1_isTold_0 17 rfl rfl)
theorem dX1_isTold_18 : decode cX1_isTold 18 = .ok (.iconst 1, 1) := dk_4 (dk_at dksX1_isTold_0 18 rfl rfl)
theorem dX1_isTold_19 : decode cX1_isTold 19 = .ok (.if_icmp .ne 7, 3) := dk_160 0 7 (dk_at dksX1_isTold_0 19 rfl rfl)
theorem dX1_isTold_22 : decode cX1_isTold 22 = .ok (.iconst 1, 1) := dk_4 (dk_at dksX1_isTold_0 22 rfl rfl)
theorem dX1_isTold_23 : decode cX1_isTold 23 = .ok (.goto 4, 3) := dk_167 0 4 (dk_at dksX1_isTold_1 0 rfl rfl)
theorem dX1_isTold_26 : decode cX1_isTold 26 = .ok (.iconst 0, 1) := dk_3 (dk_at dksX1_isTold_1 3 rfl rfl)
theorem dX1_isTold_27 : decode cX1_isTold 27 = .ok (.ireturn, 1) := dk_172 (dk_at dksX1_isTold_1 4 rfl rfl)
abbrev cX1_parts : ByteArray := prog_12_method_5_code
def yX1_parts : MethodName := ⟨RX1, "parts", "(IIZ)V"⟩
def dkwX1_parts_3 : List UInt8 := [79, 177]
abbrev dktX1_parts_3 : List UInt8 := dkwX1_parts_3 ++ []
def dkwX1_parts_2 : List UInt8 := [180, 0, 15, 28, 46, 4, 27, 120, 128, 167, 0, 15, 42, 180, 0, 15, 28, 46, 4, 27, 120, 2, 130, 126]
abbrev dktX1_parts_2 : List UInt8 := dkwX1_parts_2 ++ dktX1_parts_3
def dkwX1_parts_1 : List UInt8 := [180, 0, 15, 27, 46, 4, 28, 120, 2, 130, 126, 79, 42, 180, 0, 15, 28, 29, 153, 0, 16, 42]
abbrev dktX1_parts_1 : List UInt8 := dkwX1_parts_1 ++ dktX1_parts_2
def dkwX1_parts_0 : List UInt8 := [42, 180, 0, 15, 27, 29, 153, 0, 16, 42, 180, 0, 15, 27, 46, 4, 28, 120, 128, 167, 0, 15, 42]
abbrev dktX1_parts_0 : List UInt8 := dkwX1_parts_0 ++ dktX1_parts_1
theorem dksX1_parts_0 : cX1_parts.data.toList.drop 0 = dktX1_parts_0 := by decide +kernel
theorem dksX1_parts_1 : cX1_parts.data.toList.drop 23 = dktX1_parts_1 := dk_seg dksX1_parts_0 23 rfl rfl
theorem dksX1_parts_2 : cX1_parts.data.toList.drop 45 = dktX1_parts_2 := dk_seg dksX1_parts_1 22 rfl rfl
theorem dksX1_parts_3 : cX1_parts.data.toList.drop 69 = dktX1_parts_3 := dk_seg dksX1_parts_2 24 rfl rfl
theorem dX1_parts_0 : decode cX1_parts 0 = .ok (.aload_n 0, 1) := dk_42 (dk_at dksX1_parts_0 0 rfl rfl)
theorem dX1_parts_1 : decode cX1_parts 1 = .ok (.getfield 15, 3) := dk_180 0 15 (dk_at dksX1_parts_0 1 rfl rfl)
theorem dX1_parts_4 : decode cX1_parts 4 = .ok (.iload_n 1, 1) := dk_27 (dk_at dksX1_parts_0 4 rfl rfl)
theorem dX1_parts_5 : decode cX1_parts 5 = .ok (.iload_n 3, 1) := dk_29 (dk_at dksX1_parts_0 5 rfl rfl)
theorem dX1_parts_6 : decode cX1_parts 6 = .ok (.ifCond .eq 16, 3) := dk_153 0 16 (dk_at dksX1_parts_0 6 rfl rfl)
theorem dX1_parts_9 : decode cX1_parts 9 = .ok (.aload_n 0, 1) := dk_42 (dk_at dksX1_parts_0 9 rfl rfl)
theorem dX1_parts_10 : decode cX1_parts 10 = .ok (.getfield 15, 3) := dk_180 0 15 (dk_at dksX1_parts_0 10 rfl rfl)
theorem dX1_parts_13 : decode cX1_parts 13 = .ok (.iload_n 1, 1) := dk_27 (dk_at dksX1_parts_0 13 rfl rfl)
theorem dX1_parts_14 : decode cX1_parts 14 = .ok (.iaload, 1) := dk_46 (dk_at dksX1_parts_0 14 rfl rfl)
theorem dX1_parts_15 : decode cX1_parts 15 = .ok (.iconst 1, 1) := dk_4 (dk_at dksX1_parts_0 15 rfl rfl)
theorem dX1_parts_16 : decode cX1_parts 16 = .ok (.iload_n 2, 1) := dk_28 (dk_at dksX1_parts_0 16 rfl rfl)
theorem dX1_parts_17 : decode cX1_parts 17 = .ok (.ishl, 1) := dk_120 (dk_at dksX1_parts_0 17 rfl rfl)
theorem dX1_parts_18 : decode cX1_parts 18 = .ok (.ior, 1) := dk_128 (dk_at dksX1_parts_0 18 rfl rfl)
theorem dX1_parts_19 : decode cX1_parts 19 = .ok (.goto 15, 3) := dk_167 0 15 (dk_at dksX1_parts_0 19 rfl rfl)
theorem dX1_parts_22 : decode cX1_parts 22 = .ok (.aload_n 0, 1) := dk_42 (dk_at dksX1_parts_0 22 rfl rfl)
theorem dX1_parts_23 : decode cX1_parts 23 = .ok (.getfield 15, 3) := dk_180 0 15 (dk_at dksX1_parts_1 0 rfl rfl)
theorem dX1_parts_26 : decode cX1_parts 26 = .ok (.iload_n 1, 1) := dk_27 (dk_at dksX1_parts_1 3 rfl rfl)
theorem dX1_parts_27 : decode cX1_parts 27 = .ok (.iaload, 1) := dk_46 (dk_at dksX1_parts_1 4 rfl rfl)
theorem dX1_parts_28 : decode cX1_parts 28 = .ok (.iconst 1, 1) := dk_4 (dk_at dksX1_parts_1 5 rfl rfl)
theorem dX1_parts_29 : decode cX1_parts 29 = .ok (.iload_n 2, 1) := dk_28 (dk_at dksX1_parts_1 6 rfl rfl)
theorem dX1_parts_30 : decode cX1_parts 30 = .ok (.ishl, 1) := dk_120 (dk_at dksX1_parts_1 7 rfl rfl)
theorem dX1_parts_31 : decode cX1_parts 31 = .ok (.iconst (-1), 1) := dk_2 (dk_at dksX1_parts_1 8 rfl rfl)
theorem dX1_parts_32 : decode cX1_parts 32 = .ok (.ixor, 1) := dk_130 (dk_at dksX1_parts_1 9 rfl rfl)
theorem dX1_parts_33 : decode cX1_parts 33 = .ok (.iand, 1) := dk_126 (dk_at dksX1_parts_1 10 rfl rfl)
theorem dX1_parts_34 : decode cX1_parts 34 = .ok (.iastore, 1) := dk_79 (dk_at dksX1_parts_1 11 rfl rfl)
theorem dX1_parts_35 : decode cX1_parts 35 = .ok (.aload_n 0, 1) := dk_42 (dk_at dksX1_parts_1 12 rfl rfl)
theorem dX1_parts_36 : decode cX1_parts 36 = .ok (.getfield 15, 3) := dk_180 0 15 (dk_at dksX1_parts_1 13 rfl rfl)
theorem dX1_parts_39 : decode cX1_parts 39 = .ok (.iload_n 2, 1) := dk_28 (dk_at dksX1_parts_1 16 rfl rfl)
theorem dX1_parts_40 : decode cX1_parts 40 = .ok (.iload_n 3, 1) := dk_29 (dk_at dksX1_parts_1 17 rfl rfl)
theorem dX1_parts_41 : decode cX1_parts 41 = .ok (.ifCond .eq 16, 3) := dk_153 0 16 (dk_at dksX1_parts_1 18 rfl rfl)
theorem dX1_parts_44 : decode cX1_parts 44 = .ok (.aload_n 0, 1) := dk_42 (dk_at dksX1_parts_1 21 rfl rfl)
theorem dX1_parts_45 : decode cX1_parts 45 = .ok (.getfield 15, 3) := dk_180 0 15 (dk_at dksX1_parts_2 0 rfl rfl)
theorem dX1_parts_48 : decode cX1_parts 48 = .ok (.iload_n 2, 1) := dk_28 (dk_at dksX1_parts_2 3 rfl rfl)
theorem dX1_parts_49 : decode cX1_parts 49 = .ok (.iaload, 1) := dk_46 (dk_at dksX1_parts_2 4 rfl rfl)
theorem dX1_parts_50 : decode cX1_parts 50 = .ok (.iconst 1, 1) := dk_4 (dk_at dksX1_parts_2 5 rfl rfl)
theorem dX1_parts_51 : decode cX1_parts 51 = .ok (.iload_n 1, 1) := dk_27 (dk_at dksX1_parts_2 6 rfl rfl)
theorem dX1_parts_52 : decode cX1_parts 52 = .ok (.ishl, 1) := dk_120 (dk_at dksX1_parts_2 7 rfl rfl)
theorem dX1_parts_53 : decode cX1_parts 53 = .ok (.ior, 1) := dk_128 (dk_at dksX1_parts_2 8 rfl rfl)
theorem dX1_parts_54 : decode cX1_parts 54 = .ok (.goto 15, 3) := dk_167 0 15 (dk_at dksX1_parts_2 9 rfl rfl)
theorem dX1_parts_57 : decode cX1_parts 57 = .ok (.aload_n 0, 1) := dk_42 (dk_at dksX1_parts_2 12 rfl rfl)
theorem dX1_parts_58 : decode cX1_parts 58 = .ok (.getfield 15, 3) := dk_180 0 15 (dk_at dksX1_parts_2 13 rfl rfl)
theorem dX1_parts_61 : decode cX1_parts 61 = .ok (.iload_n 2, 1) := dk_28 (dk_at dksX1_parts_2 16 rfl rfl)
theorem dX1_parts_62 : decode cX1_parts 62 = .ok (.iaload, 1) := dk_46 (dk_at dksX1_parts_2 17 rfl rfl)
theorem dX1_parts_63 : decode cX1_parts 63 = .ok (.iconst 1, 1) := dk_4 (dk_at dksX1_parts_2 18 rfl rfl)
theorem dX1_parts_64 : decode cX1_parts 64 = .ok (.iload_n 1, 1) := dk_27 (dk_at dksX1_parts_2 19 rfl rfl)
theorem dX1_parts_65 : decode cX1_parts 65 = .ok (.ishl, 1) := dk_120 (dk_at dksX1_parts_2 20 rfl rfl)
theorem dX1_parts_66 : decode cX1_parts 66 = .ok (.iconst (-1), 1) := dk_2 (dk_at dksX1_parts_2 21 rfl rfl)
theorem dX1_parts_67 : decode cX1_parts 67 = .ok (.ixor, 1) := dk_130 (dk_at dksX1_parts_2 22 rfl rfl)
theorem dX1_parts_68 : decode cX1_parts 68 = .ok (.iand, 1) := dk_126 (dk_at dksX1_parts_2 23 rfl rfl)
theorem dX1_parts_69 : decode cX1_parts 69 = .ok (.iastore, 1) := dk_79 (dk_at dksX1_parts_3 0 rfl rfl)
theorem dX1_parts_70 : decode cX1_parts 70 = .ok (.return_, 1) := dk_177 (dk_at dksX1_parts_3 1 rfl rfl)
abbrev cX1_friends : ByteArray := prog_12_method_4_code
def yX1_friends : MethodName := ⟨RX1, "friends", "(I)I"⟩
def dkwX1_friends_0 : List UInt8 := [42, 180, 0, 18, 42, 180, 0, 15, 27, 46, 2, 130, 126, 4, 27, 120, 2, 130, 126, 172]
abbrev dktX1_friends_0 : List UInt8 := dkwX1_friends_0 ++ []
theorem dksX1_friends_0 : cX1_friends.data.toList.drop 0 = dktX1_friends_0 := by decide +kernel
theorem dX1_friends_0 : decode cX1_friends 0 = .ok (.aload_n 0, 1) := dk_42 (dk_at dksX1_friends_0 0 rfl rfl)
theorem dX1_friends_1 : decode cX1_friends 1 = .ok (.getfield 18, 3) := dk_180 0 18 (dk_at dksX1_friends_0 1 rfl rfl)
theorem dX1_friends_4 : decode cX1_friends 4 = .ok (.aload_n 0, 1) := dk_42 (dk_at dksX1_friends_0 4 rfl rfl)
theorem dX1_friends_5 : decode cX1_friends 5 = .ok (.getfield 15, 3) := dk_180 0 15 (dk_at dksX1_friends_0 5 rfl rfl)
theorem dX1_friends_8 : decode cX1_friends 8 = .ok (.iload_n 1, 1) := dk_27 (dk_at dksX1_friends_0 8 rfl rfl)
theorem dX1_friends_9 : decode cX1_friends 9 = .ok (.iaload, 1) := dk_46 (dk_at dksX1_friends_0 9 rfl rfl)
theorem dX1_friends_10 : decode cX1_friends 10 = .ok (.iconst (-1), 1) := dk_2 (dk_at dksX1_friends_0 10 rfl rfl)
theorem dX1_friends_11 : decode cX1_friends 11 = .ok (.ixor, 1) := dk_130 (dk_at dksX1_friends_0 11 rfl rfl)
theorem dX1_friends_12 : decode cX1_friends 12 = .ok (.iand, 1) := dk_126 (dk_at dksX1_friends_0 12 rfl rfl)
theorem dX1_friends_13 : decode cX1_friends 13 = .ok (.iconst 1, 1) := dk_4 (dk_at dksX1_friends_0 13 rfl rfl)
theorem dX1_friends_14 : decode cX1_friends 14 = .ok (.iload_n 1, 1) := dk_27 (dk_at dksX1_friends_0 14 rfl rfl)
theorem dX1_friends_15 : decode cX1_friends 15 = .ok (.ishl, 1) := dk_120 (dk_at dksX1_friends_0 15 rfl rfl)
theorem dX1_friends_16 : decode cX1_friends 16 = .ok (.iconst (-1), 1) := dk_2 (dk_at dksX1_friends_0 16 rfl rfl)
theorem dX1_friends_17 : decode cX1_friends 17 = .ok (.ixor, 1) := dk_130 (dk_at dksX1_friends_0 17 rfl rfl)
theorem dX1_friends_18 : decode cX1_friends 18 = .ok (.iand, 1) := dk_126 (dk_at dksX1_friends_0 18 rfl rfl)
theorem dX1_friends_19 : decode cX1_friends 19 = .ok (.ireturn, 1) := dk_172 (dk_at dksX1_friends_0 19 rfl rfl)
theorem q102 : (Jvm.Cond.initialized "AnyKeyTown$Roll") ∈ lw_all := lw_g (lw_at lw_m1 2 rfl) rfl
theorem q136 : (Jvm.Cond.instantiable "AnyKeyTown$Roll" (4 : Nat)) ∈ lw_all := lw_g (lw_at lw_m1 36 rfl) rfl
theorem q138 : (Jvm.Cond.instanceMethod ({ cls := "AnyKeyTown$Roll", name := "<init>", desc := "()V" } : Jvm.MethodName)) ∈ lw_all := lw_g (lw_at lw_m1 38 rfl) rfl
theorem q139 : (Jvm.Cond.code ({ cls := "AnyKeyTown$Roll", name := "<init>", desc := "()V" } : Jvm.MethodName) prog_12_method_1_code (1 : Nat) (Option.none : Option Jvm.ClassFile.FieldType)) ∈ lw_all := lw_g (lw_at lw_m1 39 rfl) rfl
theorem q140 : (Jvm.Cond.methodLink "AnyKeyTown$Roll" (3 : Nat) ({ cls := "java/lang/Object", name := "<init>", desc := "()V" } : Jvm.MethodName)) ∈ lw_all := lw_g (lw_at lw_m1 40 rfl) rfl
theorem q141 : (Jvm.Cond.fieldLink "AnyKeyTown$Roll" (9 : Nat) "AnyKeyTown$Roll" "houses" "[I") ∈ lw_all := lw_g (lw_at lw_m1 41 rfl) rfl
theorem q146 : (Jvm.Cond.fieldLink "AnyKeyTown$Roll" (15 : Nat) "AnyKeyTown$Roll" "foes" "[I") ∈ lw_all := lw_g (lw_at lw_m1 46 rfl) rfl
theorem q149 : (Jvm.Cond.fieldLink "AnyKeyTown$Roll" (18 : Nat) "AnyKeyTown$Roll" "told" "I") ∈ lw_all := lw_g (lw_at lw_m1 49 rfl) rfl
theorem q153 : (Jvm.Cond.fieldLink "AnyKeyTown$Roll" (22 : Nat) "AnyKeyTown$Roll" "locked" "I") ∈ lw_all := lw_g (lw_at lw_m1 53 rfl) rfl
theorem q158 : (Jvm.Cond.laysFinal "AnyKeyTown$Roll" "AnyKeyTown$Roll" "houses" "[I") ∈ lw_all := lw_g (lw_at lw_m1 58 rfl) rfl
theorem q159 : (Jvm.Cond.soleField "AnyKeyTown$Roll" "houses") ∈ lw_all := lw_g (lw_at lw_m1 59 rfl) rfl
theorem q160 : (Jvm.Cond.laysFinal "AnyKeyTown$Roll" "AnyKeyTown$Roll" "foes" "[I") ∈ lw_all := lw_g (lw_at lw_m1 60 rfl) rfl
theorem q161 : (Jvm.Cond.soleField "AnyKeyTown$Roll" "foes") ∈ lw_all := lw_g (lw_at lw_m1 61 rfl) rfl
theorem q162 : (Jvm.Cond.lays "AnyKeyTown$Roll" "AnyKeyTown$Roll" "told" "I") ∈ lw_all := lw_g (lw_at lw_m1 62 rfl) rfl
theorem q163 : (Jvm.Cond.soleField "AnyKeyTown$Roll" "told") ∈ lw_all := lw_g (lw_at lw_m1 63 rfl) rfl
theorem q164 : (Jvm.Cond.lays "AnyKeyTown$Roll" "AnyKeyTown$Roll" "locked" "I") ∈ lw_all := lw_g (lw_at lw_m1 64 rfl) rfl
theorem q165 : (Jvm.Cond.soleField "AnyKeyTown$Roll" "locked") ∈ lw_all := lw_g (lw_at lw_m1 65 rfl) rfl
theorem q166 : (Jvm.Cond.superclass "AnyKeyTown$Roll" "java/lang/Object") ∈ lw_all := lw_g (lw_at lw_m1 66 rfl) rfl
theorem q650 : (Jvm.Cond.instanceMethod ({ cls := "AnyKeyTown$Roll", name := "takes", desc := "(LAnyKeyTown$Roll;)V" } : Jvm.MethodName)) ∈ lw_all := lw_g (lw_at lw_m3 70 rfl) rfl
theorem q651 : (Jvm.Cond.selects "AnyKeyTown$Roll" ({ cls := "AnyKeyTown$Roll", name := "takes", desc := "(LAnyKeyTown$Roll;)V" } : Jvm.MethodName) ({ cls := "AnyKeyTown$Roll", name := "takes", desc := "(LAnyKeyTown$Roll;)V" } : Jvm.MethodName)) ∈ lw_all := lw_g (lw_at lw_m3 71 rfl) rfl
theorem q652 : (Jvm.Cond.code ({ cls := "AnyKeyTown$Roll", name := "takes", desc := "(LAnyKeyTown$Roll;)V" } : Jvm.MethodName) prog_12_method_2_code (3 : Nat) (Option.none : Option Jvm.ClassFile.FieldType)) ∈ lw_all := lw_g (lw_at lw_m3 72 rfl) rfl
theorem q731 : (Jvm.Cond.instanceMethod ({ cls := "AnyKeyTown$Roll", name := "isTold", desc := "(I)Z" } : Jvm.MethodName)) ∈ lw_all := lw_g (lw_at lw_m3 151 rfl) rfl
theorem q732 : (Jvm.Cond.selects "AnyKeyTown$Roll" ({ cls := "AnyKeyTown$Roll", name := "isTold", desc := "(I)Z" } : Jvm.MethodName) ({ cls := "AnyKeyTown$Roll", name := "isTold", desc := "(I)Z" } : Jvm.MethodName)) ∈ lw_all := lw_g (lw_at lw_m3 152 rfl) rfl
theorem q733 : (Jvm.Cond.code ({ cls := "AnyKeyTown$Roll", name := "isTold", desc := "(I)Z" } : Jvm.MethodName) prog_12_method_3_code (2 : Nat) (Option.some Jvm.ClassFile.FieldType.boolean)) ∈ lw_all := lw_g (lw_at lw_m3 153 rfl) rfl
theorem q755 : (Jvm.Cond.instanceMethod ({ cls := "AnyKeyTown$Roll", name := "parts", desc := "(IIZ)V" } : Jvm.MethodName)) ∈ lw_all := lw_g (lw_at lw_m3 175 rfl) rfl
theorem q756 : (Jvm.Cond.selects "AnyKeyTown$Roll" ({ cls := "AnyKeyTown$Roll", name := "parts", desc := "(IIZ)V" } : Jvm.MethodName) ({ cls := "AnyKeyTown$Roll", name := "parts", desc := "(IIZ)V" } : Jvm.MethodName)) ∈ lw_all := lw_g (lw_at lw_m3 176 rfl) rfl
theorem q757 : (Jvm.Cond.code ({ cls := "AnyKeyTown$Roll", name := "parts", desc := "(IIZ)V" } : Jvm.MethodName) prog_12_method_5_code (4 : Nat) (Option.none : Option Jvm.ClassFile.FieldType)) ∈ lw_all := lw_g (lw_at lw_m3 177 rfl) rfl
theorem q916 : (Jvm.Cond.instanceMethod ({ cls := "AnyKeyTown$Roll", name := "friends", desc := "(I)I" } : Jvm.MethodName)) ∈ lw_all := lw_g (lw_at lw_m4 96 rfl) rfl
theorem q917 : (Jvm.Cond.selects "AnyKeyTown$Roll" ({ cls := "AnyKeyTown$Roll", name := "friends", desc := "(I)I" } : Jvm.MethodName) ({ cls := "AnyKeyTown$Roll", name := "friends", desc := "(I)I" } : Jvm.MethodName)) ∈ lw_all := lw_g (lw_at lw_m4 97 rfl) rfl
theorem q918 : (Jvm.Cond.code ({ cls := "AnyKeyTown$Roll", name := "friends", desc := "(I)I" } : Jvm.MethodName) prog_12_method_4_code (2 : Nat) (Option.some Jvm.ClassFile.FieldType.int)) ∈ lw_all := lw_g (lw_at lw_m4 98 rfl) rfl
theorem in_X1 : ∀ w ∈ wsX10, w ∈ lw_all := lw_in wsX10 [158, 160, 162, 164] (by decide +kernel) (by decide +kernel)
/-! AnyKeyTown$Asked -/
set_option maxRecDepth 100000
def RX2 : String := "AnyKeyTown$Asked"
abbrev cX2_init : ByteArray := prog_2_method_1_code
def yX2_init : MethodName := ⟨RX2, "<init>", "()V"⟩
theorem dX2_init_0 : decode cX2_init 0 = .ok (.aload_n 0, 1) := by decide +kernel
theorem dX2_init_1 : decode cX2_init 1 = .ok (.invokespecial 1, 3) := by decide +kernel
theorem dX2_init_4 : decode cX2_init 4 = .ok (.return_, 1) := by decide +kernel
theorem q103 : (Jvm.Cond.initialized "AnyKeyTown$Asked") ∈ lw_all := lw_g (lw_at lw_m1 3 rfl) rfl
theorem q174 : (Jvm.Cond.instanceMethod ({ cls := "AnyKeyTown$Asked", name := "<init>", desc := "()V" } : Jvm.MethodName)) ∈ lw_all := lw_g (lw_at lw_m1 74 rfl) rfl
theorem q175 : (Jvm.Cond.code ({ cls := "AnyKeyTown$Asked", name := "<init>", desc := "()V" } : Jvm.MethodName) prog_2_method_1_code (1 : Nat) (Option.none : Option Jvm.ClassFile.FieldType)) ∈ lw_all := lw_g (lw_at lw_m1 75 rfl) rfl
theorem q176 : (Jvm.Cond.methodLink "AnyKeyTown$Asked" (1 : Nat) ({ cls := "java/lang/Object", name := "<init>", desc := "()V" } : Jvm.MethodName)) ∈ lw_all := lw_g (lw_at lw_m1 76 rfl) rfl
theorem q211 : (Jvm.Cond.soleField "AnyKeyTown$Asked" "isRefused") ∈ lw_all := lw_g (lw_at lw_m1 111 rfl) rfl
theorem q887 : (Jvm.Cond.declares ({ cls := "AnyKeyTown$Asked", name := "value", desc := "(I)I" } : Jvm.MethodName)) ∈ lw_tbl := lw_at lw_m4 67 rfl
theorem q888 : (Jvm.Cond.sameMethod "AnyKeyTown$Asked" "AnyKeyTown$Asked" "value" "(I)I") ∈ lw_all := lw_g (lw_at lw_m4 68 rfl) rfl
/-! AnyKeyTown$Moment -/
set_option maxRecDepth 100000
def RX3 : String := "AnyKeyTown$Moment"
def TX3 : u_T := fun k => match k with
  | 0 => ("AnyKeyTown$Asked", "isRefused", "Z", false)
  | 1 => ("AnyKeyTown$Moment", "one", "I", false)
  | 2 => ("AnyKeyTown$Moment", "other", "I", false)
  | 3 => ("AnyKeyTown$Moment", "house", "I", false)
  | 4 => ("AnyKeyTown$Moment", "apart", "I", false)
  | 5 => ("AnyKeyTown$Moment", "favours", "I", false)
  | 6 => ("AnyKeyTown$Moment", "back", "I", false)
  | 7 => ("AnyKeyTown$Moment", "nights", "I", false)
  | 8 => ("AnyKeyTown$Moment", "out", "I", false)
  | 9 => ("AnyKeyTown$Moment", "evening", "I", false)
  | _ => ("AnyKeyTown$Moment", "drawn", "I", false)
def tyX3 : Nat → FieldType := fun k => match k with
  | 0 => .boolean
  | 1 => .int
  | 2 => .int
  | 3 => .int
  | 4 => .int
  | 5 => .int
  | 6 => .int
  | 7 => .int
  | 8 => .int
  | 9 => .int
  | _ => .int
abbrev wsX30 : List Cond := u_ws RX3 TX3 11
theorem nmX3 : ∀ a, a < 11 → ∀ b, b < 11 → a ≠ b → (TX3 a).2.1 ≠ (TX3 b).2.1 := by decide +kernel
theorem tyX3_ok : ∀ k, k < 11 → parseFieldDescriptor (TX3 k).2.2.1 = some (tyX3 k) := by decide +kernel
abbrev cX3_init : ByteArray := prog_8_method_1_code
def yX3_init : MethodName := ⟨RX3, "<init>", "()V"⟩
theorem dX3_init_0 : decode cX3_init 0 = .ok (.aload_n 0, 1) := by decide +kernel
theorem dX3_init_1 : decode cX3_init 1 = .ok (.invokespecial 3, 3) := by decide +kernel
theorem dX3_init_4 : decode cX3_init 4 = .ok (.return_, 1) := by decide +kernel
abbrev cX3_of : ByteArray := prog_8_method_2_code
def yX3_of : MethodName := ⟨RX3, "of", "(IIIIII)LAnyKeyTown$Moment;"⟩
def dkwX3_of_2 : List UInt8 := [112, 181, 0, 36, 42, 21, 6, 181, 0, 39, 42, 176]
abbrev dktX3_of_2 : List UInt8 := dkwX3_of_2 ++ []
def dkwX3_of_1 : List UInt8 := [181, 0, 24, 42, 3, 181, 0, 27, 42, 29, 181, 0, 30, 42, 21, 4, 181, 0, 33, 42, 21, 5, 16, 100]
abbrev dktX3_of_1 : List UInt8 := dkwX3_of_1 ++ dktX3_of_2
def dkwX3_of_0 : List UInt8 := [42, 27, 181, 0, 9, 42, 3, 181, 0, 15, 42, 28, 181, 0, 18, 42, 3, 181, 0, 21, 42, 3]
abbrev dktX3_of_0 : List UInt8 := dkwX3_of_0 ++ dktX3_of_1
theorem dksX3_of_0 : cX3_of.data.toList.drop 0 = dktX3_of_0 := by decide +kernel
theorem dksX3_of_1 : cX3_of.data.toList.drop 22 = dktX3_of_1 := dk_seg dksX3_of_0 22 rfl rfl
theorem dksX3_of_2 : cX3_of.data.toList.drop 46 = dktX3_of_2 := dk_seg dksX3_of_1 24 rfl rfl
theorem dX3_of_0 : decode cX3_of 0 = .ok (.aload_n 0, 1) := dk_42 (dk_at dksX3_of_0 0 rfl rfl)
theorem dX3_of_1 : decode cX3_of 1 = .ok (.iload_n 1, 1) := dk_27 (dk_at dksX3_of_0 1 rfl rfl)
theorem dX3_of_2 : decode cX3_of 2 = .ok (.putfield 9, 3) := dk_181 0 9 (dk_at dksX3_of_0 2 rfl rfl)
theorem dX3_of_5 : decode cX3_of 5 = .ok (.aload_n 0, 1) := dk_42 (dk_at dksX3_of_0 5 rfl rfl)
theorem dX3_of_6 : decode cX3_of 6 = .ok (.iconst 0, 1) := dk_3 (dk_at dksX3_of_0 6 rfl rfl)
theorem dX3_of_7 : decode cX3_of 7 = .ok (.putfield 15, 3) := dk_181 0 15 (dk_at dksX3_of_0 7 rfl rfl)
theorem dX3_of_10 : decode cX3_of 10 = .ok (.aload_n 0, 1) := dk_42 (dk_at dksX3_of_0 10 rfl rfl)
theorem dX3_of_11 : decode cX3_of 11 = .ok (.iload_n 2, 1) := dk_28 (dk_at dksX3_of_0 11 rfl rfl)
theorem dX3_of_12 : decode cX3_of 12 = .ok (.putfield 18, 3) := dk_181 0 18 (dk_at dksX3_of_0 12 rfl rfl)
theorem dX3_of_15 : decode cX3_of 15 = .ok (.aload_n 0, 1) := dk_42 (dk_at dksX3_of_0 15 rfl rfl)
theorem dX3_of_16 : decode cX3_of 16 = .ok (.iconst 0, 1) := dk_3 (dk_at dksX3_of_0 16 rfl rfl)
theorem dX3_of_17 : decode cX3_of 17 = .ok (.putfield 21, 3) := dk_181 0 21 (dk_at dksX3_of_0 17 rfl rfl)
theorem dX3_of_20 : decode cX3_of 20 = .ok (.aload_n 0, 1) := dk_42 (dk_at dksX3_of_0 20 rfl rfl)
theorem dX3_of_21 : decode cX3_of 21 = .ok (.iconst 0, 1) := dk_3 (dk_at dksX3_of_0 21 rfl rfl)
theorem dX3_of_22 : decode cX3_of 22 = .ok (.putfield 24, 3) := dk_181 0 24 (dk_at dksX3_of_1 0 rfl rfl)
theorem dX3_of_25 : decode cX3_of 25 = .ok (.aload_n 0, 1) := dk_42 (dk_at dksX3_of_1 3 rfl rfl)
theorem dX3_of_26 : decode cX3_of 26 = .ok (.iconst 0, 1) := dk_3 (dk_at dksX3_of_1 4 rfl rfl)
theorem dX3_of_27 : decode cX3_of 27 = .ok (.putfield 27, 3) := dk_181 0 27 (dk_at dksX3_of_1 5 rfl rfl)
theorem dX3_of_30 : decode cX3_of 30 = .ok (.aload_n 0, 1) := dk_42 (dk_at dksX3_of_1 8 rfl rfl)
theorem dX3_of_31 : decode cX3_of 31 = .ok (.iload_n 3, 1) := dk_29 (dk_at dksX3_of_1 9 rfl rfl)
theorem dX3_of_32 : decode cX3_of 32 = .ok (.putfield 30, 3) := dk_181 0 30 (dk_at dksX3_of_1 10 rfl rfl)
theorem dX3_of_35 : decode cX3_of 35 = .ok (.aload_n 0, 1) := dk_42 (dk_at dksX3_of_1 13 rfl rfl)
theorem dX3_of_36 : decode cX3_of 36 = .ok (.iload 4, 2) := dk_21 4 (dk_at dksX3_of_1 14 rfl rfl)
theorem dX3_of_38 : decode cX3_of 38 = .ok (.putfield 33, 3) := dk_181 0 33 (dk_at dksX3_of_1 16 rfl rfl)
theorem dX3_of_41 : decode cX3_of 41 = .ok (.aload_n 0, 1) := dk_42 (dk_at dksX3_of_1 19 rfl rfl)
theorem dX3_of_42 : decode cX3_of 42 = .ok (.iload 5, 2) := dk_21 5 (dk_at dksX3_of_1 20 rfl rfl)
theorem dX3_of_44 : decode cX3_of 44 = .ok (.bipush 100, 2) := dk_16 100 (dk_at dksX3_of_1 22 rfl rfl)
theorem dX3_of_46 : decode cX3_of 46 = .ok (.irem, 1) := dk_112 (dk_at dksX3_of_2 0 rfl rfl)
theorem dX3_of_47 : decode cX3_of 47 = .ok (.putfield 36, 3) := dk_181 0 36 (dk_at dksX3_of_2 1 rfl rfl)
theorem dX3_of_50 : decode cX3_of 50 = .ok (.aload_n 0, 1) := dk_42 (dk_at dksX3_of_2 4 rfl rfl)
theorem dX3_of_51 : decode cX3_of 51 = .ok (.iload 6, 2) := dk_21 6 (dk_at dksX3_of_2 5 rfl rfl)
theorem dX3_of_53 : decode cX3_of 53 = .ok (.putfield 39, 3) := dk_181 0 39 (dk_at dksX3_of_2 7 rfl rfl)
theorem dX3_of_56 : decode cX3_of 56 = .ok (.aload_n 0, 1) := dk_42 (dk_at dksX3_of_2 10 rfl rfl)
theorem dX3_of_57 : decode cX3_of 57 = .ok (.areturn, 1) := dk_176 (dk_at dksX3_of_2 11 rfl rfl)
abbrev cX3_value : ByteArray := prog_8_method_4_code
def yX3_value : MethodName := ⟨RX3, "value", "(I)I"⟩
def dkwX3_value_4 : List UInt8 := [180, 0, 39, 172]
abbrev dktX3_value_4 : List UInt8 := dkwX3_value_4 ++ []
def dkwX3_value_3 : List UInt8 := [172, 42, 180, 0, 27, 172, 42, 180, 0, 30, 172, 42, 180, 0, 33, 172, 42, 180, 0, 36, 172, 42]
abbrev dktX3_value_3 : List UInt8 := dkwX3_value_3 ++ dktX3_value_4
def dkwX3_value_2 : List UInt8 := [42, 180, 0, 9, 172, 42, 180, 0, 15, 172, 42, 180, 0, 18, 172, 42, 180, 0, 21, 172, 42, 180, 0, 24]
abbrev dktX3_value_2 : List UInt8 := dkwX3_value_2 ++ dktX3_value_3
def dkwX3_value_1 : List UInt8 := [170, 0, 0, 0, 0, 0, 128, 0, 0, 0, 100, 0, 0, 0, 116, 0, 0, 0, 98, 0, 0, 0, 128, 0, 0, 0, 103, 0, 0, 0, 108, 0, 0, 0, 93, 0, 0, 0, 128, 0, 0, 0, 128, 0, 0, 0, 128, 0, 0, 0, 128, 0, 0, 0, 128, 0, 0, 0, 113, 0, 0, 0, 118, 0, 0, 0, 83, 0, 0, 0, 88, 0, 0, 0, 128, 0, 0, 0, 128, 0, 0, 0, 123]
abbrev dktX3_value_1 : List UInt8 := dkwX3_value_1 ++ dktX3_value_2
def dkwX3_value_0 : List UInt8 := [27]
abbrev dktX3_value_0 : List UInt8 := dkwX3_value_0 ++ dktX3_value_1
theorem dksX3_value_0 : cX3_value.data.toList.drop 0 = dktX3_value_0 := by decide +kernel
theorem dksX3_value_1 : cX3_value.data.toList.drop 1 = dktX3_value_1 := dk_seg dksX3_value_0 1 rfl rfl
theorem dksX3_value_2 : cX3_value.data.toList.drop 84 = dktX3_value_2 := dk_seg dksX3_value_1 83 rfl rfl
theorem dksX3_value_3 : cX3_value.data.toList.drop 108 = dktX3_value_3 := dk_seg dksX3_value_2 24 rfl rfl
theorem dksX3_value_4 : cX3_value.data.toList.drop 130 = dktX3_value_4 := dk_seg dksX3_value_3 22 rfl rfl
theorem dX3_value_0 : decode cX3_value 0 = .ok (.iload_n 1, 1) := dk_27 (dk_at dksX3_value_0 0 rfl rfl)
theorem dX3_value_1 : decode cX3_value 1 = .ok (.tableswitch 128 100 116 #[98, 128, 103, 108, 93, 128, 128, 128, 128, 128, 113, 118, 83, 88, 128, 128, 123], 83) := by decide +kernel
theorem dX3_value_84 : decode cX3_value 84 = .ok (.aload_n 0, 1) := dk_42 (dk_at dksX3_value_2 0 rfl rfl)
theorem dX3_value_85 : decode cX3_value 85 = .ok (.getfield 9, 3) := dk_180 0 9 (dk_at dksX3_value_2 1 rfl rfl)
theorem dX3_value_88 : decode cX3_value 88 = .ok (.ireturn, 1) := dk_172 (dk_at dksX3_value_2 4 rfl rfl)
theorem dX3_value_89 : decode cX3_value 89 = .ok (.aload_n 0, 1) := dk_42 (dk_at dksX3_value_2 5 rfl rfl)
theorem dX3_value_90 : decode cX3_value 90 = .ok (.getfield 15, 3) := dk_180 0 15 (dk_at dksX3_value_2 6 rfl rfl)
theorem dX3_value_93 : decode cX3_value 93 = .ok (.ireturn, 1) := dk_172 (dk_at dksX3_value_2 9 rfl rfl)
theorem dX3_value_94 : decode cX3_value 94 = .ok (.aload_n 0, 1) := dk_42 (dk_at dksX3_value_2 10 rfl rfl)
theorem dX3_value_95 : decode cX3_value 95 = .ok (.getfield 18, 3) := dk_180 0 18 (dk_at dksX3_value_2 11 rfl rfl)
theorem dX3_value_98 : decode cX3_value 98 = .ok (.ireturn, 1) := dk_172 (dk_at dksX3_value_2 14 rfl rfl)
theorem dX3_value_99 : decode cX3_value 99 = .ok (.aload_n 0, 1) := dk_42 (dk_at dksX3_value_2 15 rfl rfl)
theorem dX3_value_100 : decode cX3_value 100 = .ok (.getfield 21, 3) := dk_180 0 21 (dk_at dksX3_value_2 16 rfl rfl)
theorem dX3_value_103 : decode cX3_value 103 = .ok (.ireturn, 1) := dk_172 (dk_at dksX3_value_2 19 rfl rfl)
theorem dX3_value_104 : decode cX3_value 104 = .ok (.aload_n 0, 1) := dk_42 (dk_at dksX3_value_2 20 rfl rfl)
theorem dX3_value_105 : decode cX3_value 105 = .ok (.getfield 24, 3) := dk_180 0 24 (dk_at dksX3_value_2 21 rfl rfl)
theorem dX3_value_108 : decode cX3_value 108 = .ok (.ireturn, 1) := dk_172 (dk_at dksX3_value_3 0 rfl rfl)
theorem dX3_value_109 : decode cX3_value 109 = .ok (.aload_n 0, 1) := dk_42 (dk_at dksX3_value_3 1 rfl rfl)
theorem dX3_value_110 : decode cX3_value 110 = .ok (.getfield 27, 3) := dk_180 0 27 (dk_at dksX3_value_3 2 rfl rfl)
theorem dX3_value_113 : decode cX3_value 113 = .ok (.ireturn, 1) := dk_172 (dk_at dksX3_value_3 5 rfl rfl)
theorem dX3_value_114 : decode cX3_value 114 = .ok (.aload_n 0, 1) := dk_42 (dk_at dksX3_value_3 6 rfl rfl)
theorem dX3_value_115 : decode cX3_value 115 = .ok (.getfield 30, 3) := dk_180 0 30 (dk_at dksX3_value_3 7 rfl rfl)
theorem dX3_value_118 : decode cX3_value 118 = .ok (.ireturn, 1) := dk_172 (dk_at dksX3_value_3 10 rfl rfl)
theorem dX3_value_119 : decode cX3_value 119 = .ok (.aload_n 0, 1) := dk_42 (dk_at dksX3_value_3 11 rfl rfl)
theorem dX3_value_120 : decode cX3_value 120 = .ok (.getfield 33, 3) := dk_180 0 33 (dk_at dksX3_value_3 12 rfl rfl)
theorem dX3_value_123 : decode cX3_value 123 = .ok (.ireturn, 1) := dk_172 (dk_at dksX3_value_3 15 rfl rfl)
theorem dX3_value_124 : decode cX3_value 124 = .ok (.aload_n 0, 1) := dk_42 (dk_at dksX3_value_3 16 rfl rfl)
theorem dX3_value_125 : decode cX3_value 125 = .ok (.getfield 36, 3) := dk_180 0 36 (dk_at dksX3_value_3 17 rfl rfl)
theorem dX3_value_128 : decode cX3_value 128 = .ok (.ireturn, 1) := dk_172 (dk_at dksX3_value_3 20 rfl rfl)
theorem dX3_value_129 : decode cX3_value 129 = .ok (.aload_n 0, 1) := dk_42 (dk_at dksX3_value_3 21 rfl rfl)
theorem dX3_value_130 : decode cX3_value 130 = .ok (.getfield 39, 3) := dk_180 0 39 (dk_at dksX3_value_4 0 rfl rfl)
theorem dX3_value_133 : decode cX3_value 133 = .ok (.ireturn, 1) := dk_172 (dk_at dksX3_value_4 3 rfl rfl)
abbrev cX3_by : ByteArray := prog_8_method_3_code
def yX3_by : MethodName := ⟨RX3, "by", "(IIII)LAnyKeyTown$Moment;"⟩
def dkwX3_by_0 : List UInt8 := [42, 27, 181, 0, 15, 42, 28, 181, 0, 21, 42, 29, 181, 0, 24, 42, 21, 4, 181, 0, 27, 42, 176]
abbrev dktX3_by_0 : List UInt8 := dkwX3_by_0 ++ []
theorem dksX3_by_0 : cX3_by.data.toList.drop 0 = dktX3_by_0 := by decide +kernel
theorem dX3_by_0 : decode cX3_by 0 = .ok (.aload_n 0, 1) := dk_42 (dk_at dksX3_by_0 0 rfl rfl)
theorem dX3_by_1 : decode cX3_by 1 = .ok (.iload_n 1, 1) := dk_27 (dk_at dksX3_by_0 1 rfl rfl)
theorem dX3_by_2 : decode cX3_by 2 = .ok (.putfield 15, 3) := dk_181 0 15 (dk_at dksX3_by_0 2 rfl rfl)
theorem dX3_by_5 : decode cX3_by 5 = .ok (.aload_n 0, 1) := dk_42 (dk_at dksX3_by_0 5 rfl rfl)
theorem dX3_by_6 : decode cX3_by 6 = .ok (.iload_n 2, 1) := dk_28 (dk_at dksX3_by_0 6 rfl rfl)
theorem dX3_by_7 : decode cX3_by 7 = .ok (.putfield 21, 3) := dk_181 0 21 (dk_at dksX3_by_0 7 rfl rfl)
theorem dX3_by_10 : decode cX3_by 10 = .ok (.aload_n 0, 1) := dk_42 (dk_at dksX3_by_0 10 rfl rfl)
theorem dX3_by_11 : decode cX3_by 11 = .ok (.iload_n 3, 1) := dk_29 (dk_at dksX3_by_0 11 rfl rfl)
theorem dX3_by_12 : decode cX3_by 12 = .ok (.putfield 24, 3) := dk_181 0 24 (dk_at dksX3_by_0 12 rfl rfl)
theorem dX3_by_15 : decode cX3_by 15 = .ok (.aload_n 0, 1) := dk_42 (dk_at dksX3_by_0 15 rfl rfl)
theorem dX3_by_16 : decode cX3_by 16 = .ok (.iload 4, 2) := dk_21 4 (dk_at dksX3_by_0 16 rfl rfl)
theorem dX3_by_18 : decode cX3_by 18 = .ok (.putfield 27, 3) := dk_181 0 27 (dk_at dksX3_by_0 18 rfl rfl)
theorem dX3_by_21 : decode cX3_by 21 = .ok (.aload_n 0, 1) := dk_42 (dk_at dksX3_by_0 21 rfl rfl)
theorem dX3_by_22 : decode cX3_by 22 = .ok (.areturn, 1) := dk_176 (dk_at dksX3_by_0 22 rfl rfl)
theorem q104 : (Jvm.Cond.initialized "AnyKeyTown$Moment") ∈ lw_all := lw_g (lw_at lw_m1 4 rfl) rfl
theorem q169 : (Jvm.Cond.instantiable "AnyKeyTown$Moment" (11 : Nat)) ∈ lw_all := lw_g (lw_at lw_m1 69 rfl) rfl
theorem q171 : (Jvm.Cond.instanceMethod ({ cls := "AnyKeyTown$Moment", name := "<init>", desc := "()V" } : Jvm.MethodName)) ∈ lw_all := lw_g (lw_at lw_m1 71 rfl) rfl
theorem q172 : (Jvm.Cond.code ({ cls := "AnyKeyTown$Moment", name := "<init>", desc := "()V" } : Jvm.MethodName) prog_8_method_1_code (1 : Nat) (Option.none : Option Jvm.ClassFile.FieldType)) ∈ lw_all := lw_g (lw_at lw_m1 72 rfl) rfl
theorem q173 : (Jvm.Cond.methodLinkNest "AnyKeyTown$Moment" (3 : Nat) ({ cls := "AnyKeyTown$Asked", name := "<init>", desc := "()V" } : Jvm.MethodName) "AnyKeyTown") ∈ lw_tbl := lw_at lw_m1 73 rfl
theorem q177 : (Jvm.Cond.fieldLink "AnyKeyTown$Moment" (9 : Nat) "AnyKeyTown$Moment" "one" "I") ∈ lw_all := lw_g (lw_at lw_m1 77 rfl) rfl
theorem q178 : (Jvm.Cond.fieldLink "AnyKeyTown$Moment" (15 : Nat) "AnyKeyTown$Moment" "other" "I") ∈ lw_all := lw_g (lw_at lw_m1 78 rfl) rfl
theorem q179 : (Jvm.Cond.fieldLink "AnyKeyTown$Moment" (18 : Nat) "AnyKeyTown$Moment" "house" "I") ∈ lw_all := lw_g (lw_at lw_m1 79 rfl) rfl
theorem q180 : (Jvm.Cond.fieldLink "AnyKeyTown$Moment" (21 : Nat) "AnyKeyTown$Moment" "apart" "I") ∈ lw_all := lw_g (lw_at lw_m1 80 rfl) rfl
theorem q181 : (Jvm.Cond.fieldLink "AnyKeyTown$Moment" (24 : Nat) "AnyKeyTown$Moment" "favours" "I") ∈ lw_all := lw_g (lw_at lw_m1 81 rfl) rfl
theorem q182 : (Jvm.Cond.fieldLink "AnyKeyTown$Moment" (27 : Nat) "AnyKeyTown$Moment" "back" "I") ∈ lw_all := lw_g (lw_at lw_m1 82 rfl) rfl
theorem q183 : (Jvm.Cond.fieldLink "AnyKeyTown$Moment" (30 : Nat) "AnyKeyTown$Moment" "nights" "I") ∈ lw_all := lw_g (lw_at lw_m1 83 rfl) rfl
theorem q184 : (Jvm.Cond.fieldLink "AnyKeyTown$Moment" (33 : Nat) "AnyKeyTown$Moment" "out" "I") ∈ lw_all := lw_g (lw_at lw_m1 84 rfl) rfl
theorem q185 : (Jvm.Cond.fieldLink "AnyKeyTown$Moment" (36 : Nat) "AnyKeyTown$Moment" "evening" "I") ∈ lw_all := lw_g (lw_at lw_m1 85 rfl) rfl
theorem q186 : (Jvm.Cond.fieldLink "AnyKeyTown$Moment" (39 : Nat) "AnyKeyTown$Moment" "drawn" "I") ∈ lw_all := lw_g (lw_at lw_m1 86 rfl) rfl
theorem q190 : (Jvm.Cond.lays "AnyKeyTown$Moment" "AnyKeyTown$Moment" "one" "I") ∈ lw_all := lw_g (lw_at lw_m1 90 rfl) rfl
theorem q191 : (Jvm.Cond.soleField "AnyKeyTown$Moment" "one") ∈ lw_all := lw_g (lw_at lw_m1 91 rfl) rfl
theorem q192 : (Jvm.Cond.lays "AnyKeyTown$Moment" "AnyKeyTown$Moment" "other" "I") ∈ lw_all := lw_g (lw_at lw_m1 92 rfl) rfl
theorem q193 : (Jvm.Cond.soleField "AnyKeyTown$Moment" "other") ∈ lw_all := lw_g (lw_at lw_m1 93 rfl) rfl
theorem q194 : (Jvm.Cond.lays "AnyKeyTown$Moment" "AnyKeyTown$Moment" "house" "I") ∈ lw_all := lw_g (lw_at lw_m1 94 rfl) rfl
theorem q195 : (Jvm.Cond.soleField "AnyKeyTown$Moment" "house") ∈ lw_all := lw_g (lw_at lw_m1 95 rfl) rfl
theorem q196 : (Jvm.Cond.lays "AnyKeyTown$Moment" "AnyKeyTown$Moment" "apart" "I") ∈ lw_all := lw_g (lw_at lw_m1 96 rfl) rfl
theorem q197 : (Jvm.Cond.soleField "AnyKeyTown$Moment" "apart") ∈ lw_all := lw_g (lw_at lw_m1 97 rfl) rfl
theorem q198 : (Jvm.Cond.lays "AnyKeyTown$Moment" "AnyKeyTown$Moment" "favours" "I") ∈ lw_all := lw_g (lw_at lw_m1 98 rfl) rfl
theorem q199 : (Jvm.Cond.soleField "AnyKeyTown$Moment" "favours") ∈ lw_all := lw_g (lw_at lw_m1 99 rfl) rfl
theorem q200 : (Jvm.Cond.lays "AnyKeyTown$Moment" "AnyKeyTown$Moment" "back" "I") ∈ lw_all := lw_g (lw_at lw_m1 100 rfl) rfl
theorem q201 : (Jvm.Cond.soleField "AnyKeyTown$Moment" "back") ∈ lw_all := lw_g (lw_at lw_m1 101 rfl) rfl
theorem q202 : (Jvm.Cond.lays "AnyKeyTown$Moment" "AnyKeyTown$Moment" "nights" "I") ∈ lw_all := lw_g (lw_at lw_m1 102 rfl) rfl
theorem q203 : (Jvm.Cond.soleField "AnyKeyTown$Moment" "nights") ∈ lw_all := lw_g (lw_at lw_m1 103 rfl) rfl
theorem q204 : (Jvm.Cond.lays "AnyKeyTown$Moment" "AnyKeyTown$Moment" "out" "I") ∈ lw_all := lw_g (lw_at lw_m1 104 rfl) rfl
theorem q205 : (Jvm.Cond.soleField "AnyKeyTown$Moment" "out") ∈ lw_all := lw_g (lw_at lw_m1 105 rfl) rfl
theorem q206 : (Jvm.Cond.lays "AnyKeyTown$Moment" "AnyKeyTown$Moment" "evening" "I") ∈ lw_all := lw_g (lw_at lw_m1 106 rfl) rfl
theorem q207 : (Jvm.Cond.soleField "AnyKeyTown$Moment" "evening") ∈ lw_all := lw_g (lw_at lw_m1 107 rfl) rfl
theorem q208 : (Jvm.Cond.lays "AnyKeyTown$Moment" "AnyKeyTown$Moment" "drawn" "I") ∈ lw_all := lw_g (lw_at lw_m1 108 rfl) rfl
theorem q209 : (Jvm.Cond.soleField "AnyKeyTown$Moment" "drawn") ∈ lw_all := lw_g (lw_at lw_m1 109 rfl) rfl
theorem q210 : (Jvm.Cond.lays "AnyKeyTown$Moment" "AnyKeyTown$Asked" "isRefused" "Z") ∈ lw_all := lw_g (lw_at lw_m1 110 rfl) rfl
theorem q212 : (Jvm.Cond.superclass "AnyKeyTown$Moment" "AnyKeyTown$Asked") ∈ lw_all := lw_g (lw_at lw_m1 112 rfl) rfl
theorem q867 : (Jvm.Cond.instanceMethod ({ cls := "AnyKeyTown$Moment", name := "of", desc := "(IIIIII)LAnyKeyTown$Moment;" } : Jvm.MethodName)) ∈ lw_all := lw_g (lw_at lw_m4 47 rfl) rfl
theorem q868 : (Jvm.Cond.selects "AnyKeyTown$Moment" ({ cls := "AnyKeyTown$Moment", name := "of", desc := "(IIIIII)LAnyKeyTown$Moment;" } : Jvm.MethodName) ({ cls := "AnyKeyTown$Moment", name := "of", desc := "(IIIIII)LAnyKeyTown$Moment;" } : Jvm.MethodName)) ∈ lw_all := lw_g (lw_at lw_m4 48 rfl) rfl
theorem q869 : (Jvm.Cond.code ({ cls := "AnyKeyTown$Moment", name := "of", desc := "(IIIIII)LAnyKeyTown$Moment;" } : Jvm.MethodName) prog_8_method_2_code (7 : Nat) (Option.some (Jvm.ClassFile.FieldType.object "AnyKeyTown$Moment"))) ∈ lw_all := lw_g (lw_at lw_m4 49 rfl) rfl
theorem q889 : (Jvm.Cond.selects "AnyKeyTown$Moment" ({ cls := "AnyKeyTown$Asked", name := "value", desc := "(I)I" } : Jvm.MethodName) ({ cls := "AnyKeyTown$Moment", name := "value", desc := "(I)I" } : Jvm.MethodName)) ∈ lw_all := lw_g (lw_at lw_m4 69 rfl) rfl
theorem q890 : (Jvm.Cond.instanceMethod ({ cls := "AnyKeyTown$Moment", name := "value", desc := "(I)I" } : Jvm.MethodName)) ∈ lw_all := lw_g (lw_at lw_m4 70 rfl) rfl
theorem q891 : (Jvm.Cond.code ({ cls := "AnyKeyTown$Moment", name := "value", desc := "(I)I" } : Jvm.MethodName) prog_8_method_4_code (2 : Nat) (Option.some Jvm.ClassFile.FieldType.int)) ∈ lw_all := lw_g (lw_at lw_m4 71 rfl) rfl
theorem q921 : (Jvm.Cond.instanceMethod ({ cls := "AnyKeyTown$Moment", name := "by", desc := "(IIII)LAnyKeyTown$Moment;" } : Jvm.MethodName)) ∈ lw_all := lw_g (lw_at lw_m4 101 rfl) rfl
theorem q922 : (Jvm.Cond.selects "AnyKeyTown$Moment" ({ cls := "AnyKeyTown$Moment", name := "by", desc := "(IIII)LAnyKeyTown$Moment;" } : Jvm.MethodName) ({ cls := "AnyKeyTown$Moment", name := "by", desc := "(IIII)LAnyKeyTown$Moment;" } : Jvm.MethodName)) ∈ lw_all := lw_g (lw_at lw_m4 102 rfl) rfl
theorem q923 : (Jvm.Cond.code ({ cls := "AnyKeyTown$Moment", name := "by", desc := "(IIII)LAnyKeyTown$Moment;" } : Jvm.MethodName) prog_8_method_3_code (5 : Nat) (Option.some (Jvm.ClassFile.FieldType.object "AnyKeyTown$Moment"))) ∈ lw_all := lw_g (lw_at lw_m4 103 rfl) rfl
theorem in_X3 : ∀ w ∈ wsX30, w ∈ lw_all := lw_in wsX30 [210, 190, 192, 194, 196, 198, 200, 202, 204, 206, 208] (by decide +kernel) (by decide +kernel)
/-! AnyKeyTown$Town -/
set_option maxRecDepth 100000
def RX4 : String := "AnyKeyTown$Town"
def TX4 : u_T := fun k => match k with
  | 0 => ("AnyKeyTown$Town", "favour", "[[I", true)
  | 1 => ("AnyKeyTown$Town", "nights", "[I", true)
  | 2 => ("AnyKeyTown$Town", "drawn", "[I", true)
  | 3 => ("AnyKeyTown$Town", "evening", "I", false)
  | 4 => ("AnyKeyTown$Town", "x", "I", false)
  | 5 => ("AnyKeyTown$Town", "letIn", "I", false)
  | 6 => ("AnyKeyTown$Town", "bed", "I", false)
  | 7 => ("AnyKeyTown$Town", "out", "I", false)
  | 8 => ("AnyKeyTown$Town", "willing", "I", false)
  | _ => ("AnyKeyTown$Town", "this$0", "LAnyKeyTown;", true)
def tyX4 : Nat → FieldType := fun k => match k with
  | 0 => .array (.array .int)
  | 1 => .array .int
  | 2 => .array .int
  | 3 => .int
  | 4 => .int
  | 5 => .int
  | 6 => .int
  | 7 => .int
  | 8 => .int
  | _ => .object "AnyKeyTown"
abbrev wsX40 : List Cond := u_ws RX4 TX4 10
theorem nmX4 : ∀ a, a < 10 → ∀ b, b < 10 → a ≠ b → (TX4 a).2.1 ≠ (TX4 b).2.1 := by decide +kernel
theorem tyX4_ok : ∀ k, k < 10 → parseFieldDescriptor (TX4 k).2.2.1 = some (tyX4 k) := by decide +kernel
abbrev cX4_init : ByteArray := prog_18_method_1_code
def yX4_init : MethodName := ⟨RX4, "<init>", "(LAnyKeyTown;)V"⟩
def dkwX4_init_1 : List UInt8 := [188, 10, 181, 0, 20, 42, 16, 16, 188, 10, 181, 0, 24, 42, 16, 254, 181, 0, 27, 177]
abbrev dktX4_init_1 : List UInt8 := dkwX4_init_1 ++ []
def dkwX4_init_0 : List UInt8 := [42, 43, 181, 0, 3, 42, 183, 0, 9, 42, 16, 16, 16, 16, 197, 0, 15, 2, 181, 0, 17, 42, 16, 16]
abbrev dktX4_init_0 : List UInt8 := dkwX4_init_0 ++ dktX4_init_1
theorem dksX4_init_0 : cX4_init.data.toList.drop 0 = dktX4_init_0 := by decide +kernel
theorem dksX4_init_1 : cX4_init.data.toList.drop 24 = dktX4_init_1 := dk_seg dksX4_init_0 24 rfl rfl
theorem dX4_init_0 : decode cX4_init 0 = .ok (.aload_n 0, 1) := dk_42 (dk_at dksX4_init_0 0 rfl rfl)
theorem dX4_init_1 : decode cX4_init 1 = .ok (.aload_n 1, 1) := dk_43 (dk_at dksX4_init_0 1 rfl rfl)
theorem dX4_init_2 : decode cX4_init 2 = .ok (.putfield 3, 3) := dk_181 0 3 (dk_at dksX4_init_0 2 rfl rfl)
theorem dX4_init_5 : decode cX4_init 5 = .ok (.aload_n 0, 1) := dk_42 (dk_at dksX4_init_0 5 rfl rfl)
theorem dX4_init_6 : decode cX4_init 6 = .ok (.invokespecial 9, 3) := dk_183 0 9 (dk_at dksX4_init_0 6 rfl rfl)
theorem dX4_init_9 : decode cX4_init 9 = .ok (.aload_n 0, 1) := dk_42 (dk_at dksX4_init_0 9 rfl rfl)
theorem dX4_init_10 : decode cX4_init 10 = .ok (.bipush 16, 2) := dk_16 16 (dk_at dksX4_init_0 10 rfl rfl)
theorem dX4_init_12 : decode cX4_init 12 = .ok (.bipush 16, 2) := dk_16 16 (dk_at dksX4_init_0 12 rfl rfl)
theorem dX4_init_14 : decode cX4_init 14 = .ok (.multianewarray 15 2, 4) := by decide +kernel
theorem dX4_init_18 : decode cX4_init 18 = .ok (.putfield 17, 3) := dk_181 0 17 (dk_at dksX4_init_0 18 rfl rfl)
theorem dX4_init_21 : decode cX4_init 21 = .ok (.aload_n 0, 1) := dk_42 (dk_at dksX4_init_0 21 rfl rfl)
theorem dX4_init_22 : decode cX4_init 22 = .ok (.bipush 16, 2) := dk_16 16 (dk_at dksX4_init_0 22 rfl rfl)
theorem dX4_init_24 : decode cX4_init 24 = .ok (.newarray .int, 2) := dk_188_10 (dk_at dksX4_init_1 0 rfl rfl)
theorem dX4_init_26 : decode cX4_init 26 = .ok (.putfield 20, 3) := dk_181 0 20 (dk_at dksX4_init_1 2 rfl rfl)
theorem dX4_init_29 : decode cX4_init 29 = .ok (.aload_n 0, 1) := dk_42 (dk_at dksX4_init_1 5 rfl rfl)
theorem dX4_init_30 : decode cX4_init 30 = .ok (.bipush 16, 2) := dk_16 16 (dk_at dksX4_init_1 6 rfl rfl)
theorem dX4_init_32 : decode cX4_init 32 = .ok (.newarray .int, 2) := dk_188_10 (dk_at dksX4_init_1 8 rfl rfl)
theorem dX4_init_34 : decode cX4_init 34 = .ok (.putfield 24, 3) := dk_181 0 24 (dk_at dksX4_init_1 10 rfl rfl)
theorem dX4_init_37 : decode cX4_init 37 = .ok (.aload_n 0, 1) := dk_42 (dk_at dksX4_init_1 13 rfl rfl)
theorem dX4_init_38 : decode cX4_init 38 = .ok (.bipush (-2), 2) := dk_16 254 (dk_at dksX4_init_1 14 rfl rfl)
theorem dX4_init_40 : decode cX4_init 40 = .ok (.putfield 27, 3) := dk_181 0 27 (dk_at dksX4_init_1 16 rfl rfl)
theorem dX4_init_43 : decode cX4_init 43 = .ok (.return_, 1) := dk_177 (dk_at dksX4_init_1 19 rfl rfl)
abbrev cX4_goes : ByteArray := prog_18_method_10_code
def yX4_goes : MethodName := ⟨RX4, "goes", "(I)LAnyKeyTown$Town;"⟩
def dkwX4_goes_1 : List UInt8 := [17, 39, 15, 162, 0, 13, 42, 182, 0, 129, 132, 2, 1, 167, 255, 234, 42, 176]
abbrev dktX4_goes_1 : List UInt8 := dkwX4_goes_1 ++ []
def dkwX4_goes_0 : List UInt8 := [42, 3, 181, 0, 123, 42, 16, 254, 181, 0, 27, 3, 61, 28, 27, 162, 0, 23, 42, 180, 0, 31]
abbrev dktX4_goes_0 : List UInt8 := dkwX4_goes_0 ++ dktX4_goes_1
theorem dksX4_goes_0 : cX4_goes.data.toList.drop 0 = dktX4_goes_0 := by decide +kernel
theorem dksX4_goes_1 : cX4_goes.data.toList.drop 22 = dktX4_goes_1 := dk_seg dksX4_goes_0 22 rfl rfl
theorem dX4_goes_0 : decode cX4_goes 0 = .ok (.aload_n 0, 1) := dk_42 (dk_at dksX4_goes_0 0 rfl rfl)
theorem dX4_goes_1 : decode cX4_goes 1 = .ok (.iconst 0, 1) := dk_3 (dk_at dksX4_goes_0 1 rfl rfl)
theorem dX4_goes_2 : decode cX4_goes 2 = .ok (.putfield 123, 3) := dk_181 0 123 (dk_at dksX4_goes_0 2 rfl rfl)
theorem dX4_goes_5 : decode cX4_goes 5 = .ok (.aload_n 0, 1) := dk_42 (dk_at dksX4_goes_0 5 rfl rfl)
theorem dX4_goes_6 : decode cX4_goes 6 = .ok (.bipush (-2), 2) := dk_16 254 (dk_at dksX4_goes_0 6 rfl rfl)
theorem dX4_goes_8 : decode cX4_goes 8 = .ok (.putfield 27, 3) := dk_181 0 27 (dk_at dksX4_goes_0 8 rfl rfl)
theorem dX4_goes_11 : decode cX4_goes 11 = .ok (.iconst 0, 1) := dk_3 (dk_at dksX4_goes_0 11 rfl rfl)
theorem dX4_goes_12 : decode cX4_goes 12 = .ok (.istore_n 2, 1) := dk_61 (dk_at dksX4_goes_0 12 rfl rfl)
theorem dX4_goes_13 : decode cX4_goes 13 = .ok (.iload_n 2, 1) := dk_28 (dk_at dksX4_goes_0 13 rfl rfl)
theorem dX4_goes_14 : decode cX4_goes 14 = .ok (.iload_n 1, 1) := dk_27 (dk_at dksX4_goes_0 14 rfl rfl)
theorem dX4_goes_15 : decode cX4_goes 15 = .ok (.if_icmp .ge 23, 3) := dk_162 0 23 (dk_at dksX4_goes_0 15 rfl rfl)
theorem dX4_goes_18 : decode cX4_goes 18 = .ok (.aload_n 0, 1) := dk_42 (dk_at dksX4_goes_0 18 rfl rfl)
theorem dX4_goes_19 : decode cX4_goes 19 = .ok (.getfield 31, 3) := dk_180 0 31 (dk_at dksX4_goes_0 19 rfl rfl)
theorem dX4_goes_22 : decode cX4_goes 22 = .ok (.sipush 9999, 3) := dk_17 39 15 (dk_at dksX4_goes_1 0 rfl rfl)
theorem dX4_goes_25 : decode cX4_goes 25 = .ok (.if_icmp .ge 13, 3) := dk_162 0 13 (dk_at dksX4_goes_1 3 rfl rfl)
theorem dX4_goes_28 : decode cX4_goes 28 = .ok (.aload_n 0, 1) := dk_42 (dk_at dksX4_goes_1 6 rfl rfl)
theorem dX4_goes_29 : decode cX4_goes 29 = .ok (.invokevirtual 129, 3) := dk_182 0 129 (dk_at dksX4_goes_1 7 rfl rfl)
theorem dX4_goes_32 : decode cX4_goes 32 = .ok (.iinc 2 1, 3) := dk_132 2 1 (dk_at dksX4_goes_1 10 rfl rfl)
theorem dX4_goes_35 : decode cX4_goes 35 = .ok (.goto (-22), 3) := dk_167 255 234 (dk_at dksX4_goes_1 13 rfl rfl)
theorem dX4_goes_38 : decode cX4_goes 38 = .ok (.aload_n 0, 1) := dk_42 (dk_at dksX4_goes_1 16 rfl rfl)
theorem dX4_goes_39 : decode cX4_goes 39 = .ok (.areturn, 1) := dk_176 (dk_at dksX4_goes_1 17 rfl rfl)
abbrev cX4_eveningGoes : ByteArray := prog_18_method_9_code
def yX4_eveningGoes : MethodName := ⟨RX4, "eveningGoes", "()V"⟩
def dkwX4_eveningGoes_11 : List UInt8 := [167, 255, 200, 42, 89, 180, 0, 31, 4, 96, 181, 0, 31, 177]
abbrev dktX4_eveningGoes_11 : List UInt8 := dkwX4_eveningGoes_11 ++ []
def dkwX4_eveningGoes_10 : List UInt8 := [180, 0, 20, 28, 17, 39, 15, 42, 180, 0, 20, 28, 46, 4, 96, 184, 0, 119, 79, 132, 2, 1]
abbrev dktX4_eveningGoes_10 : List UInt8 := dkwX4_eveningGoes_10 ++ dktX4_eveningGoes_11
def dkwX4_eveningGoes_9 : List UInt8 := [180, 0, 55, 42, 180, 0, 3, 180, 0, 37, 180, 0, 58, 126, 28, 184, 0, 73, 153, 0, 23, 42]
abbrev dktX4_eveningGoes_9 : List UInt8 := dkwX4_eveningGoes_9 ++ dktX4_eveningGoes_10
def dkwX4_eveningGoes_8 : List UInt8 := [16, 254, 167, 0, 4, 27, 181, 0, 27, 3, 61, 28, 16, 16, 162, 0, 56, 28, 27, 159, 0, 45, 42]
abbrev dktX4_eveningGoes_8 : List UInt8 := dkwX4_eveningGoes_8 ++ dktX4_eveningGoes_9
def dkwX4_eveningGoes_7 : List UInt8 := [4, 96, 181, 0, 123, 42, 182, 0, 116, 60, 167, 255, 188, 42, 182, 0, 126, 60, 42, 27, 2, 160, 0, 8]
abbrev dktX4_eveningGoes_7 : List UInt8 := dkwX4_eveningGoes_7 ++ dktX4_eveningGoes_8
def dkwX4_eveningGoes_6 : List UInt8 := [50, 28, 17, 39, 15, 42, 180, 0, 17, 29, 50, 28, 46, 4, 96, 184, 0, 119, 79, 42, 89, 180, 0, 123]
abbrev dktX4_eveningGoes_6 : List UInt8 := dkwX4_eveningGoes_6 ++ dktX4_eveningGoes_7
def dkwX4_eveningGoes_5 : List UInt8 := [27, 16, 16, 112, 62, 42, 89, 180, 0, 55, 4, 28, 120, 2, 130, 126, 181, 0, 55, 42, 180, 0, 17, 29]
abbrev dktX4_eveningGoes_5 : List UInt8 := dkwX4_eveningGoes_5 ++ dktX4_eveningGoes_6
def dkwX4_eveningGoes_4 : List UInt8 := [181, 0, 77, 132, 1, 1, 167, 255, 178, 42, 182, 0, 116, 60, 27, 2, 159, 0, 69, 27, 16, 16, 108, 61]
abbrev dktX4_eveningGoes_4 : List UInt8 := dkwX4_eveningGoes_4 ++ dktX4_eveningGoes_5
def dkwX4_eveningGoes_3 : List UInt8 := [180, 0, 24, 27, 46, 182, 0, 83, 182, 0, 110, 153, 0, 7, 3, 167, 0, 6, 4, 27, 120, 128]
abbrev dktX4_eveningGoes_3 : List UInt8 := dkwX4_eveningGoes_3 ++ dktX4_eveningGoes_4
def dkwX4_eveningGoes_2 : List UInt8 := [27, 42, 182, 0, 102, 79, 42, 89, 180, 0, 77, 42, 180, 0, 3, 180, 0, 106, 16, 120, 42, 27, 42]
abbrev dktX4_eveningGoes_2 : List UInt8 := dkwX4_eveningGoes_2 ++ dktX4_eveningGoes_3
def dkwX4_eveningGoes_1 : List UInt8 := [162, 0, 78, 42, 180, 0, 3, 180, 0, 37, 27, 182, 0, 41, 154, 0, 6, 167, 0, 55, 42, 180, 0, 24]
abbrev dktX4_eveningGoes_1 : List UInt8 := dkwX4_eveningGoes_1 ++ dktX4_eveningGoes_2
def dkwX4_eveningGoes_0 : List UInt8 := [42, 42, 180, 0, 3, 180, 0, 37, 180, 0, 99, 181, 0, 55, 42, 3, 181, 0, 77, 3, 60, 27, 16, 16]
abbrev dktX4_eveningGoes_0 : List UInt8 := dkwX4_eveningGoes_0 ++ dktX4_eveningGoes_1
theorem dksX4_eveningGoes_0 : cX4_eveningGoes.data.toList.drop 0 = dktX4_eveningGoes_0 := by decide +kernel
theorem dksX4_eveningGoes_1 : cX4_eveningGoes.data.toList.drop 24 = dktX4_eveningGoes_1 := dk_seg dksX4_eveningGoes_0 24 rfl rfl
theorem dksX4_eveningGoes_2 : cX4_eveningGoes.data.toList.drop 48 = dktX4_eveningGoes_2 := dk_seg dksX4_eveningGoes_1 24 rfl rfl
theorem dksX4_eveningGoes_3 : cX4_eveningGoes.data.toList.drop 71 = dktX4_eveningGoes_3 := dk_seg dksX4_eveningGoes_2 23 rfl rfl
theorem dksX4_eveningGoes_4 : cX4_eveningGoes.data.toList.drop 93 = dktX4_eveningGoes_4 := dk_seg dksX4_eveningGoes_3 22 rfl rfl
theorem dksX4_eveningGoes_5 : cX4_eveningGoes.data.toList.drop 117 = dktX4_eveningGoes_5 := dk_seg dksX4_eveningGoes_4 24 rfl rfl
theorem dksX4_eveningGoes_6 : cX4_eveningGoes.data.toList.drop 141 = dktX4_eveningGoes_6 := dk_seg dksX4_eveningGoes_5 24 rfl rfl
theorem dksX4_eveningGoes_7 : cX4_eveningGoes.data.toList.drop 165 = dktX4_eveningGoes_7 := dk_seg dksX4_eveningGoes_6 24 rfl rfl
theorem dksX4_eveningGoes_8 : cX4_eveningGoes.data.toList.drop 189 = dktX4_eveningGoes_8 := dk_seg dksX4_eveningGoes_7 24 rfl rfl
theorem dksX4_eveningGoes_9 : cX4_eveningGoes.data.toList.drop 212 = dktX4_eveningGoes_9 := dk_seg dksX4_eveningGoes_8 23 rfl rfl
theorem dksX4_eveningGoes_10 : cX4_eveningGoes.data.toList.drop 234 = dktX4_eveningGoes_10 := dk_seg dksX4_eveningGoes_9 22 rfl rfl
theorem dksX4_eveningGoes_11 : cX4_eveningGoes.data.toList.drop 256 = dktX4_eveningGoes_11 := dk_seg dksX4_eveningGoes_10 22 rfl rfl
theorem dX4_eveningGoes_0 : decode cX4_eveningGoes 0 = .ok (.aload_n 0, 1) := dk_42 (dk_at dksX4_eveningGoes_0 0 rfl rfl)
theorem dX4_eveningGoes_1 : decode cX4_eveningGoes 1 = .ok (.aload_n 0, 1) := dk_42 (dk_at dksX4_eveningGoes_0 1 rfl rfl)
theorem dX4_eveningGoes_2 : decode cX4_eveningGoes 2 = .ok (.getfield 3, 3) := dk_180 0 3 (dk_at dksX4_eveningGoes_0 2 rfl rfl)
theorem dX4_eveningGoes_5 : decode cX4_eveningGoes 5 = .ok (.getfield 37, 3) := dk_180 0 37 (dk_at dksX4_eveningGoes_0 5 rfl rfl)
theorem dX4_eveningGoes_8 : decode cX4_eveningGoes 8 = .ok (.getfield 99, 3) := dk_180 0 99 (dk_at dksX4_eveningGoes_0 8 rfl rfl)
theorem dX4_eveningGoes_11 : decode cX4_eveningGoes 11 = .ok (.putfield 55, 3) := dk_181 0 55 (dk_at dksX4_eveningGoes_0 11 rfl rfl)
theorem dX4_eveningGoes_14 : decode cX4_eveningGoes 14 = .ok (.aload_n 0, 1) := dk_42 (dk_at dksX4_eveningGoes_0 14 rfl rfl)
theorem dX4_eveningGoes_15 : decode cX4_eveningGoes 15 = .ok (.iconst 0, 1) := dk_3 (dk_at dksX4_eveningGoes_0 15 rfl rfl)
theorem dX4_eveningGoes_16 : decode cX4_eveningGoes 16 = .ok (.putfield 77, 3) := dk_181 0 77 (dk_at dksX4_eveningGoes_0 16 rfl rfl)
theorem dX4_eveningGoes_19 : decode cX4_eveningGoes 19 = .ok (.iconst 0, 1) := dk_3 (dk_at dksX4_eveningGoes_0 19 rfl rfl)
theorem dX4_eveningGoes_20 : decode cX4_eveningGoes 20 = .ok (.istore_n 1, 1) := dk_60 (dk_at dksX4_eveningGoes_0 20 rfl rfl)
theorem dX4_eveningGoes_21 : decode cX4_eveningGoes 21 = .ok (.iload_n 1, 1) := dk_27 (dk_at dksX4_eveningGoes_0 21 rfl rfl)
theorem dX4_eveningGoes_22 : decode cX4_eveningGoes 22 = .ok (.bipush 16, 2) := dk_16 16 (dk_at dksX4_eveningGoes_0 22 rfl rfl)
theorem dX4_eveningGoes_24 : decode cX4_eveningGoes 24 = .ok (.if_icmp .ge 78, 3) := dk_162 0 78 (dk_at dksX4_eveningGoes_1 0 rfl rfl)
theorem dX4_eveningGoes_27 : decode cX4_eveningGoes 27 = .ok (.aload_n 0, 1) := dk_42 (dk_at dksX4_eveningGoes_1 3 rfl rfl)
theorem dX4_eveningGoes_28 : decode cX4_eveningGoes 28 = .ok (.getfield 3, 3) := dk_180 0 3 (dk_at dksX4_eveningGoes_1 4 rfl rfl)
theorem dX4_eveningGoes_31 : decode cX4_eveningGoes 31 = .ok (.getfield 37, 3) := dk_180 0 37 (dk_at dksX4_eveningGoes_1 7 rfl rfl)
theorem dX4_eveningGoes_34 : decode cX4_eveningGoes 34 = .ok (.iload_n 1, 1) := dk_27 (dk_at dksX4_eveningGoes_1 10 rfl rfl)
theorem dX4_eveningGoes_35 : decode cX4_eveningGoes 35 = .ok (.invokevirtual 41, 3) := dk_182 0 41 (dk_at dksX4_eveningGoes_1 11 rfl rfl)
theorem dX4_eveningGoes_38 : decode cX4_eveningGoes 38 = .ok (.ifCond .ne 6, 3) := dk_154 0 6 (dk_at dksX4_eveningGoes_1 14 rfl rfl)
theorem dX4_eveningGoes_41 : decode cX4_eveningGoes 41 = .ok (.goto 55, 3) := dk_167 0 55 (dk_at dksX4_eveningGoes_1 17 rfl rfl)
theorem dX4_eveningGoes_44 : decode cX4_eveningGoes 44 = .ok (.aload_n 0, 1) := dk_42 (dk_at dksX4_eveningGoes_1 20 rfl rfl)
theorem dX4_eveningGoes_45 : decode cX4_eveningGoes 45 = .ok (.getfield 24, 3) := dk_180 0 24 (dk_at dksX4_eveningGoes_1 21 rfl rfl)
theorem dX4_eveningGoes_48 : decode cX4_eveningGoes 48 = .ok (.iload_n 1, 1) := dk_27 (dk_at dksX4_eveningGoes_2 0 rfl rfl)
theorem dX4_eveningGoes_49 : decode cX4_eveningGoes 49 = .ok (.aload_n 0, 1) := dk_42 (dk_at dksX4_eveningGoes_2 1 rfl rfl)
theorem dX4_eveningGoes_50 : decode cX4_eveningGoes 50 = .ok (.invokevirtual 102, 3) := dk_182 0 102 (dk_at dksX4_eveningGoes_2 2 rfl rfl)
theorem dX4_eveningGoes_53 : decode cX4_eveningGoes 53 = .ok (.iastore, 1) := dk_79 (dk_at dksX4_eveningGoes_2 5 rfl rfl)
theorem dX4_eveningGoes_54 : decode cX4_eveningGoes 54 = .ok (.aload_n 0, 1) := dk_42 (dk_at dksX4_eveningGoes_2 6 rfl rfl)
theorem dX4_eveningGoes_55 : decode cX4_eveningGoes 55 = .ok (.dup, 1) := dk_89 (dk_at dksX4_eveningGoes_2 7 rfl rfl)
theorem dX4_eveningGoes_56 : decode cX4_eveningGoes 56 = .ok (.getfield 77, 3) := dk_180 0 77 (dk_at dksX4_eveningGoes_2 8 rfl rfl)
theorem dX4_eveningGoes_59 : decode cX4_eveningGoes 59 = .ok (.aload_n 0, 1) := dk_42 (dk_at dksX4_eveningGoes_2 11 rfl rfl)
theorem dX4_eveningGoes_60 : decode cX4_eveningGoes 60 = .ok (.getfield 3, 3) := dk_180 0 3 (dk_at dksX4_eveningGoes_2 12 rfl rfl)
theorem dX4_eveningGoes_63 : decode cX4_eveningGoes 63 = .ok (.getfield 106, 3) := dk_180 0 106 (dk_at dksX4_eveningGoes_2 15 rfl rfl)
theorem dX4_eveningGoes_66 : decode cX4_eveningGoes 66 = .ok (.bipush 120, 2) := dk_16 120 (dk_at dksX4_eveningGoes_2 18 rfl rfl)
theorem dX4_eveningGoes_68 : decode cX4_eveningGoes 68 = .ok (.aload_n 0, 1) := dk_42 (dk_at dksX4_eveningGoes_2 20 rfl rfl)
theorem dX4_eveningGoes_69 : decode cX4_eveningGoes 69 = .ok (.iload_n 1, 1) := dk_27 (dk_at dksX4_eveningGoes_2 21 rfl rfl)
theorem dX4_eveningGoes_70 : decode cX4_eveningGoes 70 = .ok (.aload_n 0, 1) := dk_42 (dk_at dksX4_eveningGoes_2 22 rfl rfl)
theorem dX4_eveningGoes_71 : decode cX4_eveningGoes 71 = .ok (.getfield 24, 3) := dk_180 0 24 (dk_at dksX4_eveningGoes_3 0 rfl rfl)
theorem dX4_eveningGoes_74 : decode cX4_eveningGoes 74 = .ok (.iload_n 1, 1) := dk_27 (dk_at dksX4_eveningGoes_3 3 rfl rfl)
theorem dX4_eveningGoes_75 : decode cX4_eveningGoes 75 = .ok (.iaload, 1) := dk_46 (dk_at dksX4_eveningGoes_3 4 rfl rfl)
theorem dX4_eveningGoes_76 : decode cX4_eveningGoes 76 = .ok (.invokevirtual 83, 3) := dk_182 0 83 (dk_at dksX4_eveningGoes_3 5 rfl rfl)
theorem dX4_eveningGoes_79 : decode cX4_eveningGoes 79 = .ok (.invokevirtual 110, 3) := dk_182 0 110 (dk_at dksX4_eveningGoes_3 8 rfl rfl)
theorem dX4_eveningGoes_82 : decode cX4_eveningGoes 82 = .ok (.ifCond .eq 7, 3) := dk_153 0 7 (dk_at dksX4_eveningGoes_3 11 rfl rfl)
theorem dX4_eveningGoes_85 : decode cX4_eveningGoes 85 = .ok (.iconst 0, 1) := dk_3 (dk_at dksX4_eveningGoes_3 14 rfl rfl)
theorem dX4_eveningGoes_86 : decode cX4_eveningGoes 86 = .ok (.goto 6, 3) := dk_167 0 6 (dk_at dksX4_eveningGoes_3 15 rfl rfl)
theorem dX4_eveningGoes_89 : decode cX4_eveningGoes 89 = .ok (.iconst 1, 1) := dk_4 (dk_at dksX4_eveningGoes_3 18 rfl rfl)
theorem dX4_eveningGoes_90 : decode cX4_eveningGoes 90 = .ok (.iload_n 1, 1) := dk_27 (dk_at dksX4_eveningGoes_3 19 rfl rfl)
theorem dX4_eveningGoes_91 : decode cX4_eveningGoes 91 = .ok (.ishl, 1) := dk_120 (dk_at dksX4_eveningGoes_3 20 rfl rfl)
theorem dX4_eveningGoes_92 : decode cX4_eveningGoes 92 = .ok (.ior, 1) := dk_128 (dk_at dksX4_eveningGoes_3 21 rfl rfl)
theorem dX4_eveningGoes_93 : decode cX4_eveningGoes 93 = .ok (.putfield 77, 3) := dk_181 0 77 (dk_at dksX4_eveningGoes_4 0 rfl rfl)
theorem dX4_eveningGoes_96 : decode cX4_eveningGoes 96 = .ok (.iinc 1 1, 3) := dk_132 1 1 (dk_at dksX4_eveningGoes_4 3 rfl rfl)
theorem dX4_eveningGoes_99 : decode cX4_eveningGoes 99 = .ok (.goto (-78), 3) := dk_167 255 178 (dk_at dksX4_eveningGoes_4 6 rfl rfl)
theorem dX4_eveningGoes_102 : decode cX4_eveningGoes 102 = .ok (.aload_n 0, 1) := dk_42 (dk_at dksX4_eveningGoes_4 9 rfl rfl)
theorem dX4_eveningGoes_103 : decode cX4_eveningGoes 103 = .ok (.invokevirtual 116, 3) := dk_182 0 116 (dk_at dksX4_eveningGoes_4 10 rfl rfl)
theorem dX4_eveningGoes_106 : decode cX4_eveningGoes 106 = .ok (.istore_n 1, 1) := dk_60 (dk_at dksX4_eveningGoes_4 13 rfl rfl)
theorem dX4_eveningGoes_107 : decode cX4_eveningGoes 107 = .ok (.iload_n 1, 1) := dk_27 (dk_at dksX4_eveningGoes_4 14 rfl rfl)
theorem dX4_eveningGoes_108 : decode cX4_eveningGoes 108 = .ok (.iconst (-1), 1) := dk_2 (dk_at dksX4_eveningGoes_4 15 rfl rfl)
theorem dX4_eveningGoes_109 : decode cX4_eveningGoes 109 = .ok (.if_icmp .eq 69, 3) := dk_159 0 69 (dk_at dksX4_eveningGoes_4 16 rfl rfl)
theorem dX4_eveningGoes_112 : decode cX4_eveningGoes 112 = .ok (.iload_n 1, 1) := dk_27 (dk_at dksX4_eveningGoes_4 19 rfl rfl)
theorem dX4_eveningGoes_113 : decode cX4_eveningGoes 113 = .ok (.bipush 16, 2) := dk_16 16 (dk_at dksX4_eveningGoes_4 20 rfl rfl)
theorem dX4_eveningGoes_115 : decode cX4_eveningGoes 115 = .ok (.idiv, 1) := dk_108 (dk_at dksX4_eveningGoes_4 22 rfl rfl)
theorem dX4_eveningGoes_116 : decode cX4_eveningGoes 116 = .ok (.istore_n 2, 1) := dk_61 (dk_at dksX4_eveningGoes_4 23 rfl rfl)
theorem dX4_eveningGoes_117 : decode cX4_eveningGoes 117 = .ok (.iload_n 1, 1) := dk_27 (dk_at dksX4_eveningGoes_5 0 rfl rfl)
theorem dX4_eveningGoes_118 : decode cX4_eveningGoes 118 = .ok (.bipush 16, 2) := dk_16 16 (dk_at dksX4_eveningGoes_5 1 rfl rfl)
theorem dX4_eveningGoes_120 : decode cX4_eveningGoes 120 = .ok (.irem, 1) := dk_112 (dk_at dksX4_eveningGoes_5 3 rfl rfl)
theorem dX4_eveningGoes_121 : decode cX4_eveningGoes 121 = .ok (.istore_n 3, 1) := dk_62 (dk_at dksX4_eveningGoes_5 4 rfl rfl)
theorem dX4_eveningGoes_122 : decode cX4_eveningGoes 122 = .ok (.aload_n 0, 1) := dk_42 (dk_at dksX4_eveningGoes_5 5 rfl rfl)
theorem dX4_eveningGoes_123 : decode cX4_eveningGoes 123 = .ok (.dup, 1) := dk_89 (dk_at dksX4_eveningGoes_5 6 rfl rfl)
theorem dX4_eveningGoes_124 : decode cX4_eveningGoes 124 = .ok (.getfield 55, 3) := dk_180 0 55 (dk_at dksX4_eveningGoes_5 7 rfl rfl)
theorem dX4_eveningGoes_127 : decode cX4_eveningGoes 127 = .ok (.iconst 1, 1) := dk_4 (dk_at dksX4_eveningGoes_5 10 rfl rfl)
theorem dX4_eveningGoes_128 : decode cX4_eveningGoes 128 = .ok (.iload_n 2, 1) := dk_28 (dk_at dksX4_eveningGoes_5 11 rfl rfl)
theorem dX4_eveningGoes_129 : decode cX4_eveningGoes 129 = .ok (.ishl, 1) := dk_120 (dk_at dksX4_eveningGoes_5 12 rfl rfl)
theorem dX4_eveningGoes_130 : decode cX4_eveningGoes 130 = .ok (.iconst (-1), 1) := dk_2 (dk_at dksX4_eveningGoes_5 13 rfl rfl)
theorem dX4_eveningGoes_131 : decode cX4_eveningGoes 131 = .ok (.ixor, 1) := dk_130 (dk_at dksX4_eveningGoes_5 14 rfl rfl)
theorem dX4_eveningGoes_132 : decode cX4_eveningGoes 132 = .ok (.iand, 1) := dk_126 (dk_at dksX4_eveningGoes_5 15 rfl rfl)
theorem dX4_eveningGoes_133 : decode cX4_eveningGoes 133 = .ok (.putfield 55, 3) := dk_181 0 55 (dk_at dksX4_eveningGoes_5 16 rfl rfl)
theorem dX4_eveningGoes_136 : decode cX4_eveningGoes 136 = .ok (.aload_n 0, 1) := dk_42 (dk_at dksX4_eveningGoes_5 19 rfl rfl)
theorem dX4_eveningGoes_137 : decode cX4_eveningGoes 137 = .ok (.getfield 17, 3) := dk_180 0 17 (dk_at dksX4_eveningGoes_5 20 rfl rfl)
theorem dX4_eveningGoes_140 : decode cX4_eveningGoes 140 = .ok (.iload_n 3, 1) := dk_29 (dk_at dksX4_eveningGoes_5 23 rfl rfl)
theorem dX4_eveningGoes_141 : decode cX4_eveningGoes 141 = .ok (.aaload, 1) := dk_50 (dk_at dksX4_eveningGoes_6 0 rfl rfl)
theorem dX4_eveningGoes_142 : decode cX4_eveningGoes 142 = .ok (.iload_n 2, 1) := dk_28 (dk_at dksX4_eveningGoes_6 1 rfl rfl)
theorem dX4_eveningGoes_143 : decode cX4_eveningGoes 143 = .ok (.sipush 9999, 3) := dk_17 39 15 (dk_at dksX4_eveningGoes_6 2 rfl rfl)
theorem dX4_eveningGoes_146 : decode cX4_eveningGoes 146 = .ok (.aload_n 0, 1) := dk_42 (dk_at dksX4_eveningGoes_6 5 rfl rfl)
theorem dX4_eveningGoes_147 : decode cX4_eveningGoes 147 = .ok (.getfield 17, 3) := dk_180 0 17 (dk_at dksX4_eveningGoes_6 6 rfl rfl)
theorem dX4_eveningGoes_150 : decode cX4_eveningGoes 150 = .ok (.iload_n 3, 1) := dk_29 (dk_at dksX4_eveningGoes_6 9 rfl rfl)
theorem dX4_eveningGoes_151 : decode cX4_eveningGoes 151 = .ok (.aaload, 1) := dk_50 (dk_at dksX4_eveningGoes_6 10 rfl rfl)
theorem dX4_eveningGoes_152 : decode cX4_eveningGoes 152 = .ok (.iload_n 2, 1) := dk_28 (dk_at dksX4_eveningGoes_6 11 rfl rfl)
theorem dX4_eveningGoes_153 : decode cX4_eveningGoes 153 = .ok (.iaload, 1) := dk_46 (dk_at dksX4_eveningGoes_6 12 rfl rfl)
theorem dX4_eveningGoes_154 : decode cX4_eveningGoes 154 = .ok (.iconst 1, 1) := dk_4 (dk_at dksX4_eveningGoes_6 13 rfl rfl)
theorem dX4_eveningGoes_155 : decode cX4_eveningGoes 155 = .ok (.iadd, 1) := dk_96 (dk_at dksX4_eveningGoes_6 14 rfl rfl)
theorem dX4_eveningGoes_156 : decode cX4_eveningGoes 156 = .ok (.invokestatic 119, 3) := dk_184 0 119 (dk_at dksX4_eveningGoes_6 15 rfl rfl)
theorem dX4_eveningGoes_159 : decode cX4_eveningGoes 159 = .ok (.iastore, 1) := dk_79 (dk_at dksX4_eveningGoes_6 18 rfl rfl)
theorem dX4_eveningGoes_160 : decode cX4_eveningGoes 160 = .ok (.aload_n 0, 1) := dk_42 (dk_at dksX4_eveningGoes_6 19 rfl rfl)
theorem dX4_eveningGoes_161 : decode cX4_eveningGoes 161 = .ok (.dup, 1) := dk_89 (dk_at dksX4_eveningGoes_6 20 rfl rfl)
theorem dX4_eveningGoes_162 : decode cX4_eveningGoes 162 = .ok (.getfield 123, 3) := dk_180 0 123 (dk_at dksX4_eveningGoes_6 21 rfl rfl)
theorem dX4_eveningGoes_165 : decode cX4_eveningGoes 165 = .ok (.iconst 1, 1) := dk_4 (dk_at dksX4_eveningGoes_7 0 rfl rfl)
theorem dX4_eveningGoes_166 : decode cX4_eveningGoes 166 = .ok (.iadd, 1) := dk_96 (dk_at dksX4_eveningGoes_7 1 rfl rfl)
theorem dX4_eveningGoes_167 : decode cX4_eveningGoes 167 = .ok (.putfield 123, 3) := dk_181 0 123 (dk_at dksX4_eveningGoes_7 2 rfl rfl)
theorem dX4_eveningGoes_170 : decode cX4_eveningGoes 170 = .ok (.aload_n 0, 1) := dk_42 (dk_at dksX4_eveningGoes_7 5 rfl rfl)
theorem dX4_eveningGoes_171 : decode cX4_eveningGoes 171 = .ok (.invokevirtual 116, 3) := dk_182 0 116 (dk_at dksX4_eveningGoes_7 6 rfl rfl)
theorem dX4_eveningGoes_174 : decode cX4_eveningGoes 174 = .ok (.istore_n 1, 1) := dk_60 (dk_at dksX4_eveningGoes_7 9 rfl rfl)
theorem dX4_eveningGoes_175 : decode cX4_eveningGoes 175 = .ok (.goto (-68), 3) := dk_167 255 188 (dk_at dksX4_eveningGoes_7 10 rfl rfl)
theorem dX4_eveningGoes_178 : decode cX4_eveningGoes 178 = .ok (.aload_n 0, 1) := dk_42 (dk_at dksX4_eveningGoes_7 13 rfl rfl)
theorem dX4_eveningGoes_179 : decode cX4_eveningGoes 179 = .ok (.invokevirtual 126, 3) := dk_182 0 126 (dk_at dksX4_eveningGoes_7 14 rfl rfl)
theorem dX4_eveningGoes_182 : decode cX4_eveningGoes 182 = .ok (.istore_n 1, 1) := dk_60 (dk_at dksX4_eveningGoes_7 17 rfl rfl)
theorem dX4_eveningGoes_183 : decode cX4_eveningGoes 183 = .ok (.aload_n 0, 1) := dk_42 (dk_at dksX4_eveningGoes_7 18 rfl rfl)
theorem dX4_eveningGoes_184 : decode cX4_eveningGoes 184 = .ok (.iload_n 1, 1) := dk_27 (dk_at dksX4_eveningGoes_7 19 rfl rfl)
theorem dX4_eveningGoes_185 : decode cX4_eveningGoes 185 = .ok (.iconst (-1), 1) := dk_2 (dk_at dksX4_eveningGoes_7 20 rfl rfl)
theorem dX4_eveningGoes_186 : decode cX4_eveningGoes 186 = .ok (.if_icmp .ne 8, 3) := dk_160 0 8 (dk_at dksX4_eveningGoes_7 21 rfl rfl)
theorem dX4_eveningGoes_189 : decode cX4_eveningGoes 189 = .ok (.bipush (-2), 2) := dk_16 254 (dk_at dksX4_eveningGoes_8 0 rfl rfl)
theorem dX4_eveningGoes_191 : decode cX4_eveningGoes 191 = .ok (.goto 4, 3) := dk_167 0 4 (dk_at dksX4_eveningGoes_8 2 rfl rfl)
theorem dX4_eveningGoes_194 : decode cX4_eveningGoes 194 = .ok (.iload_n 1, 1) := dk_27 (dk_at dksX4_eveningGoes_8 5 rfl rfl)
theorem dX4_eveningGoes_195 : decode cX4_eveningGoes 195 = .ok (.putfield 27, 3) := dk_181 0 27 (dk_at dksX4_eveningGoes_8 6 rfl rfl)
theorem dX4_eveningGoes_198 : decode cX4_eveningGoes 198 = .ok (.iconst 0, 1) := dk_3 (dk_at dksX4_eveningGoes_8 9 rfl rfl)
theorem dX4_eveningGoes_199 : decode cX4_eveningGoes 199 = .ok (.istore_n 2, 1) := dk_61 (dk_at dksX4_eveningGoes_8 10 rfl rfl)
theorem dX4_eveningGoes_200 : decode cX4_eveningGoes 200 = .ok (.iload_n 2, 1) := dk_28 (dk_at dksX4_eveningGoes_8 11 rfl rfl)
theorem dX4_eveningGoes_201 : decode cX4_eveningGoes 201 = .ok (.bipush 16, 2) := dk_16 16 (dk_at dksX4_eveningGoes_8 12 rfl rfl)
theorem dX4_eveningGoes_203 : decode cX4_eveningGoes 203 = .ok (.if_icmp .ge 56, 3) := dk_162 0 56 (dk_at dksX4_eveningGoes_8 14 rfl rfl)
theorem dX4_eveningGoes_206 : decode cX4_eveningGoes 206 = .ok (.iload_n 2, 1) := dk_28 (dk_at dksX4_eveningGoes_8 17 rfl rfl)
theorem dX4_eveningGoes_207 : decode cX4_eveningGoes 207 = .ok (.iload_n 1, 1) := dk_27 (dk_at dksX4_eveningGoes_8 18 rfl rfl)
theorem dX4_eveningGoes_208 : decode cX4_eveningGoes 208 = .ok (.if_icmp .eq 45, 3) := dk_159 0 45 (dk_at dksX4_eveningGoes_8 19 rfl rfl)
theorem dX4_eveningGoes_211 : decode cX4_eveningGoes 211 = .ok (.aload_n 0, 1) := dk_42 (dk_at dksX4_eveningGoes_8 22 rfl rfl)
theorem dX4_eveningGoes_212 : decode cX4_eveningGoes 212 = .ok (.getfield 55, 3) := dk_180 0 55 (dk_at dksX4_eveningGoes_9 0 rfl rfl)
theorem dX4_eveningGoes_215 : decode cX4_eveningGoes 215 = .ok (.aload_n 0, 1) := dk_42 (dk_at dksX4_eveningGoes_9 3 rfl rfl)
theorem dX4_eveningGoes_216 : decode cX4_eveningGoes 216 = .ok (.getfield 3, 3) := dk_180 0 3 (dk_at dksX4_eveningGoes_9 4 rfl rfl)
theorem dX4_eveningGoes_219 : decode cX4_eveningGoes 219 = .ok (.getfield 37, 3) := dk_180 0 37 (dk_at dksX4_eveningGoes_9 7 rfl rfl)
theorem dX4_eveningGoes_222 : decode cX4_eveningGoes 222 = .ok (.getfield 58, 3) := dk_180 0 58 (dk_at dksX4_eveningGoes_9 10 rfl rfl)
theorem dX4_eveningGoes_225 : decode cX4_eveningGoes 225 = .ok (.iand, 1) := dk_126 (dk_at dksX4_eveningGoes_9 13 rfl rfl)
theorem dX4_eveningGoes_226 : decode cX4_eveningGoes 226 = .ok (.iload_n 2, 1) := dk_28 (dk_at dksX4_eveningGoes_9 14 rfl rfl)
theorem dX4_eveningGoes_227 : decode cX4_eveningGoes 227 = .ok (.invokestatic 73, 3) := dk_184 0 73 (dk_at dksX4_eveningGoes_9 15 rfl rfl)
theorem dX4_eveningGoes_230 : decode cX4_eveningGoes 230 = .ok (.ifCond .eq 23, 3) := dk_153 0 23 (dk_at dksX4_eveningGoes_9 18 rfl rfl)
theorem dX4_eveningGoes_233 : decode cX4_eveningGoes 233 = .ok (.aload_n 0, 1) := dk_42 (dk_at dksX4_eveningGoes_9 21 rfl rfl)
theorem dX4_eveningGoes_234 : decode cX4_eveningGoes 234 = .ok (.getfield 20, 3) := dk_180 0 20 (dk_at dksX4_eveningGoes_10 0 rfl rfl)
theorem dX4_eveningGoes_237 : decode cX4_eveningGoes 237 = .ok (.iload_n 2, 1) := dk_28 (dk_at dksX4_eveningGoes_10 3 rfl rfl)
theorem dX4_eveningGoes_238 : decode cX4_eveningGoes 238 = .ok (.sipush 9999, 3) := dk_17 39 15 (dk_at dksX4_eveningGoes_10 4 rfl rfl)
theorem dX4_eveningGoes_241 : decode cX4_eveningGoes 241 = .ok (.aload_n 0, 1) := dk_42 (dk_at dksX4_eveningGoes_10 7 rfl rfl)
theorem dX4_eveningGoes_242 : decode cX4_eveningGoes 242 = .ok (.getfield 20, 3) := dk_180 0 20 (dk_at dksX4_eveningGoes_10 8 rfl rfl)
theorem dX4_eveningGoes_245 : decode cX4_eveningGoes 245 = .ok (.iload_n 2, 1) := dk_28 (dk_at dksX4_eveningGoes_10 11 rfl rfl)
theorem dX4_eveningGoes_246 : decode cX4_eveningGoes 246 = .ok (.iaload, 1) := dk_46 (dk_at dksX4_eveningGoes_10 12 rfl rfl)
theorem dX4_eveningGoes_247 : decode cX4_eveningGoes 247 = .ok (.iconst 1, 1) := dk_4 (dk_at dksX4_eveningGoes_10 13 rfl rfl)
theorem dX4_eveningGoes_248 : decode cX4_eveningGoes 248 = .ok (.iadd, 1) := dk_96 (dk_at dksX4_eveningGoes_10 14 rfl rfl)
theorem dX4_eveningGoes_249 : decode cX4_eveningGoes 249 = .ok (.invokestatic 119, 3) := dk_184 0 119 (dk_at dksX4_eveningGoes_10 15 rfl rfl)
theorem dX4_eveningGoes_252 : decode cX4_eveningGoes 252 = .ok (.iastore, 1) := dk_79 (dk_at dksX4_eveningGoes_10 18 rfl rfl)
theorem dX4_eveningGoes_253 : decode cX4_eveningGoes 253 = .ok (.iinc 2 1, 3) := dk_132 2 1 (dk_at dksX4_eveningGoes_10 19 rfl rfl)
theorem dX4_eveningGoes_256 : decode cX4_eveningGoes 256 = .ok (.goto (-56), 3) := dk_167 255 200 (dk_at dksX4_eveningGoes_11 0 rfl rfl)
theorem dX4_eveningGoes_259 : decode cX4_eveningGoes 259 = .ok (.aload_n 0, 1) := dk_42 (dk_at dksX4_eveningGoes_11 3 rfl rfl)
theorem dX4_eveningGoes_260 : decode cX4_eveningGoes 260 = .ok (.dup, 1) := dk_89 (dk_at dksX4_eveningGoes_11 4 rfl rfl)
theorem dX4_eveningGoes_261 : decode cX4_eveningGoes 261 = .ok (.getfield 31, 3) := dk_180 0 31 (dk_at dksX4_eveningGoes_11 5 rfl rfl)
theorem dX4_eveningGoes_264 : decode cX4_eveningGoes 264 = .ok (.iconst 1, 1) := dk_4 (dk_at dksX4_eveningGoes_11 8 rfl rfl)
theorem dX4_eveningGoes_265 : decode cX4_eveningGoes 265 = .ok (.iadd, 1) := dk_96 (dk_at dksX4_eveningGoes_11 9 rfl rfl)
theorem dX4_eveningGoes_266 : decode cX4_eveningGoes 266 = .ok (.putfield 31, 3) := dk_181 0 31 (dk_at dksX4_eveningGoes_11 10 rfl rfl)
theorem dX4_eveningGoes_269 : decode cX4_eveningGoes 269 = .ok (.return_, 1) := dk_177 (dk_at dksX4_eveningGoes_11 13 rfl rfl)
abbrev cX4_draw : ByteArray := prog_18_method_5_code
def yX4_draw : MethodName := ⟨RX4, "draw", "()I"⟩
def dkwX4_draw_1 : List UInt8 := [16, 10, 112, 172]
abbrev dktX4_draw_1 : List UInt8 := dkwX4_draw_1 ++ []
def dkwX4_draw_0 : List UInt8 := [42, 17, 98, 85, 42, 180, 0, 34, 104, 17, 54, 25, 96, 18, 47, 112, 181, 0, 34, 42, 180, 0, 34]
abbrev dktX4_draw_0 : List UInt8 := dkwX4_draw_0 ++ dktX4_draw_1
theorem dksX4_draw_0 : cX4_draw.data.toList.drop 0 = dktX4_draw_0 := by decide +kernel
theorem dksX4_draw_1 : cX4_draw.data.toList.drop 23 = dktX4_draw_1 := dk_seg dksX4_draw_0 23 rfl rfl
theorem dX4_draw_0 : decode cX4_draw 0 = .ok (.aload_n 0, 1) := dk_42 (dk_at dksX4_draw_0 0 rfl rfl)
theorem dX4_draw_1 : decode cX4_draw 1 = .ok (.sipush 25173, 3) := dk_17 98 85 (dk_at dksX4_draw_0 1 rfl rfl)
theorem dX4_draw_4 : decode cX4_draw 4 = .ok (.aload_n 0, 1) := dk_42 (dk_at dksX4_draw_0 4 rfl rfl)
theorem dX4_draw_5 : decode cX4_draw 5 = .ok (.getfield 34, 3) := dk_180 0 34 (dk_at dksX4_draw_0 5 rfl rfl)
theorem dX4_draw_8 : decode cX4_draw 8 = .ok (.imul, 1) := dk_104 (dk_at dksX4_draw_0 8 rfl rfl)
theorem dX4_draw_9 : decode cX4_draw 9 = .ok (.sipush 13849, 3) := dk_17 54 25 (dk_at dksX4_draw_0 9 rfl rfl)
theorem dX4_draw_12 : decode cX4_draw 12 = .ok (.iadd, 1) := dk_96 (dk_at dksX4_draw_0 12 rfl rfl)
theorem dX4_draw_13 : decode cX4_draw 13 = .ok (.ldc 47, 2) := dk_18 47 (dk_at dksX4_draw_0 13 rfl rfl)
theorem dX4_draw_15 : decode cX4_draw 15 = .ok (.irem, 1) := dk_112 (dk_at dksX4_draw_0 15 rfl rfl)
theorem dX4_draw_16 : decode cX4_draw 16 = .ok (.putfield 34, 3) := dk_181 0 34 (dk_at dksX4_draw_0 16 rfl rfl)
theorem dX4_draw_19 : decode cX4_draw 19 = .ok (.aload_n 0, 1) := dk_42 (dk_at dksX4_draw_0 19 rfl rfl)
theorem dX4_draw_20 : decode cX4_draw 20 = .ok (.getfield 34, 3) := dk_180 0 34 (dk_at dksX4_draw_0 20 rfl rfl)
theorem dX4_draw_23 : decode cX4_draw 23 = .ok (.bipush 10, 2) := dk_16 10 (dk_at dksX4_draw_1 0 rfl rfl)
theorem dX4_draw_25 : decode cX4_draw 25 = .ok (.irem, 1) := dk_112 (dk_at dksX4_draw_1 2 rfl rfl)
theorem dX4_draw_26 : decode cX4_draw 26 = .ok (.ireturn, 1) := dk_172 (dk_at dksX4_draw_1 3 rfl rfl)
abbrev cX4_asked : ByteArray := prog_18_method_6_code
def yX4_asked : MethodName := ⟨RX4, "asked", "(II)LAnyKeyTown$Moment;"⟩
def dkwX4_asked_2 : List UInt8 := [28, 182, 0, 67, 176]
abbrev dktX4_asked_2 : List UInt8 := dkwX4_asked_2 ++ []
def dkwX4_asked_1 : List UInt8 := [27, 46, 42, 180, 0, 55, 42, 180, 0, 3, 180, 0, 37, 180, 0, 58, 126, 184, 0, 61, 42, 180, 0, 31]
abbrev dktX4_asked_1 : List UInt8 := dkwX4_asked_1 ++ dktX4_asked_2
def dkwX4_asked_0 : List UInt8 := [42, 180, 0, 3, 180, 0, 48, 27, 42, 180, 0, 3, 180, 0, 37, 180, 0, 52, 27, 46, 42, 180, 0, 20]
abbrev dktX4_asked_0 : List UInt8 := dkwX4_asked_0 ++ dktX4_asked_1
theorem dksX4_asked_0 : cX4_asked.data.toList.drop 0 = dktX4_asked_0 := by decide +kernel
theorem dksX4_asked_1 : cX4_asked.data.toList.drop 24 = dktX4_asked_1 := dk_seg dksX4_asked_0 24 rfl rfl
theorem dksX4_asked_2 : cX4_asked.data.toList.drop 48 = dktX4_asked_2 := dk_seg dksX4_asked_1 24 rfl rfl
theorem dX4_asked_0 : decode cX4_asked 0 = .ok (.aload_n 0, 1) := dk_42 (dk_at dksX4_asked_0 0 rfl rfl)
theorem dX4_asked_1 : decode cX4_asked 1 = .ok (.getfield 3, 3) := dk_180 0 3 (dk_at dksX4_asked_0 1 rfl rfl)
theorem dX4_asked_4 : decode cX4_asked 4 = .ok (.getfield 48, 3) := dk_180 0 48 (dk_at dksX4_asked_0 4 rfl rfl)
theorem dX4_asked_7 : decode cX4_asked 7 = .ok (.iload_n 1, 1) := dk_27 (dk_at dksX4_asked_0 7 rfl rfl)
theorem dX4_asked_8 : decode cX4_asked 8 = .ok (.aload_n 0, 1) := dk_42 (dk_at dksX4_asked_0 8 rfl rfl)
theorem dX4_asked_9 : decode cX4_asked 9 = .ok (.getfield 3, 3) := dk_180 0 3 (dk_at dksX4_asked_0 9 rfl rfl)
theorem dX4_asked_12 : decode cX4_asked 12 = .ok (.getfield 37, 3) := dk_180 0 37 (dk_at dksX4_asked_0 12 rfl rfl)
theorem dX4_asked_15 : decode cX4_asked 15 = .ok (.getfield 52, 3) := dk_180 0 52 (dk_at dksX4_asked_0 15 rfl rfl)
theorem dX4_asked_18 : decode cX4_asked 18 = .ok (.iload_n 1, 1) := dk_27 (dk_at dksX4_asked_0 18 rfl rfl)
theorem dX4_asked_19 : decode cX4_asked 19 = .ok (.iaload, 1) := dk_46 (dk_at dksX4_asked_0 19 rfl rfl)
theorem dX4_asked_20 : decode cX4_asked 20 = .ok (.aload_n 0, 1) := dk_42 (dk_at dksX4_asked_0 20 rfl rfl)
theorem dX4_asked_21 : decode cX4_asked 21 = .ok (.getfield 20, 3) := dk_180 0 20 (dk_at dksX4_asked_0 21 rfl rfl)
theorem dX4_asked_24 : decode cX4_asked 24 = .ok (.iload_n 1, 1) := dk_27 (dk_at dksX4_asked_1 0 rfl rfl)
theorem dX4_asked_25 : decode cX4_asked 25 = .ok (.iaload, 1) := dk_46 (dk_at dksX4_asked_1 1 rfl rfl)
theorem dX4_asked_26 : decode cX4_asked 26 = .ok (.aload_n 0, 1) := dk_42 (dk_at dksX4_asked_1 2 rfl rfl)
theorem dX4_asked_27 : decode cX4_asked 27 = .ok (.getfield 55, 3) := dk_180 0 55 (dk_at dksX4_asked_1 3 rfl rfl)
theorem dX4_asked_30 : decode cX4_asked 30 = .ok (.aload_n 0, 1) := dk_42 (dk_at dksX4_asked_1 6 rfl rfl)
theorem dX4_asked_31 : decode cX4_asked 31 = .ok (.getfield 3, 3) := dk_180 0 3 (dk_at dksX4_asked_1 7 rfl rfl)
theorem dX4_asked_34 : decode cX4_asked 34 = .ok (.getfield 37, 3) := dk_180 0 37 (dk_at dksX4_asked_1 10 rfl rfl)
theorem dX4_asked_37 : decode cX4_asked 37 = .ok (.getfield 58, 3) := dk_180 0 58 (dk_at dksX4_asked_1 13 rfl rfl)
theorem dX4_asked_40 : decode cX4_asked 40 = .ok (.iand, 1) := dk_126 (dk_at dksX4_asked_1 16 rfl rfl)
theorem dX4_asked_41 : decode cX4_asked 41 = .ok (.invokestatic 61, 3) := dk_184 0 61 (dk_at dksX4_asked_1 17 rfl rfl)
theorem dX4_asked_44 : decode cX4_asked 44 = .ok (.aload_n 0, 1) := dk_42 (dk_at dksX4_asked_1 20 rfl rfl)
theorem dX4_asked_45 : decode cX4_asked 45 = .ok (.getfield 31, 3) := dk_180 0 31 (dk_at dksX4_asked_1 21 rfl rfl)
theorem dX4_asked_48 : decode cX4_asked 48 = .ok (.iload_n 2, 1) := dk_28 (dk_at dksX4_asked_2 0 rfl rfl)
theorem dX4_asked_49 : decode cX4_asked 49 = .ok (.invokevirtual 67, 3) := dk_182 0 67 (dk_at dksX4_asked_2 1 rfl rfl)
theorem dX4_asked_52 : decode cX4_asked 52 = .ok (.areturn, 1) := dk_176 (dk_at dksX4_asked_2 4 rfl rfl)
abbrev cX4_chosen : ByteArray := prog_18_method_7_code
def yX4_chosen : MethodName := ⟨RX4, "chosen", "()I"⟩
def dkwX4_chosen_8 : List UInt8 := [167, 255, 77, 27, 172]
abbrev dktX4_chosen_8 : List UInt8 := dkwX4_chosen_8 ++ []
def dkwX4_chosen_7 : List UInt8 := [167, 0, 14, 16, 16, 29, 104, 21, 4, 96, 60, 21, 6, 61, 132, 4, 1, 167, 255, 117, 132, 3, 1]
abbrev dktX4_chosen_7 : List UInt8 := dkwX4_chosen_7 ++ dktX4_chosen_8
def dkwX4_chosen_6 : List UInt8 := [182, 0, 92, 58, 5, 42, 180, 0, 3, 16, 101, 182, 0, 96, 54, 6, 21, 6, 28, 163, 0, 6]
abbrev dktX4_chosen_6 : List UInt8 := dkwX4_chosen_6 ++ dktX4_chosen_7
def dkwX4_chosen_5 : List UInt8 := [100, 184, 0, 87, 42, 180, 0, 17, 29, 50, 21, 4, 46, 42, 180, 0, 17, 21, 4, 50, 29, 46]
abbrev dktX4_chosen_5 : List UInt8 := dkwX4_chosen_5 ++ dktX4_chosen_6
def dkwX4_chosen_4 : List UInt8 := [180, 0, 3, 180, 0, 37, 180, 0, 52, 29, 46, 42, 180, 0, 3, 180, 0, 37, 180, 0, 52, 21, 4, 46]
abbrev dktX4_chosen_4 : List UInt8 := dkwX4_chosen_4 ++ dktX4_chosen_5
def dkwX4_chosen_3 : List UInt8 := [184, 0, 73, 154, 0, 6, 167, 0, 100, 42, 29, 42, 180, 0, 24, 21, 4, 46, 182, 0, 83, 21, 4, 42]
abbrev dktX4_chosen_3 : List UInt8 := dkwX4_chosen_3 ++ dktX4_chosen_4
def dkwX4_chosen_2 : List UInt8 := [42, 180, 0, 55, 42, 180, 0, 77, 126, 42, 180, 0, 3, 180, 0, 37, 29, 182, 0, 80, 126, 21, 4]
abbrev dktX4_chosen_2 : List UInt8 := dkwX4_chosen_2 ++ dktX4_chosen_3
def dkwX4_chosen_1 : List UInt8 := [180, 0, 58, 126, 29, 184, 0, 73, 154, 0, 6, 167, 0, 148, 3, 54, 4, 21, 4, 16, 16, 162, 0, 138]
abbrev dktX4_chosen_1 : List UInt8 := dkwX4_chosen_1 ++ dktX4_chosen_2
def dkwX4_chosen_0 : List UInt8 := [2, 60, 3, 61, 3, 62, 29, 16, 16, 162, 0, 179, 42, 180, 0, 55, 42, 180, 0, 3, 180, 0, 37]
abbrev dktX4_chosen_0 : List UInt8 := dkwX4_chosen_0 ++ dktX4_chosen_1
theorem dksX4_chosen_0 : cX4_chosen.data.toList.drop 0 = dktX4_chosen_0 := by decide +kernel
theorem dksX4_chosen_1 : cX4_chosen.data.toList.drop 23 = dktX4_chosen_1 := dk_seg dksX4_chosen_0 23 rfl rfl
theorem dksX4_chosen_2 : cX4_chosen.data.toList.drop 47 = dktX4_chosen_2 := dk_seg dksX4_chosen_1 24 rfl rfl
theorem dksX4_chosen_3 : cX4_chosen.data.toList.drop 70 = dktX4_chosen_3 := dk_seg dksX4_chosen_2 23 rfl rfl
theorem dksX4_chosen_4 : cX4_chosen.data.toList.drop 94 = dktX4_chosen_4 := dk_seg dksX4_chosen_3 24 rfl rfl
theorem dksX4_chosen_5 : cX4_chosen.data.toList.drop 118 = dktX4_chosen_5 := dk_seg dksX4_chosen_4 24 rfl rfl
theorem dksX4_chosen_6 : cX4_chosen.data.toList.drop 140 = dktX4_chosen_6 := dk_seg dksX4_chosen_5 22 rfl rfl
theorem dksX4_chosen_7 : cX4_chosen.data.toList.drop 162 = dktX4_chosen_7 := dk_seg dksX4_chosen_6 22 rfl rfl
theorem dksX4_chosen_8 : cX4_chosen.data.toList.drop 185 = dktX4_chosen_8 := dk_seg dksX4_chosen_7 23 rfl rfl
theorem dX4_chosen_0 : decode cX4_chosen 0 = .ok (.iconst (-1), 1) := dk_2 (dk_at dksX4_chosen_0 0 rfl rfl)
theorem dX4_chosen_1 : decode cX4_chosen 1 = .ok (.istore_n 1, 1) := dk_60 (dk_at dksX4_chosen_0 1 rfl rfl)
theorem dX4_chosen_2 : decode cX4_chosen 2 = .ok (.iconst 0, 1) := dk_3 (dk_at dksX4_chosen_0 2 rfl rfl)
theorem dX4_chosen_3 : decode cX4_chosen 3 = .ok (.istore_n 2, 1) := dk_61 (dk_at dksX4_chosen_0 3 rfl rfl)
theorem dX4_chosen_4 : decode cX4_chosen 4 = .ok (.iconst 0, 1) := dk_3 (dk_at dksX4_chosen_0 4 rfl rfl)
theorem dX4_chosen_5 : decode cX4_chosen 5 = .ok (.istore_n 3, 1) := dk_62 (dk_at dksX4_chosen_0 5 rfl rfl)
theorem dX4_chosen_6 : decode cX4_chosen 6 = .ok (.iload_n 3, 1) := dk_29 (dk_at dksX4_chosen_0 6 rfl rfl)
theorem dX4_chosen_7 : decode cX4_chosen 7 = .ok (.bipush 16, 2) := dk_16 16 (dk_at dksX4_chosen_0 7 rfl rfl)
theorem dX4_chosen_9 : decode cX4_chosen 9 = .ok (.if_icmp .ge 179, 3) := dk_162 0 179 (dk_at dksX4_chosen_0 9 rfl rfl)
theorem dX4_chosen_12 : decode cX4_chosen 12 = .ok (.aload_n 0, 1) := dk_42 (dk_at dksX4_chosen_0 12 rfl rfl)
theorem dX4_chosen_13 : decode cX4_chosen 13 = .ok (.getfield 55, 3) := dk_180 0 55 (dk_at dksX4_chosen_0 13 rfl rfl)
theorem dX4_chosen_16 : decode cX4_chosen 16 = .ok (.aload_n 0, 1) := dk_42 (dk_at dksX4_chosen_0 16 rfl rfl)
theorem dX4_chosen_17 : decode cX4_chosen 17 = .ok (.getfield 3, 3) := dk_180 0 3 (dk_at dksX4_chosen_0 17 rfl rfl)
theorem dX4_chosen_20 : decode cX4_chosen 20 = .ok (.getfield 37, 3) := dk_180 0 37 (dk_at dksX4_chosen_0 20 rfl rfl)
theorem dX4_chosen_23 : decode cX4_chosen 23 = .ok (.getfield 58, 3) := dk_180 0 58 (dk_at dksX4_chosen_1 0 rfl rfl)
theorem dX4_chosen_26 : decode cX4_chosen 26 = .ok (.iand, 1) := dk_126 (dk_at dksX4_chosen_1 3 rfl rfl)
theorem dX4_chosen_27 : decode cX4_chosen 27 = .ok (.iload_n 3, 1) := dk_29 (dk_at dksX4_chosen_1 4 rfl rfl)
theorem dX4_chosen_28 : decode cX4_chosen 28 = .ok (.invokestatic 73, 3) := dk_184 0 73 (dk_at dksX4_chosen_1 5 rfl rfl)
theorem dX4_chosen_31 : decode cX4_chosen 31 = .ok (.ifCond .ne 6, 3) := dk_154 0 6 (dk_at dksX4_chosen_1 8 rfl rfl)
theorem dX4_chosen_34 : decode cX4_chosen 34 = .ok (.goto 148, 3) := dk_167 0 148 (dk_at dksX4_chosen_1 11 rfl rfl)
theorem dX4_chosen_37 : decode cX4_chosen 37 = .ok (.iconst 0, 1) := dk_3 (dk_at dksX4_chosen_1 14 rfl rfl)
theorem dX4_chosen_38 : decode cX4_chosen 38 = .ok (.istore 4, 2) := dk_54 4 (dk_at dksX4_chosen_1 15 rfl rfl)
theorem dX4_chosen_40 : decode cX4_chosen 40 = .ok (.iload 4, 2) := dk_21 4 (dk_at dksX4_chosen_1 17 rfl rfl)
theorem dX4_chosen_42 : decode cX4_chosen 42 = .ok (.bipush 16, 2) := dk_16 16 (dk_at dksX4_chosen_1 19 rfl rfl)
theorem dX4_chosen_44 : decode cX4_chosen 44 = .ok (.if_icmp .ge 138, 3) := dk_162 0 138 (dk_at dksX4_chosen_1 21 rfl rfl)
theorem dX4_chosen_47 : decode cX4_chosen 47 = .ok (.aload_n 0, 1) := dk_42 (dk_at dksX4_chosen_2 0 rfl rfl)
theorem dX4_chosen_48 : decode cX4_chosen 48 = .ok (.getfield 55, 3) := dk_180 0 55 (dk_at dksX4_chosen_2 1 rfl rfl)
theorem dX4_chosen_51 : decode cX4_chosen 51 = .ok (.aload_n 0, 1) := dk_42 (dk_at dksX4_chosen_2 4 rfl rfl)
theorem dX4_chosen_52 : decode cX4_chosen 52 = .ok (.getfield 77, 3) := dk_180 0 77 (dk_at dksX4_chosen_2 5 rfl rfl)
theorem dX4_chosen_55 : decode cX4_chosen 55 = .ok (.iand, 1) := dk_126 (dk_at dksX4_chosen_2 8 rfl rfl)
theorem dX4_chosen_56 : decode cX4_chosen 56 = .ok (.aload_n 0, 1) := dk_42 (dk_at dksX4_chosen_2 9 rfl rfl)
theorem dX4_chosen_57 : decode cX4_chosen 57 = .ok (.getfield 3, 3) := dk_180 0 3 (dk_at dksX4_chosen_2 10 rfl rfl)
theorem dX4_chosen_60 : decode cX4_chosen 60 = .ok (.getfield 37, 3) := dk_180 0 37 (dk_at dksX4_chosen_2 13 rfl rfl)
theorem dX4_chosen_63 : decode cX4_chosen 63 = .ok (.iload_n 3, 1) := dk_29 (dk_at dksX4_chosen_2 16 rfl rfl)
theorem dX4_chosen_64 : decode cX4_chosen 64 = .ok (.invokevirtual 80, 3) := dk_182 0 80 (dk_at dksX4_chosen_2 17 rfl rfl)
theorem dX4_chosen_67 : decode cX4_chosen 67 = .ok (.iand, 1) := dk_126 (dk_at dksX4_chosen_2 20 rfl rfl)
theorem dX4_chosen_68 : decode cX4_chosen 68 = .ok (.iload 4, 2) := dk_21 4 (dk_at dksX4_chosen_2 21 rfl rfl)
theorem dX4_chosen_70 : decode cX4_chosen 70 = .ok (.invokestatic 73, 3) := dk_184 0 73 (dk_at dksX4_chosen_3 0 rfl rfl)
theorem dX4_chosen_73 : decode cX4_chosen 73 = .ok (.ifCond .ne 6, 3) := dk_154 0 6 (dk_at dksX4_chosen_3 3 rfl rfl)
theorem dX4_chosen_76 : decode cX4_chosen 76 = .ok (.goto 100, 3) := dk_167 0 100 (dk_at dksX4_chosen_3 6 rfl rfl)
theorem dX4_chosen_79 : decode cX4_chosen 79 = .ok (.aload_n 0, 1) := dk_42 (dk_at dksX4_chosen_3 9 rfl rfl)
theorem dX4_chosen_80 : decode cX4_chosen 80 = .ok (.iload_n 3, 1) := dk_29 (dk_at dksX4_chosen_3 10 rfl rfl)
theorem dX4_chosen_81 : decode cX4_chosen 81 = .ok (.aload_n 0, 1) := dk_42 (dk_at dksX4_chosen_3 11 rfl rfl)
theorem dX4_chosen_82 : decode cX4_chosen 82 = .ok (.getfield 24, 3) := dk_180 0 24 (dk_at dksX4_chosen_3 12 rfl rfl)
theorem dX4_chosen_85 : decode cX4_chosen 85 = .ok (.iload 4, 2) := dk_21 4 (dk_at dksX4_chosen_3 15 rfl rfl)
theorem dX4_chosen_87 : decode cX4_chosen 87 = .ok (.iaload, 1) := dk_46 (dk_at dksX4_chosen_3 17 rfl rfl)
theorem dX4_chosen_88 : decode cX4_chosen 88 = .ok (.invokevirtual 83, 3) := dk_182 0 83 (dk_at dksX4_chosen_3 18 rfl rfl)
theorem dX4_chosen_91 : decode cX4_chosen 91 = .ok (.iload 4, 2) := dk_21 4 (dk_at dksX4_chosen_3 21 rfl rfl)
theorem dX4_chosen_93 : decode cX4_chosen 93 = .ok (.aload_n 0, 1) := dk_42 (dk_at dksX4_chosen_3 23 rfl rfl)
theorem dX4_chosen_94 : decode cX4_chosen 94 = .ok (.getfield 3, 3) := dk_180 0 3 (dk_at dksX4_chosen_4 0 rfl rfl)
theorem dX4_chosen_97 : decode cX4_chosen 97 = .ok (.getfield 37, 3) := dk_180 0 37 (dk_at dksX4_chosen_4 3 rfl rfl)
theorem dX4_chosen_100 : decode cX4_chosen 100 = .ok (.getfield 52, 3) := dk_180 0 52 (dk_at dksX4_chosen_4 6 rfl rfl)
theorem dX4_chosen_103 : decode cX4_chosen 103 = .ok (.iload_n 3, 1) := dk_29 (dk_at dksX4_chosen_4 9 rfl rfl)
theorem dX4_chosen_104 : decode cX4_chosen 104 = .ok (.iaload, 1) := dk_46 (dk_at dksX4_chosen_4 10 rfl rfl)
theorem dX4_chosen_105 : decode cX4_chosen 105 = .ok (.aload_n 0, 1) := dk_42 (dk_at dksX4_chosen_4 11 rfl rfl)
theorem dX4_chosen_106 : decode cX4_chosen 106 = .ok (.getfield 3, 3) := dk_180 0 3 (dk_at dksX4_chosen_4 12 rfl rfl)
theorem dX4_chosen_109 : decode cX4_chosen 109 = .ok (.getfield 37, 3) := dk_180 0 37 (dk_at dksX4_chosen_4 15 rfl rfl)
theorem dX4_chosen_112 : decode cX4_chosen 112 = .ok (.getfield 52, 3) := dk_180 0 52 (dk_at dksX4_chosen_4 18 rfl rfl)
theorem dX4_chosen_115 : decode cX4_chosen 115 = .ok (.iload 4, 2) := dk_21 4 (dk_at dksX4_chosen_4 21 rfl rfl)
theorem dX4_chosen_117 : decode cX4_chosen 117 = .ok (.iaload, 1) := dk_46 (dk_at dksX4_chosen_4 23 rfl rfl)
theorem dX4_chosen_118 : decode cX4_chosen 118 = .ok (.isub, 1) := dk_100 (dk_at dksX4_chosen_5 0 rfl rfl)
theorem dX4_chosen_119 : decode cX4_chosen 119 = .ok (.invokestatic 87, 3) := dk_184 0 87 (dk_at dksX4_chosen_5 1 rfl rfl)
theorem dX4_chosen_122 : decode cX4_chosen 122 = .ok (.aload_n 0, 1) := dk_42 (dk_at dksX4_chosen_5 4 rfl rfl)
theorem dX4_chosen_123 : decode cX4_chosen 123 = .ok (.getfield 17, 3) := dk_180 0 17 (dk_at dksX4_chosen_5 5 rfl rfl)
theorem dX4_chosen_126 : decode cX4_chosen 126 = .ok (.iload_n 3, 1) := dk_29 (dk_at dksX4_chosen_5 8 rfl rfl)
theorem dX4_chosen_127 : decode cX4_chosen 127 = .ok (.aaload, 1) := dk_50 (dk_at dksX4_chosen_5 9 rfl rfl)
theorem dX4_chosen_128 : decode cX4_chosen 128 = .ok (.iload 4, 2) := dk_21 4 (dk_at dksX4_chosen_5 10 rfl rfl)
theorem dX4_chosen_130 : decode cX4_chosen 130 = .ok (.iaload, 1) := dk_46 (dk_at dksX4_chosen_5 12 rfl rfl)
theorem dX4_chosen_131 : decode cX4_chosen 131 = .ok (.aload_n 0, 1) := dk_42 (dk_at dksX4_chosen_5 13 rfl rfl)
theorem dX4_chosen_132 : decode cX4_chosen 132 = .ok (.getfield 17, 3) := dk_180 0 17 (dk_at dksX4_chosen_5 14 rfl rfl)
theorem dX4_chosen_135 : decode cX4_chosen 135 = .ok (.iload 4, 2) := dk_21 4 (dk_at dksX4_chosen_5 17 rfl rfl)
theorem dX4_chosen_137 : decode cX4_chosen 137 = .ok (.aaload, 1) := dk_50 (dk_at dksX4_chosen_5 19 rfl rfl)
theorem dX4_chosen_138 : decode cX4_chosen 138 = .ok (.iload_n 3, 1) := dk_29 (dk_at dksX4_chosen_5 20 rfl rfl)
theorem dX4_chosen_139 : decode cX4_chosen 139 = .ok (.iaload, 1) := dk_46 (dk_at dksX4_chosen_5 21 rfl rfl)
theorem dX4_chosen_140 : decode cX4_chosen 140 = .ok (.invokevirtual 92, 3) := dk_182 0 92 (dk_at dksX4_chosen_6 0 rfl rfl)
theorem dX4_chosen_143 : decode cX4_chosen 143 = .ok (.astore 5, 2) := dk_58 5 (dk_at dksX4_chosen_6 3 rfl rfl)
theorem dX4_chosen_145 : decode cX4_chosen 145 = .ok (.aload_n 0, 1) := dk_42 (dk_at dksX4_chosen_6 5 rfl rfl)
theorem dX4_chosen_146 : decode cX4_chosen 146 = .ok (.getfield 3, 3) := dk_180 0 3 (dk_at dksX4_chosen_6 6 rfl rfl)
theorem dX4_chosen_149 : decode cX4_chosen 149 = .ok (.bipush 101, 2) := dk_16 101 (dk_at dksX4_chosen_6 9 rfl rfl)
theorem dX4_chosen_151 : decode cX4_chosen 151 = .ok (.invokevirtual 96, 3) := dk_182 0 96 (dk_at dksX4_chosen_6 11 rfl rfl)
theorem dX4_chosen_154 : decode cX4_chosen 154 = .ok (.istore 6, 2) := dk_54 6 (dk_at dksX4_chosen_6 14 rfl rfl)
theorem dX4_chosen_156 : decode cX4_chosen 156 = .ok (.iload 6, 2) := dk_21 6 (dk_at dksX4_chosen_6 16 rfl rfl)
theorem dX4_chosen_158 : decode cX4_chosen 158 = .ok (.iload_n 2, 1) := dk_28 (dk_at dksX4_chosen_6 18 rfl rfl)
theorem dX4_chosen_159 : decode cX4_chosen 159 = .ok (.if_icmp .gt 6, 3) := dk_163 0 6 (dk_at dksX4_chosen_6 19 rfl rfl)
theorem dX4_chosen_162 : decode cX4_chosen 162 = .ok (.goto 14, 3) := dk_167 0 14 (dk_at dksX4_chosen_7 0 rfl rfl)
theorem dX4_chosen_165 : decode cX4_chosen 165 = .ok (.bipush 16, 2) := dk_16 16 (dk_at dksX4_chosen_7 3 rfl rfl)
theorem dX4_chosen_167 : decode cX4_chosen 167 = .ok (.iload_n 3, 1) := dk_29 (dk_at dksX4_chosen_7 5 rfl rfl)
theorem dX4_chosen_168 : decode cX4_chosen 168 = .ok (.imul, 1) := dk_104 (dk_at dksX4_chosen_7 6 rfl rfl)
theorem dX4_chosen_169 : decode cX4_chosen 169 = .ok (.iload 4, 2) := dk_21 4 (dk_at dksX4_chosen_7 7 rfl rfl)
theorem dX4_chosen_171 : decode cX4_chosen 171 = .ok (.iadd, 1) := dk_96 (dk_at dksX4_chosen_7 9 rfl rfl)
theorem dX4_chosen_172 : decode cX4_chosen 172 = .ok (.istore_n 1, 1) := dk_60 (dk_at dksX4_chosen_7 10 rfl rfl)
theorem dX4_chosen_173 : decode cX4_chosen 173 = .ok (.iload 6, 2) := dk_21 6 (dk_at dksX4_chosen_7 11 rfl rfl)
theorem dX4_chosen_175 : decode cX4_chosen 175 = .ok (.istore_n 2, 1) := dk_61 (dk_at dksX4_chosen_7 13 rfl rfl)
theorem dX4_chosen_176 : decode cX4_chosen 176 = .ok (.iinc 4 1, 3) := dk_132 4 1 (dk_at dksX4_chosen_7 14 rfl rfl)
theorem dX4_chosen_179 : decode cX4_chosen 179 = .ok (.goto (-139), 3) := dk_167 255 117 (dk_at dksX4_chosen_7 17 rfl rfl)
theorem dX4_chosen_182 : decode cX4_chosen 182 = .ok (.iinc 3 1, 3) := dk_132 3 1 (dk_at dksX4_chosen_7 20 rfl rfl)
theorem dX4_chosen_185 : decode cX4_chosen 185 = .ok (.goto (-179), 3) := dk_167 255 77 (dk_at dksX4_chosen_8 0 rfl rfl)
theorem dX4_chosen_188 : decode cX4_chosen 188 = .ok (.iload_n 1, 1) := dk_27 (dk_at dksX4_chosen_8 3 rfl rfl)
theorem dX4_chosen_189 : decode cX4_chosen 189 = .ok (.ireturn, 1) := dk_172 (dk_at dksX4_chosen_8 4 rfl rfl)
abbrev cX4_beds : ByteArray := prog_18_method_8_code
def yX4_beds : MethodName := ⟨RX4, "beds", "()I"⟩
def dkwX4_beds_3 : List UInt8 := [167, 0, 8, 29, 60, 21, 5, 61, 132, 3, 1, 167, 255, 184, 27, 172]
abbrev dktX4_beds_3 : List UInt8 := dkwX4_beds_3 ++ []
def dkwX4_beds_2 : List UInt8 := [182, 0, 83, 58, 4, 42, 180, 0, 3, 16, 98, 182, 0, 96, 54, 5, 21, 5, 28, 163, 0, 6]
abbrev dktX4_beds_2 : List UInt8 := dkwX4_beds_2 ++ dktX4_beds_3
def dkwX4_beds_1 : List UInt8 := [180, 0, 58, 126, 29, 184, 0, 73, 154, 0, 6, 167, 0, 41, 42, 29, 42, 180, 0, 24, 29, 46]
abbrev dktX4_beds_1 : List UInt8 := dkwX4_beds_1 ++ dktX4_beds_2
def dkwX4_beds_0 : List UInt8 := [2, 60, 2, 61, 3, 62, 29, 16, 16, 162, 0, 72, 42, 180, 0, 55, 42, 180, 0, 3, 180, 0, 37]
abbrev dktX4_beds_0 : List UInt8 := dkwX4_beds_0 ++ dktX4_beds_1
theorem dksX4_beds_0 : cX4_beds.data.toList.drop 0 = dktX4_beds_0 := by decide +kernel
theorem dksX4_beds_1 : cX4_beds.data.toList.drop 23 = dktX4_beds_1 := dk_seg dksX4_beds_0 23 rfl rfl
theorem dksX4_beds_2 : cX4_beds.data.toList.drop 45 = dktX4_beds_2 := dk_seg dksX4_beds_1 22 rfl rfl
theorem dksX4_beds_3 : cX4_beds.data.toList.drop 67 = dktX4_beds_3 := dk_seg dksX4_beds_2 22 rfl rfl
theorem dX4_beds_0 : decode cX4_beds 0 = .ok (.iconst (-1), 1) := dk_2 (dk_at dksX4_beds_0 0 rfl rfl)
theorem dX4_beds_1 : decode cX4_beds 1 = .ok (.istore_n 1, 1) := dk_60 (dk_at dksX4_beds_0 1 rfl rfl)
theorem dX4_beds_2 : decode cX4_beds 2 = .ok (.iconst (-1), 1) := dk_2 (dk_at dksX4_beds_0 2 rfl rfl)
theorem dX4_beds_3 : decode cX4_beds 3 = .ok (.istore_n 2, 1) := dk_61 (dk_at dksX4_beds_0 3 rfl rfl)
theorem dX4_beds_4 : decode cX4_beds 4 = .ok (.iconst 0, 1) := dk_3 (dk_at dksX4_beds_0 4 rfl rfl)
theorem dX4_beds_5 : decode cX4_beds 5 = .ok (.istore_n 3, 1) := dk_62 (dk_at dksX4_beds_0 5 rfl rfl)
theorem dX4_beds_6 : decode cX4_beds 6 = .ok (.iload_n 3, 1) := dk_29 (dk_at dksX4_beds_0 6 rfl rfl)
theorem dX4_beds_7 : decode cX4_beds 7 = .ok (.bipush 16, 2) := dk_16 16 (dk_at dksX4_beds_0 7 rfl rfl)
theorem dX4_beds_9 : decode cX4_beds 9 = .ok (.if_icmp .ge 72, 3) := dk_162 0 72 (dk_at dksX4_beds_0 9 rfl rfl)
theorem dX4_beds_12 : decode cX4_beds 12 = .ok (.aload_n 0, 1) := dk_42 (dk_at dksX4_beds_0 12 rfl rfl)
theorem dX4_beds_13 : decode cX4_beds 13 = .ok (.getfield 55, 3) := dk_180 0 55 (dk_at dksX4_beds_0 13 rfl rfl)
theorem dX4_beds_16 : decode cX4_beds 16 = .ok (.aload_n 0, 1) := dk_42 (dk_at dksX4_beds_0 16 rfl rfl)
theorem dX4_beds_17 : decode cX4_beds 17 = .ok (.getfield 3, 3) := dk_180 0 3 (dk_at dksX4_beds_0 17 rfl rfl)
theorem dX4_beds_20 : decode cX4_beds 20 = .ok (.getfield 37, 3) := dk_180 0 37 (dk_at dksX4_beds_0 20 rfl rfl)
theorem dX4_beds_23 : decode cX4_beds 23 = .ok (.getfield 58, 3) := dk_180 0 58 (dk_at dksX4_beds_1 0 rfl rfl)
theorem dX4_beds_26 : decode cX4_beds 26 = .ok (.iand, 1) := dk_126 (dk_at dksX4_beds_1 3 rfl rfl)
theorem dX4_beds_27 : decode cX4_beds 27 = .ok (.iload_n 3, 1) := dk_29 (dk_at dksX4_beds_1 4 rfl rfl)
theorem dX4_beds_28 : decode cX4_beds 28 = .ok (.invokestatic 73, 3) := dk_184 0 73 (dk_at dksX4_beds_1 5 rfl rfl)
theorem dX4_beds_31 : decode cX4_beds 31 = .ok (.ifCond .ne 6, 3) := dk_154 0 6 (dk_at dksX4_beds_1 8 rfl rfl)
theorem dX4_beds_34 : decode cX4_beds 34 = .ok (.goto 41, 3) := dk_167 0 41 (dk_at dksX4_beds_1 11 rfl rfl)
theorem dX4_beds_37 : decode cX4_beds 37 = .ok (.aload_n 0, 1) := dk_42 (dk_at dksX4_beds_1 14 rfl rfl)
theorem dX4_beds_38 : decode cX4_beds 38 = .ok (.iload_n 3, 1) := dk_29 (dk_at dksX4_beds_1 15 rfl rfl)
theorem dX4_beds_39 : decode cX4_beds 39 = .ok (.aload_n 0, 1) := dk_42 (dk_at dksX4_beds_1 16 rfl rfl)
theorem dX4_beds_40 : decode cX4_beds 40 = .ok (.getfield 24, 3) := dk_180 0 24 (dk_at dksX4_beds_1 17 rfl rfl)
theorem dX4_beds_43 : decode cX4_beds 43 = .ok (.iload_n 3, 1) := dk_29 (dk_at dksX4_beds_1 20 rfl rfl)
theorem dX4_beds_44 : decode cX4_beds 44 = .ok (.iaload, 1) := dk_46 (dk_at dksX4_beds_1 21 rfl rfl)
theorem dX4_beds_45 : decode cX4_beds 45 = .ok (.invokevirtual 83, 3) := dk_182 0 83 (dk_at dksX4_beds_2 0 rfl rfl)
theorem dX4_beds_48 : decode cX4_beds 48 = .ok (.astore 4, 2) := dk_58 4 (dk_at dksX4_beds_2 3 rfl rfl)
theorem dX4_beds_50 : decode cX4_beds 50 = .ok (.aload_n 0, 1) := dk_42 (dk_at dksX4_beds_2 5 rfl rfl)
theorem dX4_beds_51 : decode cX4_beds 51 = .ok (.getfield 3, 3) := dk_180 0 3 (dk_at dksX4_beds_2 6 rfl rfl)
theorem dX4_beds_54 : decode cX4_beds 54 = .ok (.bipush 98, 2) := dk_16 98 (dk_at dksX4_beds_2 9 rfl rfl)
theorem dX4_beds_56 : decode cX4_beds 56 = .ok (.invokevirtual 96, 3) := dk_182 0 96 (dk_at dksX4_beds_2 11 rfl rfl)
theorem dX4_beds_59 : decode cX4_beds 59 = .ok (.istore 5, 2) := dk_54 5 (dk_at dksX4_beds_2 14 rfl rfl)
theorem dX4_beds_61 : decode cX4_beds 61 = .ok (.iload 5, 2) := dk_21 5 (dk_at dksX4_beds_2 16 rfl rfl)
theorem dX4_beds_63 : decode cX4_beds 63 = .ok (.iload_n 2, 1) := dk_28 (dk_at dksX4_beds_2 18 rfl rfl)
theorem dX4_beds_64 : decode cX4_beds 64 = .ok (.if_icmp .gt 6, 3) := dk_163 0 6 (dk_at dksX4_beds_2 19 rfl rfl)
theorem dX4_beds_67 : decode cX4_beds 67 = .ok (.goto 8, 3) := dk_167 0 8 (dk_at dksX4_beds_3 0 rfl rfl)
theorem dX4_beds_70 : decode cX4_beds 70 = .ok (.iload_n 3, 1) := dk_29 (dk_at dksX4_beds_3 3 rfl rfl)
theorem dX4_beds_71 : decode cX4_beds 71 = .ok (.istore_n 1, 1) := dk_60 (dk_at dksX4_beds_3 4 rfl rfl)
theorem dX4_beds_72 : decode cX4_beds 72 = .ok (.iload 5, 2) := dk_21 5 (dk_at dksX4_beds_3 5 rfl rfl)
theorem dX4_beds_74 : decode cX4_beds 74 = .ok (.istore_n 2, 1) := dk_61 (dk_at dksX4_beds_3 7 rfl rfl)
theorem dX4_beds_75 : decode cX4_beds 75 = .ok (.iinc 3 1, 3) := dk_132 3 1 (dk_at dksX4_beds_3 8 rfl rfl)
theorem dX4_beds_78 : decode cX4_beds 78 = .ok (.goto (-72), 3) := dk_167 255 184 (dk_at dksX4_beds_3 11 rfl rfl)
theorem dX4_beds_81 : decode cX4_beds 81 = .ok (.iload_n 1, 1) := dk_27 (dk_at dksX4_beds_3 14 rfl rfl)
theorem dX4_beds_82 : decode cX4_beds 82 = .ok (.ireturn, 1) := dk_172 (dk_at dksX4_beds_3 15 rfl rfl)
abbrev cX4_takes : ByteArray := prog_18_method_2_code
def yX4_takes : MethodName := ⟨RX4, "takes", "(LAnyKeyTown$Town;)LAnyKeyTown$Town;"⟩
def dkwX4_takes_3 : List UInt8 := [42, 176]
abbrev dktX4_takes_3 : List UInt8 := dkwX4_takes_3 ++ []
def dkwX4_takes_2 : List UInt8 := [46, 79, 132, 2, 1, 167, 255, 205, 42, 43, 180, 0, 31, 181, 0, 31, 42, 43, 180, 0, 34, 181, 0, 34]
abbrev dktX4_takes_2 : List UInt8 := dkwX4_takes_2 ++ dktX4_takes_3
def dkwX4_takes_1 : List UInt8 := [180, 0, 17, 28, 50, 29, 46, 79, 132, 3, 1, 167, 255, 231, 42, 180, 0, 20, 28, 43, 180, 0, 20, 28]
abbrev dktX4_takes_1 : List UInt8 := dkwX4_takes_1 ++ dktX4_takes_2
def dkwX4_takes_0 : List UInt8 := [3, 61, 28, 16, 16, 162, 0, 51, 3, 62, 29, 16, 16, 162, 0, 25, 42, 180, 0, 17, 28, 50, 29, 43]
abbrev dktX4_takes_0 : List UInt8 := dkwX4_takes_0 ++ dktX4_takes_1
theorem dksX4_takes_0 : cX4_takes.data.toList.drop 0 = dktX4_takes_0 := by decide +kernel
theorem dksX4_takes_1 : cX4_takes.data.toList.drop 24 = dktX4_takes_1 := dk_seg dksX4_takes_0 24 rfl rfl
theorem dksX4_takes_2 : cX4_takes.data.toList.drop 48 = dktX4_takes_2 := dk_seg dksX4_takes_1 24 rfl rfl
theorem dksX4_takes_3 : cX4_takes.data.toList.drop 72 = dktX4_takes_3 := dk_seg dksX4_takes_2 24 rfl rfl
theorem dX4_takes_0 : decode cX4_takes 0 = .ok (.iconst 0, 1) := dk_3 (dk_at dksX4_takes_0 0 rfl rfl)
theorem dX4_takes_1 : decode cX4_takes 1 = .ok (.istore_n 2, 1) := dk_61 (dk_at dksX4_takes_0 1 rfl rfl)
theorem dX4_takes_2 : decode cX4_takes 2 = .ok (.iload_n 2, 1) := dk_28 (dk_at dksX4_takes_0 2 rfl rfl)
theorem dX4_takes_3 : decode cX4_takes 3 = .ok (.bipush 16, 2) := dk_16 16 (dk_at dksX4_takes_0 3 rfl rfl)
theorem dX4_takes_5 : decode cX4_takes 5 = .ok (.if_icmp .ge 51, 3) := dk_162 0 51 (dk_at dksX4_takes_0 5 rfl rfl)
theorem dX4_takes_8 : decode cX4_takes 8 = .ok (.iconst 0, 1) := dk_3 (dk_at dksX4_takes_0 8 rfl rfl)
theorem dX4_takes_9 : decode cX4_takes 9 = .ok (.istore_n 3, 1) := dk_62 (dk_at dksX4_takes_0 9 rfl rfl)
theorem dX4_takes_10 : decode cX4_takes 10 = .ok (.iload_n 3, 1) := dk_29 (dk_at dksX4_takes_0 10 rfl rfl)
theorem dX4_takes_11 : decode cX4_takes 11 = .ok (.bipush 16, 2) := dk_16 16 (dk_at dksX4_takes_0 11 rfl rfl)
theorem dX4_takes_13 : decode cX4_takes 13 = .ok (.if_icmp .ge 25, 3) := dk_162 0 25 (dk_at dksX4_takes_0 13 rfl rfl)
theorem dX4_takes_16 : decode cX4_takes 16 = .ok (.aload_n 0, 1) := dk_42 (dk_at dksX4_takes_0 16 rfl rfl)
theorem dX4_takes_17 : decode cX4_takes 17 = .ok (.getfield 17, 3) := dk_180 0 17 (dk_at dksX4_takes_0 17 rfl rfl)
theorem dX4_takes_20 : decode cX4_takes 20 = .ok (.iload_n 2, 1) := dk_28 (dk_at dksX4_takes_0 20 rfl rfl)
theorem dX4_takes_21 : decode cX4_takes 21 = .ok (.aaload, 1) := dk_50 (dk_at dksX4_takes_0 21 rfl rfl)
theorem dX4_takes_22 : decode cX4_takes 22 = .ok (.iload_n 3, 1) := dk_29 (dk_at dksX4_takes_0 22 rfl rfl)
theorem dX4_takes_23 : decode cX4_takes 23 = .ok (.aload_n 1, 1) := dk_43 (dk_at dksX4_takes_0 23 rfl rfl)
theorem dX4_takes_24 : decode cX4_takes 24 = .ok (.getfield 17, 3) := dk_180 0 17 (dk_at dksX4_takes_1 0 rfl rfl)
theorem dX4_takes_27 : decode cX4_takes 27 = .ok (.iload_n 2, 1) := dk_28 (dk_at dksX4_takes_1 3 rfl rfl)
theorem dX4_takes_28 : decode cX4_takes 28 = .ok (.aaload, 1) := dk_50 (dk_at dksX4_takes_1 4 rfl rfl)
theorem dX4_takes_29 : decode cX4_takes 29 = .ok (.iload_n 3, 1) := dk_29 (dk_at dksX4_takes_1 5 rfl rfl)
theorem dX4_takes_30 : decode cX4_takes 30 = .ok (.iaload, 1) := dk_46 (dk_at dksX4_takes_1 6 rfl rfl)
theorem dX4_takes_31 : decode cX4_takes 31 = .ok (.iastore, 1) := dk_79 (dk_at dksX4_takes_1 7 rfl rfl)
theorem dX4_takes_32 : decode cX4_takes 32 = .ok (.iinc 3 1, 3) := dk_132 3 1 (dk_at dksX4_takes_1 8 rfl rfl)
theorem dX4_takes_35 : decode cX4_takes 35 = .ok (.goto (-25), 3) := dk_167 255 231 (dk_at dksX4_takes_1 11 rfl rfl)
theorem dX4_takes_38 : decode cX4_takes 38 = .ok (.aload_n 0, 1) := dk_42 (dk_at dksX4_takes_1 14 rfl rfl)
theorem dX4_takes_39 : decode cX4_takes 39 = .ok (.getfield 20, 3) := dk_180 0 20 (dk_at dksX4_takes_1 15 rfl rfl)
theorem dX4_takes_42 : decode cX4_takes 42 = .ok (.iload_n 2, 1) := dk_28 (dk_at dksX4_takes_1 18 rfl rfl)
theorem dX4_takes_43 : decode cX4_takes 43 = .ok (.aload_n 1, 1) := dk_43 (dk_at dksX4_takes_1 19 rfl rfl)
theorem dX4_takes_44 : decode cX4_takes 44 = .ok (.getfield 20, 3) := dk_180 0 20 (dk_at dksX4_takes_1 20 rfl rfl)
theorem dX4_takes_47 : decode cX4_takes 47 = .ok (.iload_n 2, 1) := dk_28 (dk_at dksX4_takes_1 23 rfl rfl)
theorem dX4_takes_48 : decode cX4_takes 48 = .ok (.iaload, 1) := dk_46 (dk_at dksX4_takes_2 0 rfl rfl)
theorem dX4_takes_49 : decode cX4_takes 49 = .ok (.iastore, 1) := dk_79 (dk_at dksX4_takes_2 1 rfl rfl)
theorem dX4_takes_50 : decode cX4_takes 50 = .ok (.iinc 2 1, 3) := dk_132 2 1 (dk_at dksX4_takes_2 2 rfl rfl)
theorem dX4_takes_53 : decode cX4_takes 53 = .ok (.goto (-51), 3) := dk_167 255 205 (dk_at dksX4_takes_2 5 rfl rfl)
theorem dX4_takes_56 : decode cX4_takes 56 = .ok (.aload_n 0, 1) := dk_42 (dk_at dksX4_takes_2 8 rfl rfl)
theorem dX4_takes_57 : decode cX4_takes 57 = .ok (.aload_n 1, 1) := dk_43 (dk_at dksX4_takes_2 9 rfl rfl)
theorem dX4_takes_58 : decode cX4_takes 58 = .ok (.getfield 31, 3) := dk_180 0 31 (dk_at dksX4_takes_2 10 rfl rfl)
theorem dX4_takes_61 : decode cX4_takes 61 = .ok (.putfield 31, 3) := dk_181 0 31 (dk_at dksX4_takes_2 13 rfl rfl)
theorem dX4_takes_64 : decode cX4_takes 64 = .ok (.aload_n 0, 1) := dk_42 (dk_at dksX4_takes_2 16 rfl rfl)
theorem dX4_takes_65 : decode cX4_takes 65 = .ok (.aload_n 1, 1) := dk_43 (dk_at dksX4_takes_2 17 rfl rfl)
theorem dX4_takes_66 : decode cX4_takes 66 = .ok (.getfield 34, 3) := dk_180 0 34 (dk_at dksX4_takes_2 18 rfl rfl)
theorem dX4_takes_69 : decode cX4_takes 69 = .ok (.putfield 34, 3) := dk_181 0 34 (dk_at dksX4_takes_2 21 rfl rfl)
theorem dX4_takes_72 : decode cX4_takes 72 = .ok (.aload_n 0, 1) := dk_42 (dk_at dksX4_takes_3 0 rfl rfl)
theorem dX4_takes_73 : decode cX4_takes 73 = .ok (.areturn, 1) := dk_176 (dk_at dksX4_takes_3 1 rfl rfl)
abbrev cX4_nightsOfAll : ByteArray := prog_18_method_4_code
def yX4_nightsOfAll : MethodName := ⟨RX4, "nightsOfAll", "()I"⟩
def dkwX4_nightsOfAll_1 : List UInt8 := [153, 0, 12, 42, 180, 0, 20, 28, 46, 167, 0, 4, 3, 96, 60, 132, 2, 1, 167, 255, 220, 27, 172]
abbrev dktX4_nightsOfAll_1 : List UInt8 := dkwX4_nightsOfAll_1 ++ []
def dkwX4_nightsOfAll_0 : List UInt8 := [3, 60, 3, 61, 28, 16, 16, 162, 0, 36, 27, 42, 180, 0, 3, 180, 0, 37, 28, 182, 0, 41]
abbrev dktX4_nightsOfAll_0 : List UInt8 := dkwX4_nightsOfAll_0 ++ dktX4_nightsOfAll_1
theorem dksX4_nightsOfAll_0 : cX4_nightsOfAll.data.toList.drop 0 = dktX4_nightsOfAll_0 := by decide +kernel
theorem dksX4_nightsOfAll_1 : cX4_nightsOfAll.data.toList.drop 22 = dktX4_nightsOfAll_1 := dk_seg dksX4_nightsOfAll_0 22 rfl rfl
theorem dX4_nightsOfAll_0 : decode cX4_nightsOfAll 0 = .ok (.iconst 0, 1) := dk_3 (dk_at dksX4_nightsOfAll_0 0 rfl rfl)
theorem dX4_nightsOfAll_1 : decode cX4_nightsOfAll 1 = .ok (.istore_n 1, 1) := dk_60 (dk_at dksX4_nightsOfAll_0 1 rfl rfl)
theorem dX4_nightsOfAll_2 : decode cX4_nightsOfAll 2 = .ok (.iconst 0, 1) := dk_3 (dk_at dksX4_nightsOfAll_0 2 rfl rfl)
theorem dX4_nightsOfAll_3 : decode cX4_nightsOfAll 3 = .ok (.istore_n 2, 1) := dk_61 (dk_at dksX4_nightsOfAll_0 3 rfl rfl)
theorem dX4_nightsOfAll_4 : decode cX4_nightsOfAll 4 = .ok (.iload_n 2, 1) := dk_28 (dk_at dksX4_nightsOfAll_0 4 rfl rfl)
theorem dX4_nightsOfAll_5 : decode cX4_nightsOfAll 5 = .ok (.bipush 16, 2) := dk_16 16 (dk_at dksX4_nightsOfAll_0 5 rfl rfl)
theorem dX4_nightsOfAll_7 : decode cX4_nightsOfAll 7 = .ok (.if_icmp .ge 36, 3) := dk_162 0 36 (dk_at dksX4_nightsOfAll_0 7 rfl rfl)
theorem dX4_nightsOfAll_10 : decode cX4_nightsOfAll 10 = .ok (.iload_n 1, 1) := dk_27 (dk_at dksX4_nightsOfAll_0 10 rfl rfl)
theorem dX4_nightsOfAll_11 : decode cX4_nightsOfAll 11 = .ok (.aload_n 0, 1) := dk_42 (dk_at dksX4_nightsOfAll_0 11 rfl rfl)
theorem dX4_nightsOfAll_12 : decode cX4_nightsOfAll 12 = .ok (.getfield 3, 3) := dk_180 0 3 (dk_at dksX4_nightsOfAll_0 12 rfl rfl)
theorem dX4_nightsOfAll_15 : decode cX4_nightsOfAll 15 = .ok (.getfield 37, 3) := dk_180 0 37 (dk_at dksX4_nightsOfAll_0 15 rfl rfl)
theorem dX4_nightsOfAll_18 : decode cX4_nightsOfAll 18 = .ok (.iload_n 2, 1) := dk_28 (dk_at dksX4_nightsOfAll_0 18 rfl rfl)
theorem dX4_nightsOfAll_19 : decode cX4_nightsOfAll 19 = .ok (.invokevirtual 41, 3) := dk_182 0 41 (dk_at dksX4_nightsOfAll_0 19 rfl rfl)
theorem dX4_nightsOfAll_22 : decode cX4_nightsOfAll 22 = .ok (.ifCond .eq 12, 3) := dk_153 0 12 (dk_at dksX4_nightsOfAll_1 0 rfl rfl)
theorem dX4_nightsOfAll_25 : decode cX4_nightsOfAll 25 = .ok (.aload_n 0, 1) := dk_42 (dk_at dksX4_nightsOfAll_1 3 rfl rfl)
theorem dX4_nightsOfAll_26 : decode cX4_nightsOfAll 26 = .ok (.getfield 20, 3) := dk_180 0 20 (dk_at dksX4_nightsOfAll_1 4 rfl rfl)
theorem dX4_nightsOfAll_29 : decode cX4_nightsOfAll 29 = .ok (.iload_n 2, 1) := dk_28 (dk_at dksX4_nightsOfAll_1 7 rfl rfl)
theorem dX4_nightsOfAll_30 : decode cX4_nightsOfAll 30 = .ok (.iaload, 1) := dk_46 (dk_at dksX4_nightsOfAll_1 8 rfl rfl)
theorem dX4_nightsOfAll_31 : decode cX4_nightsOfAll 31 = .ok (.goto 4, 3) := dk_167 0 4 (dk_at dksX4_nightsOfAll_1 9 rfl rfl)
theorem dX4_nightsOfAll_34 : decode cX4_nightsOfAll 34 = .ok (.iconst 0, 1) := dk_3 (dk_at dksX4_nightsOfAll_1 12 rfl rfl)
theorem dX4_nightsOfAll_35 : decode cX4_nightsOfAll 35 = .ok (.iadd, 1) := dk_96 (dk_at dksX4_nightsOfAll_1 13 rfl rfl)
theorem dX4_nightsOfAll_36 : decode cX4_nightsOfAll 36 = .ok (.istore_n 1, 1) := dk_60 (dk_at dksX4_nightsOfAll_1 14 rfl rfl)
theorem dX4_nightsOfAll_37 : decode cX4_nightsOfAll 37 = .ok (.iinc 2 1, 3) := dk_132 2 1 (dk_at dksX4_nightsOfAll_1 15 rfl rfl)
theorem dX4_nightsOfAll_40 : decode cX4_nightsOfAll 40 = .ok (.goto (-36), 3) := dk_167 255 220 (dk_at dksX4_nightsOfAll_1 18 rfl rfl)
theorem dX4_nightsOfAll_43 : decode cX4_nightsOfAll 43 = .ok (.iload_n 1, 1) := dk_27 (dk_at dksX4_nightsOfAll_1 21 rfl rfl)
theorem dX4_nightsOfAll_44 : decode cX4_nightsOfAll 44 = .ok (.ireturn, 1) := dk_172 (dk_at dksX4_nightsOfAll_1 22 rfl rfl)
abbrev cX4_favoursOf : ByteArray := prog_18_method_3_code
def yX4_favoursOf : MethodName := ⟨RX4, "favoursOf", "(IZ)I"⟩
def dkwX4_favoursOf_1 : List UInt8 := [27, 46, 167, 0, 12, 42, 180, 0, 17, 27, 50, 21, 4, 46, 96, 62, 132, 4, 1, 167, 255, 218, 29, 172]
abbrev dktX4_favoursOf_1 : List UInt8 := dkwX4_favoursOf_1 ++ []
def dkwX4_favoursOf_0 : List UInt8 := [3, 62, 3, 54, 4, 21, 4, 16, 16, 162, 0, 37, 29, 28, 153, 0, 15, 42, 180, 0, 17, 21, 4, 50]
abbrev dktX4_favoursOf_0 : List UInt8 := dkwX4_favoursOf_0 ++ dktX4_favoursOf_1
theorem dksX4_favoursOf_0 : cX4_favoursOf.data.toList.drop 0 = dktX4_favoursOf_0 := by decide +kernel
theorem dksX4_favoursOf_1 : cX4_favoursOf.data.toList.drop 24 = dktX4_favoursOf_1 := dk_seg dksX4_favoursOf_0 24 rfl rfl
theorem dX4_favoursOf_0 : decode cX4_favoursOf 0 = .ok (.iconst 0, 1) := dk_3 (dk_at dksX4_favoursOf_0 0 rfl rfl)
theorem dX4_favoursOf_1 : decode cX4_favoursOf 1 = .ok (.istore_n 3, 1) := dk_62 (dk_at dksX4_favoursOf_0 1 rfl rfl)
theorem dX4_favoursOf_2 : decode cX4_favoursOf 2 = .ok (.iconst 0, 1) := dk_3 (dk_at dksX4_favoursOf_0 2 rfl rfl)
theorem dX4_favoursOf_3 : decode cX4_favoursOf 3 = .ok (.istore 4, 2) := dk_54 4 (dk_at dksX4_favoursOf_0 3 rfl rfl)
theorem dX4_favoursOf_5 : decode cX4_favoursOf 5 = .ok (.iload 4, 2) := dk_21 4 (dk_at dksX4_favoursOf_0 5 rfl rfl)
theorem dX4_favoursOf_7 : decode cX4_favoursOf 7 = .ok (.bipush 16, 2) := dk_16 16 (dk_at dksX4_favoursOf_0 7 rfl rfl)
theorem dX4_favoursOf_9 : decode cX4_favoursOf 9 = .ok (.if_icmp .ge 37, 3) := dk_162 0 37 (dk_at dksX4_favoursOf_0 9 rfl rfl)
theorem dX4_favoursOf_12 : decode cX4_favoursOf 12 = .ok (.iload_n 3, 1) := dk_29 (dk_at dksX4_favoursOf_0 12 rfl rfl)
theorem dX4_favoursOf_13 : decode cX4_favoursOf 13 = .ok (.iload_n 2, 1) := dk_28 (dk_at dksX4_favoursOf_0 13 rfl rfl)
theorem dX4_favoursOf_14 : decode cX4_favoursOf 14 = .ok (.ifCond .eq 15, 3) := dk_153 0 15 (dk_at dksX4_favoursOf_0 14 rfl rfl)
theorem dX4_favoursOf_17 : decode cX4_favoursOf 17 = .ok (.aload_n 0, 1) := dk_42 (dk_at dksX4_favoursOf_0 17 rfl rfl)
theorem dX4_favoursOf_18 : decode cX4_favoursOf 18 = .ok (.getfield 17, 3) := dk_180 0 17 (dk_at dksX4_favoursOf_0 18 rfl rfl)
theorem dX4_favoursOf_21 : decode cX4_favoursOf 21 = .ok (.iload 4, 2) := dk_21 4 (dk_at dksX4_favoursOf_0 21 rfl rfl)
theorem dX4_favoursOf_23 : decode cX4_favoursOf 23 = .ok (.aaload, 1) := dk_50 (dk_at dksX4_favoursOf_0 23 rfl rfl)
theorem dX4_favoursOf_24 : decode cX4_favoursOf 24 = .ok (.iload_n 1, 1) := dk_27 (dk_at dksX4_favoursOf_1 0 rfl rfl)
theorem dX4_favoursOf_25 : decode cX4_favoursOf 25 = .ok (.iaload, 1) := dk_46 (dk_at dksX4_favoursOf_1 1 rfl rfl)
theorem dX4_favoursOf_26 : decode cX4_favoursOf 26 = .ok (.goto 12, 3) := dk_167 0 12 (dk_at dksX4_favoursOf_1 2 rfl rfl)
theorem dX4_favoursOf_29 : decode cX4_favoursOf 29 = .ok (.aload_n 0, 1) := dk_42 (dk_at dksX4_favoursOf_1 5 rfl rfl)
theorem dX4_favoursOf_30 : decode cX4_favoursOf 30 = .ok (.getfield 17, 3) := dk_180 0 17 (dk_at dksX4_favoursOf_1 6 rfl rfl)
theorem dX4_favoursOf_33 : decode cX4_favoursOf 33 = .ok (.iload_n 1, 1) := dk_27 (dk_at dksX4_favoursOf_1 9 rfl rfl)
theorem dX4_favoursOf_34 : decode cX4_favoursOf 34 = .ok (.aaload, 1) := dk_50 (dk_at dksX4_favoursOf_1 10 rfl rfl)
theorem dX4_favoursOf_35 : decode cX4_favoursOf 35 = .ok (.iload 4, 2) := dk_21 4 (dk_at dksX4_favoursOf_1 11 rfl rfl)
theorem dX4_favoursOf_37 : decode cX4_favoursOf 37 = .ok (.iaload, 1) := dk_46 (dk_at dksX4_favoursOf_1 13 rfl rfl)
theorem dX4_favoursOf_38 : decode cX4_favoursOf 38 = .ok (.iadd, 1) := dk_96 (dk_at dksX4_favoursOf_1 14 rfl rfl)
theorem dX4_favoursOf_39 : decode cX4_favoursOf 39 = .ok (.istore_n 3, 1) := dk_62 (dk_at dksX4_favoursOf_1 15 rfl rfl)
theorem dX4_favoursOf_40 : decode cX4_favoursOf 40 = .ok (.iinc 4 1, 3) := dk_132 4 1 (dk_at dksX4_favoursOf_1 16 rfl rfl)
theorem dX4_favoursOf_43 : decode cX4_favoursOf 43 = .ok (.goto (-38), 3) := dk_167 255 218 (dk_at dksX4_favoursOf_1 19 rfl rfl)
theorem dX4_favoursOf_46 : decode cX4_favoursOf 46 = .ok (.iload_n 3, 1) := dk_29 (dk_at dksX4_favoursOf_1 22 rfl rfl)
theorem dX4_favoursOf_47 : decode cX4_favoursOf 47 = .ok (.ireturn, 1) := dk_172 (dk_at dksX4_favoursOf_1 23 rfl rfl)
theorem q105 : (Jvm.Cond.initialized "AnyKeyTown$Town") ∈ lw_all := lw_g (lw_at lw_m1 5 rfl) rfl
theorem q144 : (Jvm.Cond.fieldLinkNest "AnyKeyTown$Town" (52 : Nat) "AnyKeyTown$Roll" "houses" "[I" "AnyKeyTown") ∈ lw_tbl := lw_at lw_m1 44 rfl
theorem q152 : (Jvm.Cond.fieldLinkNest "AnyKeyTown$Town" (99 : Nat) "AnyKeyTown$Roll" "told" "I" "AnyKeyTown") ∈ lw_tbl := lw_at lw_m1 52 rfl
theorem q156 : (Jvm.Cond.fieldLinkNest "AnyKeyTown$Town" (58 : Nat) "AnyKeyTown$Roll" "locked" "I" "AnyKeyTown") ∈ lw_tbl := lw_at lw_m1 56 rfl
theorem q214 : (Jvm.Cond.instantiable "AnyKeyTown$Town" (10 : Nat)) ∈ lw_all := lw_g (lw_at lw_m1 114 rfl) rfl
theorem q216 : (Jvm.Cond.instanceMethod ({ cls := "AnyKeyTown$Town", name := "<init>", desc := "(LAnyKeyTown;)V" } : Jvm.MethodName)) ∈ lw_all := lw_g (lw_at lw_m1 116 rfl) rfl
theorem q217 : (Jvm.Cond.code ({ cls := "AnyKeyTown$Town", name := "<init>", desc := "(LAnyKeyTown;)V" } : Jvm.MethodName) prog_18_method_1_code (2 : Nat) (Option.none : Option Jvm.ClassFile.FieldType)) ∈ lw_all := lw_g (lw_at lw_m1 117 rfl) rfl
theorem q218 : (Jvm.Cond.methodLink "AnyKeyTown$Town" (9 : Nat) ({ cls := "java/lang/Object", name := "<init>", desc := "()V" } : Jvm.MethodName)) ∈ lw_all := lw_g (lw_at lw_m1 118 rfl) rfl
theorem q219 : (Jvm.Cond.classLink "AnyKeyTown$Town" (15 : Nat) "[[I") ∈ lw_all := lw_g (lw_at lw_m1 119 rfl) rfl
theorem q221 : (Jvm.Cond.fieldLink "AnyKeyTown$Town" (17 : Nat) "AnyKeyTown$Town" "favour" "[[I") ∈ lw_all := lw_g (lw_at lw_m1 121 rfl) rfl
theorem q223 : (Jvm.Cond.fieldLink "AnyKeyTown$Town" (20 : Nat) "AnyKeyTown$Town" "nights" "[I") ∈ lw_all := lw_g (lw_at lw_m1 123 rfl) rfl
theorem q225 : (Jvm.Cond.fieldLink "AnyKeyTown$Town" (24 : Nat) "AnyKeyTown$Town" "drawn" "[I") ∈ lw_all := lw_g (lw_at lw_m1 125 rfl) rfl
theorem q226 : (Jvm.Cond.fieldLink "AnyKeyTown$Town" (31 : Nat) "AnyKeyTown$Town" "evening" "I") ∈ lw_all := lw_g (lw_at lw_m1 126 rfl) rfl
theorem q228 : (Jvm.Cond.fieldLink "AnyKeyTown$Town" (34 : Nat) "AnyKeyTown$Town" "x" "I") ∈ lw_all := lw_g (lw_at lw_m1 128 rfl) rfl
theorem q230 : (Jvm.Cond.fieldLink "AnyKeyTown$Town" (123 : Nat) "AnyKeyTown$Town" "letIn" "I") ∈ lw_all := lw_g (lw_at lw_m1 130 rfl) rfl
theorem q232 : (Jvm.Cond.fieldLink "AnyKeyTown$Town" (27 : Nat) "AnyKeyTown$Town" "bed" "I") ∈ lw_all := lw_g (lw_at lw_m1 132 rfl) rfl
theorem q234 : (Jvm.Cond.fieldLink "AnyKeyTown$Town" (55 : Nat) "AnyKeyTown$Town" "out" "I") ∈ lw_all := lw_g (lw_at lw_m1 134 rfl) rfl
theorem q235 : (Jvm.Cond.fieldLink "AnyKeyTown$Town" (77 : Nat) "AnyKeyTown$Town" "willing" "I") ∈ lw_all := lw_g (lw_at lw_m1 135 rfl) rfl
theorem q236 : (Jvm.Cond.fieldLink "AnyKeyTown$Town" (3 : Nat) "AnyKeyTown$Town" "this$0" "LAnyKeyTown;") ∈ lw_all := lw_g (lw_at lw_m1 136 rfl) rfl
theorem q237 : (Jvm.Cond.laysFinal "AnyKeyTown$Town" "AnyKeyTown$Town" "favour" "[[I") ∈ lw_all := lw_g (lw_at lw_m1 137 rfl) rfl
theorem q238 : (Jvm.Cond.soleField "AnyKeyTown$Town" "favour") ∈ lw_all := lw_g (lw_at lw_m1 138 rfl) rfl
theorem q239 : (Jvm.Cond.laysFinal "AnyKeyTown$Town" "AnyKeyTown$Town" "nights" "[I") ∈ lw_all := lw_g (lw_at lw_m1 139 rfl) rfl
theorem q240 : (Jvm.Cond.soleField "AnyKeyTown$Town" "nights") ∈ lw_all := lw_g (lw_at lw_m1 140 rfl) rfl
theorem q241 : (Jvm.Cond.laysFinal "AnyKeyTown$Town" "AnyKeyTown$Town" "drawn" "[I") ∈ lw_all := lw_g (lw_at lw_m1 141 rfl) rfl
theorem q242 : (Jvm.Cond.soleField "AnyKeyTown$Town" "drawn") ∈ lw_all := lw_g (lw_at lw_m1 142 rfl) rfl
theorem q243 : (Jvm.Cond.lays "AnyKeyTown$Town" "AnyKeyTown$Town" "evening" "I") ∈ lw_all := lw_g (lw_at lw_m1 143 rfl) rfl
theorem q244 : (Jvm.Cond.soleField "AnyKeyTown$Town" "evening") ∈ lw_all := lw_g (lw_at lw_m1 144 rfl) rfl
theorem q245 : (Jvm.Cond.lays "AnyKeyTown$Town" "AnyKeyTown$Town" "x" "I") ∈ lw_all := lw_g (lw_at lw_m1 145 rfl) rfl
theorem q246 : (Jvm.Cond.soleField "AnyKeyTown$Town" "x") ∈ lw_all := lw_g (lw_at lw_m1 146 rfl) rfl
theorem q247 : (Jvm.Cond.lays "AnyKeyTown$Town" "AnyKeyTown$Town" "letIn" "I") ∈ lw_all := lw_g (lw_at lw_m1 147 rfl) rfl
theorem q248 : (Jvm.Cond.soleField "AnyKeyTown$Town" "letIn") ∈ lw_all := lw_g (lw_at lw_m1 148 rfl) rfl
theorem q249 : (Jvm.Cond.lays "AnyKeyTown$Town" "AnyKeyTown$Town" "bed" "I") ∈ lw_all := lw_g (lw_at lw_m1 149 rfl) rfl
theorem q250 : (Jvm.Cond.soleField "AnyKeyTown$Town" "bed") ∈ lw_all := lw_g (lw_at lw_m1 150 rfl) rfl
theorem q251 : (Jvm.Cond.lays "AnyKeyTown$Town" "AnyKeyTown$Town" "out" "I") ∈ lw_all := lw_g (lw_at lw_m1 151 rfl) rfl
theorem q252 : (Jvm.Cond.soleField "AnyKeyTown$Town" "out") ∈ lw_all := lw_g (lw_at lw_m1 152 rfl) rfl
theorem q253 : (Jvm.Cond.lays "AnyKeyTown$Town" "AnyKeyTown$Town" "willing" "I") ∈ lw_all := lw_g (lw_at lw_m1 153 rfl) rfl
theorem q254 : (Jvm.Cond.soleField "AnyKeyTown$Town" "willing") ∈ lw_all := lw_g (lw_at lw_m1 154 rfl) rfl
theorem q255 : (Jvm.Cond.laysFinal "AnyKeyTown$Town" "AnyKeyTown$Town" "this$0" "LAnyKeyTown;") ∈ lw_all := lw_g (lw_at lw_m1 155 rfl) rfl
theorem q256 : (Jvm.Cond.soleField "AnyKeyTown$Town" "this$0") ∈ lw_all := lw_g (lw_at lw_m1 156 rfl) rfl
theorem q257 : (Jvm.Cond.superclass "AnyKeyTown$Town" "java/lang/Object") ∈ lw_all := lw_g (lw_at lw_m1 157 rfl) rfl
theorem q291 : (Jvm.Cond.fieldLinkNest "AnyKeyTown$Town" (37 : Nat) "AnyKeyTown" "roll" "LAnyKeyTown$Roll;" "AnyKeyTown") ∈ lw_tbl := lw_at lw_m1 191 rfl
theorem q295 : (Jvm.Cond.fieldLinkNest "AnyKeyTown$Town" (48 : Nat) "AnyKeyTown" "moment" "LAnyKeyTown$Moment;" "AnyKeyTown") ∈ lw_tbl := lw_at lw_m1 195 rfl
theorem q304 : (Jvm.Cond.fieldLinkNest "AnyKeyTown$Town" (106 : Nat) "AnyKeyTown" "law" "LAnyKeyTown$Text;" "AnyKeyTown") ∈ lw_tbl := lw_at lw_m1 204 rfl
theorem q843 : (Jvm.Cond.instanceMethod ({ cls := "AnyKeyTown$Town", name := "goes", desc := "(I)LAnyKeyTown$Town;" } : Jvm.MethodName)) ∈ lw_all := lw_g (lw_at lw_m4 23 rfl) rfl
theorem q844 : (Jvm.Cond.selects "AnyKeyTown$Town" ({ cls := "AnyKeyTown$Town", name := "goes", desc := "(I)LAnyKeyTown$Town;" } : Jvm.MethodName) ({ cls := "AnyKeyTown$Town", name := "goes", desc := "(I)LAnyKeyTown$Town;" } : Jvm.MethodName)) ∈ lw_all := lw_g (lw_at lw_m4 24 rfl) rfl
theorem q845 : (Jvm.Cond.code ({ cls := "AnyKeyTown$Town", name := "goes", desc := "(I)LAnyKeyTown$Town;" } : Jvm.MethodName) prog_18_method_10_code (3 : Nat) (Option.some (Jvm.ClassFile.FieldType.object "AnyKeyTown$Town"))) ∈ lw_all := lw_g (lw_at lw_m4 25 rfl) rfl
theorem q846 : (Jvm.Cond.methodLink "AnyKeyTown$Town" (129 : Nat) ({ cls := "AnyKeyTown$Town", name := "eveningGoes", desc := "()V" } : Jvm.MethodName)) ∈ lw_all := lw_g (lw_at lw_m4 26 rfl) rfl
theorem q847 : (Jvm.Cond.privateMethod ({ cls := "AnyKeyTown$Town", name := "eveningGoes", desc := "()V" } : Jvm.MethodName)) ∈ lw_tbl := lw_at lw_m4 27 rfl
theorem q848 : (Jvm.Cond.instanceMethod ({ cls := "AnyKeyTown$Town", name := "eveningGoes", desc := "()V" } : Jvm.MethodName)) ∈ lw_all := lw_g (lw_at lw_m4 28 rfl) rfl
theorem q849 : (Jvm.Cond.code ({ cls := "AnyKeyTown$Town", name := "eveningGoes", desc := "()V" } : Jvm.MethodName) prog_18_method_9_code (4 : Nat) (Option.none : Option Jvm.ClassFile.FieldType)) ∈ lw_all := lw_g (lw_at lw_m4 29 rfl) rfl
theorem q850 : (Jvm.Cond.methodLink "AnyKeyTown$Town" (41 : Nat) ({ cls := "AnyKeyTown$Roll", name := "isTold", desc := "(I)Z" } : Jvm.MethodName)) ∈ lw_all := lw_g (lw_at lw_m4 30 rfl) rfl
theorem q851 : (Jvm.Cond.methodLink "AnyKeyTown$Town" (102 : Nat) ({ cls := "AnyKeyTown$Town", name := "draw", desc := "()I" } : Jvm.MethodName)) ∈ lw_all := lw_g (lw_at lw_m4 31 rfl) rfl
theorem q852 : (Jvm.Cond.privateMethod ({ cls := "AnyKeyTown$Town", name := "draw", desc := "()I" } : Jvm.MethodName)) ∈ lw_tbl := lw_at lw_m4 32 rfl
theorem q853 : (Jvm.Cond.instanceMethod ({ cls := "AnyKeyTown$Town", name := "draw", desc := "()I" } : Jvm.MethodName)) ∈ lw_all := lw_g (lw_at lw_m4 33 rfl) rfl
theorem q854 : (Jvm.Cond.code ({ cls := "AnyKeyTown$Town", name := "draw", desc := "()I" } : Jvm.MethodName) prog_18_method_5_code (1 : Nat) (Option.some Jvm.ClassFile.FieldType.int)) ∈ lw_all := lw_g (lw_at lw_m4 34 rfl) rfl
theorem q855 : (Jvm.Cond.constant "AnyKeyTown$Town" (47 : Nat) (65536 : Int32)) ∈ lw_all := lw_g (lw_at lw_m4 35 rfl) rfl
theorem q856 : (Jvm.Cond.methodLink "AnyKeyTown$Town" (83 : Nat) ({ cls := "AnyKeyTown$Town", name := "asked", desc := "(II)LAnyKeyTown$Moment;" } : Jvm.MethodName)) ∈ lw_all := lw_g (lw_at lw_m4 36 rfl) rfl
theorem q857 : (Jvm.Cond.privateMethod ({ cls := "AnyKeyTown$Town", name := "asked", desc := "(II)LAnyKeyTown$Moment;" } : Jvm.MethodName)) ∈ lw_tbl := lw_at lw_m4 37 rfl
theorem q858 : (Jvm.Cond.instanceMethod ({ cls := "AnyKeyTown$Town", name := "asked", desc := "(II)LAnyKeyTown$Moment;" } : Jvm.MethodName)) ∈ lw_all := lw_g (lw_at lw_m4 38 rfl) rfl
theorem q859 : (Jvm.Cond.code ({ cls := "AnyKeyTown$Town", name := "asked", desc := "(II)LAnyKeyTown$Moment;" } : Jvm.MethodName) prog_18_method_6_code (3 : Nat) (Option.some (Jvm.ClassFile.FieldType.object "AnyKeyTown$Moment"))) ∈ lw_all := lw_g (lw_at lw_m4 39 rfl) rfl
theorem q860 : (Jvm.Cond.methodLink "AnyKeyTown$Town" (61 : Nat) ({ cls := "java/lang/Integer", name := "bitCount", desc := "(I)I" } : Jvm.MethodName)) ∈ lw_all := lw_g (lw_at lw_m4 40 rfl) rfl
theorem q866 : (Jvm.Cond.methodLink "AnyKeyTown$Town" (67 : Nat) ({ cls := "AnyKeyTown$Moment", name := "of", desc := "(IIIIII)LAnyKeyTown$Moment;" } : Jvm.MethodName)) ∈ lw_all := lw_g (lw_at lw_m4 46 rfl) rfl
theorem q870 : (Jvm.Cond.methodLink "AnyKeyTown$Town" (110 : Nat) ({ cls := "AnyKeyTown$Text", name := "says", desc := "(ILAnyKeyTown$Asked;)Z" } : Jvm.MethodName)) ∈ lw_all := lw_g (lw_at lw_m4 50 rfl) rfl
theorem q910 : (Jvm.Cond.methodLink "AnyKeyTown$Town" (116 : Nat) ({ cls := "AnyKeyTown$Town", name := "chosen", desc := "()I" } : Jvm.MethodName)) ∈ lw_all := lw_g (lw_at lw_m4 90 rfl) rfl
theorem q911 : (Jvm.Cond.privateMethod ({ cls := "AnyKeyTown$Town", name := "chosen", desc := "()I" } : Jvm.MethodName)) ∈ lw_tbl := lw_at lw_m4 91 rfl
theorem q912 : (Jvm.Cond.instanceMethod ({ cls := "AnyKeyTown$Town", name := "chosen", desc := "()I" } : Jvm.MethodName)) ∈ lw_all := lw_g (lw_at lw_m4 92 rfl) rfl
theorem q913 : (Jvm.Cond.code ({ cls := "AnyKeyTown$Town", name := "chosen", desc := "()I" } : Jvm.MethodName) prog_18_method_7_code (7 : Nat) (Option.some Jvm.ClassFile.FieldType.int)) ∈ lw_all := lw_g (lw_at lw_m4 93 rfl) rfl
theorem q914 : (Jvm.Cond.methodLinkNest "AnyKeyTown$Town" (73 : Nat) ({ cls := "AnyKeyTown", name := "has", desc := "(II)Z" } : Jvm.MethodName) "AnyKeyTown") ∈ lw_tbl := lw_at lw_m4 94 rfl
theorem q915 : (Jvm.Cond.methodLink "AnyKeyTown$Town" (80 : Nat) ({ cls := "AnyKeyTown$Roll", name := "friends", desc := "(I)I" } : Jvm.MethodName)) ∈ lw_all := lw_g (lw_at lw_m4 95 rfl) rfl
theorem q919 : (Jvm.Cond.methodLink "AnyKeyTown$Town" (87 : Nat) ({ cls := "java/lang/Math", name := "abs", desc := "(I)I" } : Jvm.MethodName)) ∈ lw_all := lw_g (lw_at lw_m4 99 rfl) rfl
theorem q920 : (Jvm.Cond.methodLink "AnyKeyTown$Town" (92 : Nat) ({ cls := "AnyKeyTown$Moment", name := "by", desc := "(IIII)LAnyKeyTown$Moment;" } : Jvm.MethodName)) ∈ lw_all := lw_g (lw_at lw_m4 100 rfl) rfl
theorem q924 : (Jvm.Cond.methodLinkNest "AnyKeyTown$Town" (96 : Nat) ({ cls := "AnyKeyTown", name := "tells", desc := "(I)I" } : Jvm.MethodName) "AnyKeyTown") ∈ lw_tbl := lw_at lw_m4 104 rfl
theorem q945 : (Jvm.Cond.methodLink "AnyKeyTown$Town" (119 : Nat) ({ cls := "java/lang/Math", name := "min", desc := "(II)I" } : Jvm.MethodName)) ∈ lw_all := lw_g (lw_at lw_m4 125 rfl) rfl
theorem q946 : (Jvm.Cond.methodLink "AnyKeyTown$Town" (126 : Nat) ({ cls := "AnyKeyTown$Town", name := "beds", desc := "()I" } : Jvm.MethodName)) ∈ lw_all := lw_g (lw_at lw_m4 126 rfl) rfl
theorem q947 : (Jvm.Cond.privateMethod ({ cls := "AnyKeyTown$Town", name := "beds", desc := "()I" } : Jvm.MethodName)) ∈ lw_tbl := lw_at lw_m4 127 rfl
theorem q948 : (Jvm.Cond.instanceMethod ({ cls := "AnyKeyTown$Town", name := "beds", desc := "()I" } : Jvm.MethodName)) ∈ lw_all := lw_g (lw_at lw_m4 128 rfl) rfl
theorem q949 : (Jvm.Cond.code ({ cls := "AnyKeyTown$Town", name := "beds", desc := "()I" } : Jvm.MethodName) prog_18_method_8_code (6 : Nat) (Option.some Jvm.ClassFile.FieldType.int)) ∈ lw_all := lw_g (lw_at lw_m4 129 rfl) rfl
theorem q956 : (Jvm.Cond.instanceMethod ({ cls := "AnyKeyTown$Town", name := "takes", desc := "(LAnyKeyTown$Town;)LAnyKeyTown$Town;" } : Jvm.MethodName)) ∈ lw_all := lw_g (lw_at lw_m4 136 rfl) rfl
theorem q957 : (Jvm.Cond.selects "AnyKeyTown$Town" ({ cls := "AnyKeyTown$Town", name := "takes", desc := "(LAnyKeyTown$Town;)LAnyKeyTown$Town;" } : Jvm.MethodName) ({ cls := "AnyKeyTown$Town", name := "takes", desc := "(LAnyKeyTown$Town;)LAnyKeyTown$Town;" } : Jvm.MethodName)) ∈ lw_all := lw_g (lw_at lw_m4 137 rfl) rfl
theorem q958 : (Jvm.Cond.code ({ cls := "AnyKeyTown$Town", name := "takes", desc := "(LAnyKeyTown$Town;)LAnyKeyTown$Town;" } : Jvm.MethodName) prog_18_method_2_code (4 : Nat) (Option.some (Jvm.ClassFile.FieldType.object "AnyKeyTown$Town"))) ∈ lw_all := lw_g (lw_at lw_m4 138 rfl) rfl
theorem q960 : (Jvm.Cond.instanceMethod ({ cls := "AnyKeyTown$Town", name := "nightsOfAll", desc := "()I" } : Jvm.MethodName)) ∈ lw_all := lw_g (lw_at lw_m4 140 rfl) rfl
theorem q961 : (Jvm.Cond.selects "AnyKeyTown$Town" ({ cls := "AnyKeyTown$Town", name := "nightsOfAll", desc := "()I" } : Jvm.MethodName) ({ cls := "AnyKeyTown$Town", name := "nightsOfAll", desc := "()I" } : Jvm.MethodName)) ∈ lw_all := lw_g (lw_at lw_m4 141 rfl) rfl
theorem q962 : (Jvm.Cond.code ({ cls := "AnyKeyTown$Town", name := "nightsOfAll", desc := "()I" } : Jvm.MethodName) prog_18_method_4_code (3 : Nat) (Option.some Jvm.ClassFile.FieldType.int)) ∈ lw_all := lw_g (lw_at lw_m4 142 rfl) rfl
theorem q964 : (Jvm.Cond.instanceMethod ({ cls := "AnyKeyTown$Town", name := "favoursOf", desc := "(IZ)I" } : Jvm.MethodName)) ∈ lw_all := lw_g (lw_at lw_m4 144 rfl) rfl
theorem q965 : (Jvm.Cond.selects "AnyKeyTown$Town" ({ cls := "AnyKeyTown$Town", name := "favoursOf", desc := "(IZ)I" } : Jvm.MethodName) ({ cls := "AnyKeyTown$Town", name := "favoursOf", desc := "(IZ)I" } : Jvm.MethodName)) ∈ lw_all := lw_g (lw_at lw_m4 145 rfl) rfl
theorem q966 : (Jvm.Cond.code ({ cls := "AnyKeyTown$Town", name := "favoursOf", desc := "(IZ)I" } : Jvm.MethodName) prog_18_method_3_code (5 : Nat) (Option.some Jvm.ClassFile.FieldType.int)) ∈ lw_all := lw_g (lw_at lw_m4 146 rfl) rfl
theorem in_X4 : ∀ w ∈ wsX40, w ∈ lw_all := lw_in wsX40 [237, 239, 241, 243, 245, 247, 249, 251, 253, 255] (by decide +kernel) (by decide +kernel)
/-! AnyKeyTown$Text -/
set_option maxRecDepth 100000
def RX5 : String := "AnyKeyTown$Text"
def TX5 : u_T := fun k => match k with
  | 0 => ("AnyKeyTown$Text", "letters", "[I", true)
  | 1 => ("AnyKeyTown$Text", "sums", "[LAnyKeyTown$Sum;", true)
  | 2 => ("AnyKeyTown$Text", "conditions", "[LAnyKeyTown$Condition;", true)
  | _ => ("AnyKeyTown$Text", "many", "I", false)
def tyX5 : Nat → FieldType := fun k => match k with
  | 0 => .array .int
  | 1 => .array (.object "AnyKeyTown$Sum")
  | 2 => .array (.object "AnyKeyTown$Condition")
  | _ => .int
abbrev wsX50 : List Cond := u_ws RX5 TX5 4
theorem nmX5 : ∀ a, a < 4 → ∀ b, b < 4 → a ≠ b → (TX5 a).2.1 ≠ (TX5 b).2.1 := by decide +kernel
theorem tyX5_ok : ∀ k, k < 4 → parseFieldDescriptor (TX5 k).2.2.1 = some (tyX5 k) := by decide +kernel
abbrev cX5_init : ByteArray := prog_17_method_1_code
def yX5_init : MethodName := ⟨RX5, "<init>", "()V"⟩
def dkwX5_init_1 : List UInt8 := [189, 0, 21, 181, 0, 23, 177]
abbrev dktX5_init_1 : List UInt8 := dkwX5_init_1 ++ []
def dkwX5_init_0 : List UInt8 := [42, 183, 0, 3, 42, 16, 16, 188, 10, 181, 0, 9, 42, 16, 16, 189, 0, 15, 181, 0, 17, 42, 16, 16]
abbrev dktX5_init_0 : List UInt8 := dkwX5_init_0 ++ dktX5_init_1
theorem dksX5_init_0 : cX5_init.data.toList.drop 0 = dktX5_init_0 := by decide +kernel
theorem dksX5_init_1 : cX5_init.data.toList.drop 24 = dktX5_init_1 := dk_seg dksX5_init_0 24 rfl rfl
theorem dX5_init_0 : decode cX5_init 0 = .ok (.aload_n 0, 1) := dk_42 (dk_at dksX5_init_0 0 rfl rfl)
theorem dX5_init_1 : decode cX5_init 1 = .ok (.invokespecial 3, 3) := dk_183 0 3 (dk_at dksX5_init_0 1 rfl rfl)
theorem dX5_init_4 : decode cX5_init 4 = .ok (.aload_n 0, 1) := dk_42 (dk_at dksX5_init_0 4 rfl rfl)
theorem dX5_init_5 : decode cX5_init 5 = .ok (.bipush 16, 2) := dk_16 16 (dk_at dksX5_init_0 5 rfl rfl)
theorem dX5_init_7 : decode cX5_init 7 = .ok (.newarray .int, 2) := dk_188_10 (dk_at dksX5_init_0 7 rfl rfl)
theorem dX5_init_9 : decode cX5_init 9 = .ok (.putfield 9, 3) := dk_181 0 9 (dk_at dksX5_init_0 9 rfl rfl)
theorem dX5_init_12 : decode cX5_init 12 = .ok (.aload_n 0, 1) := dk_42 (dk_at dksX5_init_0 12 rfl rfl)
theorem dX5_init_13 : decode cX5_init 13 = .ok (.bipush 16, 2) := dk_16 16 (dk_at dksX5_init_0 13 rfl rfl)
theorem dX5_init_15 : decode cX5_init 15 = .ok (.anewarray 15, 3) := dk_189 0 15 (dk_at dksX5_init_0 15 rfl rfl)
theorem dX5_init_18 : decode cX5_init 18 = .ok (.putfield 17, 3) := dk_181 0 17 (dk_at dksX5_init_0 18 rfl rfl)
theorem dX5_init_21 : decode cX5_init 21 = .ok (.aload_n 0, 1) := dk_42 (dk_at dksX5_init_0 21 rfl rfl)
theorem dX5_init_22 : decode cX5_init 22 = .ok (.bipush 16, 2) := dk_16 16 (dk_at dksX5_init_0 22 rfl rfl)
theorem dX5_init_24 : decode cX5_init 24 = .ok (.anewarray 21, 3) := dk_189 0 21 (dk_at dksX5_init_1 0 rfl rfl)
theorem dX5_init_27 : decode cX5_init 27 = .ok (.putfield 23, 3) := dk_181 0 23 (dk_at dksX5_init_1 3 rfl rfl)
theorem dX5_init_30 : decode cX5_init 30 = .ok (.return_, 1) := dk_177 (dk_at dksX5_init_1 6 rfl rfl)
abbrev cX5_says : ByteArray := prog_17_method_3_code
def yX5_says : MethodName := ⟨RX5, "says", "(ILAnyKeyTown$Asked;)Z"⟩
def dkwX5_says_1 : List UInt8 := [29, 50, 44, 182, 0, 31, 4, 160, 0, 5, 4, 172, 132, 3, 1, 167, 255, 219, 3, 172]
abbrev dktX5_says_1 : List UInt8 := dkwX5_says_1 ++ []
def dkwX5_says_0 : List UInt8 := [3, 62, 29, 42, 180, 0, 27, 162, 0, 35, 42, 180, 0, 9, 29, 46, 27, 160, 0, 19, 42, 180, 0, 23]
abbrev dktX5_says_0 : List UInt8 := dkwX5_says_0 ++ dktX5_says_1
theorem dksX5_says_0 : cX5_says.data.toList.drop 0 = dktX5_says_0 := by decide +kernel
theorem dksX5_says_1 : cX5_says.data.toList.drop 24 = dktX5_says_1 := dk_seg dksX5_says_0 24 rfl rfl
theorem dX5_says_0 : decode cX5_says 0 = .ok (.iconst 0, 1) := dk_3 (dk_at dksX5_says_0 0 rfl rfl)
theorem dX5_says_1 : decode cX5_says 1 = .ok (.istore_n 3, 1) := dk_62 (dk_at dksX5_says_0 1 rfl rfl)
theorem dX5_says_2 : decode cX5_says 2 = .ok (.iload_n 3, 1) := dk_29 (dk_at dksX5_says_0 2 rfl rfl)
theorem dX5_says_3 : decode cX5_says 3 = .ok (.aload_n 0, 1) := dk_42 (dk_at dksX5_says_0 3 rfl rfl)
theorem dX5_says_4 : decode cX5_says 4 = .ok (.getfield 27, 3) := dk_180 0 27 (dk_at dksX5_says_0 4 rfl rfl)
theorem dX5_says_7 : decode cX5_says 7 = .ok (.if_icmp .ge 35, 3) := dk_162 0 35 (dk_at dksX5_says_0 7 rfl rfl)
theorem dX5_says_10 : decode cX5_says 10 = .ok (.aload_n 0, 1) := dk_42 (dk_at dksX5_says_0 10 rfl rfl)
theorem dX5_says_11 : decode cX5_says 11 = .ok (.getfield 9, 3) := dk_180 0 9 (dk_at dksX5_says_0 11 rfl rfl)
theorem dX5_says_14 : decode cX5_says 14 = .ok (.iload_n 3, 1) := dk_29 (dk_at dksX5_says_0 14 rfl rfl)
theorem dX5_says_15 : decode cX5_says 15 = .ok (.iaload, 1) := dk_46 (dk_at dksX5_says_0 15 rfl rfl)
theorem dX5_says_16 : decode cX5_says 16 = .ok (.iload_n 1, 1) := dk_27 (dk_at dksX5_says_0 16 rfl rfl)
theorem dX5_says_17 : decode cX5_says 17 = .ok (.if_icmp .ne 19, 3) := dk_160 0 19 (dk_at dksX5_says_0 17 rfl rfl)
theorem dX5_says_20 : decode cX5_says 20 = .ok (.aload_n 0, 1) := dk_42 (dk_at dksX5_says_0 20 rfl rfl)
theorem dX5_says_21 : decode cX5_says 21 = .ok (.getfield 23, 3) := dk_180 0 23 (dk_at dksX5_says_0 21 rfl rfl)
theorem dX5_says_24 : decode cX5_says 24 = .ok (.iload_n 3, 1) := dk_29 (dk_at dksX5_says_1 0 rfl rfl)
theorem dX5_says_25 : decode cX5_says 25 = .ok (.aaload, 1) := dk_50 (dk_at dksX5_says_1 1 rfl rfl)
theorem dX5_says_26 : decode cX5_says 26 = .ok (.aload_n 2, 1) := dk_44 (dk_at dksX5_says_1 2 rfl rfl)
theorem dX5_says_27 : decode cX5_says 27 = .ok (.invokevirtual 31, 3) := dk_182 0 31 (dk_at dksX5_says_1 3 rfl rfl)
theorem dX5_says_30 : decode cX5_says 30 = .ok (.iconst 1, 1) := dk_4 (dk_at dksX5_says_1 6 rfl rfl)
theorem dX5_says_31 : decode cX5_says 31 = .ok (.if_icmp .ne 5, 3) := dk_160 0 5 (dk_at dksX5_says_1 7 rfl rfl)
theorem dX5_says_34 : decode cX5_says 34 = .ok (.iconst 1, 1) := dk_4 (dk_at dksX5_says_1 10 rfl rfl)
theorem dX5_says_35 : decode cX5_says 35 = .ok (.ireturn, 1) := dk_172 (dk_at dksX5_says_1 11 rfl rfl)
theorem dX5_says_36 : decode cX5_says 36 = .ok (.iinc 3 1, 3) := dk_132 3 1 (dk_at dksX5_says_1 12 rfl rfl)
theorem dX5_says_39 : decode cX5_says 39 = .ok (.goto (-37), 3) := dk_167 255 219 (dk_at dksX5_says_1 15 rfl rfl)
theorem dX5_says_42 : decode cX5_says 42 = .ok (.iconst 0, 1) := dk_3 (dk_at dksX5_says_1 18 rfl rfl)
theorem dX5_says_43 : decode cX5_says 43 = .ok (.ireturn, 1) := dk_172 (dk_at dksX5_says_1 19 rfl rfl)
abbrev cX5_tells : ByteArray := prog_17_method_2_code
def yX5_tells : MethodName := ⟨RX5, "tells", "(ILAnyKeyTown$Asked;)I"⟩
def dkwX5_tells_2 : List UInt8 := [167, 255, 210, 3, 172]
abbrev dktX5_tells_2 : List UInt8 := dkwX5_tells_2 ++ []
def dkwX5_tells_1 : List UInt8 := [29, 50, 44, 182, 0, 31, 4, 160, 0, 14, 42, 180, 0, 17, 29, 50, 44, 182, 0, 35, 172, 132, 3, 1]
abbrev dktX5_tells_1 : List UInt8 := dkwX5_tells_1 ++ dktX5_tells_2
def dkwX5_tells_0 : List UInt8 := [3, 62, 29, 42, 180, 0, 27, 162, 0, 44, 42, 180, 0, 9, 29, 46, 27, 160, 0, 28, 42, 180, 0, 23]
abbrev dktX5_tells_0 : List UInt8 := dkwX5_tells_0 ++ dktX5_tells_1
theorem dksX5_tells_0 : cX5_tells.data.toList.drop 0 = dktX5_tells_0 := by decide +kernel
theorem dksX5_tells_1 : cX5_tells.data.toList.drop 24 = dktX5_tells_1 := dk_seg dksX5_tells_0 24 rfl rfl
theorem dksX5_tells_2 : cX5_tells.data.toList.drop 48 = dktX5_tells_2 := dk_seg dksX5_tells_1 24 rfl rfl
theorem dX5_tells_0 : decode cX5_tells 0 = .ok (.iconst 0, 1) := dk_3 (dk_at dksX5_tells_0 0 rfl rfl)
theorem dX5_tells_1 : decode cX5_tells 1 = .ok (.istore_n 3, 1) := dk_62 (dk_at dksX5_tells_0 1 rfl rfl)
theorem dX5_tells_2 : decode cX5_tells 2 = .ok (.iload_n 3, 1) := dk_29 (dk_at dksX5_tells_0 2 rfl rfl)
theorem dX5_tells_3 : decode cX5_tells 3 = .ok (.aload_n 0, 1) := dk_42 (dk_at dksX5_tells_0 3 rfl rfl)
theorem dX5_tells_4 : decode cX5_tells 4 = .ok (.getfield 27, 3) := dk_180 0 27 (dk_at dksX5_tells_0 4 rfl rfl)
theorem dX5_tells_7 : decode cX5_tells 7 = .ok (.if_icmp .ge 44, 3) := dk_162 0 44 (dk_at dksX5_tells_0 7 rfl rfl)
theorem dX5_tells_10 : decode cX5_tells 10 = .ok (.aload_n 0, 1) := dk_42 (dk_at dksX5_tells_0 10 rfl rfl)
theorem dX5_tells_11 : decode cX5_tells 11 = .ok (.getfield 9, 3) := dk_180 0 9 (dk_at dksX5_tells_0 11 rfl rfl)
theorem dX5_tells_14 : decode cX5_tells 14 = .ok (.iload_n 3, 1) := dk_29 (dk_at dksX5_tells_0 14 rfl rfl)
theorem dX5_tells_15 : decode cX5_tells 15 = .ok (.iaload, 1) := dk_46 (dk_at dksX5_tells_0 15 rfl rfl)
theorem dX5_tells_16 : decode cX5_tells 16 = .ok (.iload_n 1, 1) := dk_27 (dk_at dksX5_tells_0 16 rfl rfl)
theorem dX5_tells_17 : decode cX5_tells 17 = .ok (.if_icmp .ne 28, 3) := dk_160 0 28 (dk_at dksX5_tells_0 17 rfl rfl)
theorem dX5_tells_20 : decode cX5_tells 20 = .ok (.aload_n 0, 1) := dk_42 (dk_at dksX5_tells_0 20 rfl rfl)
theorem dX5_tells_21 : decode cX5_tells 21 = .ok (.getfield 23, 3) := dk_180 0 23 (dk_at dksX5_tells_0 21 rfl rfl)
theorem dX5_tells_24 : decode cX5_tells 24 = .ok (.iload_n 3, 1) := dk_29 (dk_at dksX5_tells_1 0 rfl rfl)
theorem dX5_tells_25 : decode cX5_tells 25 = .ok (.aaload, 1) := dk_50 (dk_at dksX5_tells_1 1 rfl rfl)
theorem dX5_tells_26 : decode cX5_tells 26 = .ok (.aload_n 2, 1) := dk_44 (dk_at dksX5_tells_1 2 rfl rfl)
theorem dX5_tells_27 : decode cX5_tells 27 = .ok (.invokevirtual 31, 3) := dk_182 0 31 (dk_at dksX5_tells_1 3 rfl rfl)
theorem dX5_tells_30 : decode cX5_tells 30 = .ok (.iconst 1, 1) := dk_4 (dk_at dksX5_tells_1 6 rfl rfl)
theorem dX5_tells_31 : decode cX5_tells 31 = .ok (.if_icmp .ne 14, 3) := dk_160 0 14 (dk_at dksX5_tells_1 7 rfl rfl)
theorem dX5_tells_34 : decode cX5_tells 34 = .ok (.aload_n 0, 1) := dk_42 (dk_at dksX5_tells_1 10 rfl rfl)
theorem dX5_tells_35 : decode cX5_tells 35 = .ok (.getfield 17, 3) := dk_180 0 17 (dk_at dksX5_tells_1 11 rfl rfl)
theorem dX5_tells_38 : decode cX5_tells 38 = .ok (.iload_n 3, 1) := dk_29 (dk_at dksX5_tells_1 14 rfl rfl)
theorem dX5_tells_39 : decode cX5_tells 39 = .ok (.aaload, 1) := dk_50 (dk_at dksX5_tells_1 15 rfl rfl)
theorem dX5_tells_40 : decode cX5_tells 40 = .ok (.aload_n 2, 1) := dk_44 (dk_at dksX5_tells_1 16 rfl rfl)
theorem dX5_tells_41 : decode cX5_tells 41 = .ok (.invokevirtual 35, 3) := dk_182 0 35 (dk_at dksX5_tells_1 17 rfl rfl)
theorem dX5_tells_44 : decode cX5_tells 44 = .ok (.ireturn, 1) := dk_172 (dk_at dksX5_tells_1 20 rfl rfl)
theorem dX5_tells_45 : decode cX5_tells 45 = .ok (.iinc 3 1, 3) := dk_132 3 1 (dk_at dksX5_tells_1 21 rfl rfl)
theorem dX5_tells_48 : decode cX5_tells 48 = .ok (.goto (-46), 3) := dk_167 255 210 (dk_at dksX5_tells_2 0 rfl rfl)
theorem dX5_tells_51 : decode cX5_tells 51 = .ok (.iconst 0, 1) := dk_3 (dk_at dksX5_tells_2 3 rfl rfl)
theorem dX5_tells_52 : decode cX5_tells 52 = .ok (.ireturn, 1) := dk_172 (dk_at dksX5_tells_2 4 rfl rfl)
theorem q106 : (Jvm.Cond.initialized "AnyKeyTown$Text") ∈ lw_all := lw_g (lw_at lw_m1 6 rfl) rfl
theorem q259 : (Jvm.Cond.instantiable "AnyKeyTown$Text" (4 : Nat)) ∈ lw_all := lw_g (lw_at lw_m1 159 rfl) rfl
theorem q261 : (Jvm.Cond.instanceMethod ({ cls := "AnyKeyTown$Text", name := "<init>", desc := "()V" } : Jvm.MethodName)) ∈ lw_all := lw_g (lw_at lw_m1 161 rfl) rfl
theorem q262 : (Jvm.Cond.code ({ cls := "AnyKeyTown$Text", name := "<init>", desc := "()V" } : Jvm.MethodName) prog_17_method_1_code (1 : Nat) (Option.none : Option Jvm.ClassFile.FieldType)) ∈ lw_all := lw_g (lw_at lw_m1 162 rfl) rfl
theorem q263 : (Jvm.Cond.methodLink "AnyKeyTown$Text" (3 : Nat) ({ cls := "java/lang/Object", name := "<init>", desc := "()V" } : Jvm.MethodName)) ∈ lw_all := lw_g (lw_at lw_m1 163 rfl) rfl
theorem q264 : (Jvm.Cond.classLink "AnyKeyTown$Text" (15 : Nat) "AnyKeyTown$Sum") ∈ lw_all := lw_g (lw_at lw_m1 164 rfl) rfl
theorem q266 : (Jvm.Cond.classLink "AnyKeyTown$Text" (21 : Nat) "AnyKeyTown$Condition") ∈ lw_all := lw_g (lw_at lw_m1 166 rfl) rfl
theorem q268 : (Jvm.Cond.fieldLink "AnyKeyTown$Text" (9 : Nat) "AnyKeyTown$Text" "letters" "[I") ∈ lw_all := lw_g (lw_at lw_m1 168 rfl) rfl
theorem q270 : (Jvm.Cond.fieldLink "AnyKeyTown$Text" (17 : Nat) "AnyKeyTown$Text" "sums" "[LAnyKeyTown$Sum;") ∈ lw_all := lw_g (lw_at lw_m1 170 rfl) rfl
theorem q272 : (Jvm.Cond.fieldLink "AnyKeyTown$Text" (23 : Nat) "AnyKeyTown$Text" "conditions" "[LAnyKeyTown$Condition;") ∈ lw_all := lw_g (lw_at lw_m1 172 rfl) rfl
theorem q274 : (Jvm.Cond.fieldLink "AnyKeyTown$Text" (27 : Nat) "AnyKeyTown$Text" "many" "I") ∈ lw_all := lw_g (lw_at lw_m1 174 rfl) rfl
theorem q277 : (Jvm.Cond.laysFinal "AnyKeyTown$Text" "AnyKeyTown$Text" "letters" "[I") ∈ lw_all := lw_g (lw_at lw_m1 177 rfl) rfl
theorem q278 : (Jvm.Cond.soleField "AnyKeyTown$Text" "letters") ∈ lw_all := lw_g (lw_at lw_m1 178 rfl) rfl
theorem q279 : (Jvm.Cond.laysFinal "AnyKeyTown$Text" "AnyKeyTown$Text" "sums" "[LAnyKeyTown$Sum;") ∈ lw_all := lw_g (lw_at lw_m1 179 rfl) rfl
theorem q280 : (Jvm.Cond.soleField "AnyKeyTown$Text" "sums") ∈ lw_all := lw_g (lw_at lw_m1 180 rfl) rfl
theorem q281 : (Jvm.Cond.laysFinal "AnyKeyTown$Text" "AnyKeyTown$Text" "conditions" "[LAnyKeyTown$Condition;") ∈ lw_all := lw_g (lw_at lw_m1 181 rfl) rfl
theorem q282 : (Jvm.Cond.soleField "AnyKeyTown$Text" "conditions") ∈ lw_all := lw_g (lw_at lw_m1 182 rfl) rfl
theorem q283 : (Jvm.Cond.lays "AnyKeyTown$Text" "AnyKeyTown$Text" "many" "I") ∈ lw_all := lw_g (lw_at lw_m1 183 rfl) rfl
theorem q284 : (Jvm.Cond.soleField "AnyKeyTown$Text" "many") ∈ lw_all := lw_g (lw_at lw_m1 184 rfl) rfl
theorem q285 : (Jvm.Cond.superclass "AnyKeyTown$Text" "java/lang/Object") ∈ lw_all := lw_g (lw_at lw_m1 185 rfl) rfl
theorem q871 : (Jvm.Cond.instanceMethod ({ cls := "AnyKeyTown$Text", name := "says", desc := "(ILAnyKeyTown$Asked;)Z" } : Jvm.MethodName)) ∈ lw_all := lw_g (lw_at lw_m4 51 rfl) rfl
theorem q872 : (Jvm.Cond.selects "AnyKeyTown$Text" ({ cls := "AnyKeyTown$Text", name := "says", desc := "(ILAnyKeyTown$Asked;)Z" } : Jvm.MethodName) ({ cls := "AnyKeyTown$Text", name := "says", desc := "(ILAnyKeyTown$Asked;)Z" } : Jvm.MethodName)) ∈ lw_all := lw_g (lw_at lw_m4 52 rfl) rfl
theorem q873 : (Jvm.Cond.code ({ cls := "AnyKeyTown$Text", name := "says", desc := "(ILAnyKeyTown$Asked;)Z" } : Jvm.MethodName) prog_17_method_3_code (4 : Nat) (Option.some Jvm.ClassFile.FieldType.boolean)) ∈ lw_all := lw_g (lw_at lw_m4 53 rfl) rfl
theorem q874 : (Jvm.Cond.methodLink "AnyKeyTown$Text" (31 : Nat) ({ cls := "AnyKeyTown$Condition", name := "holds", desc := "(LAnyKeyTown$Asked;)I" } : Jvm.MethodName)) ∈ lw_all := lw_g (lw_at lw_m4 54 rfl) rfl
theorem q929 : (Jvm.Cond.instanceMethod ({ cls := "AnyKeyTown$Text", name := "tells", desc := "(ILAnyKeyTown$Asked;)I" } : Jvm.MethodName)) ∈ lw_all := lw_g (lw_at lw_m4 109 rfl) rfl
theorem q930 : (Jvm.Cond.selects "AnyKeyTown$Text" ({ cls := "AnyKeyTown$Text", name := "tells", desc := "(ILAnyKeyTown$Asked;)I" } : Jvm.MethodName) ({ cls := "AnyKeyTown$Text", name := "tells", desc := "(ILAnyKeyTown$Asked;)I" } : Jvm.MethodName)) ∈ lw_all := lw_g (lw_at lw_m4 110 rfl) rfl
theorem q931 : (Jvm.Cond.code ({ cls := "AnyKeyTown$Text", name := "tells", desc := "(ILAnyKeyTown$Asked;)I" } : Jvm.MethodName) prog_17_method_2_code (4 : Nat) (Option.some Jvm.ClassFile.FieldType.int)) ∈ lw_all := lw_g (lw_at lw_m4 111 rfl) rfl
theorem q932 : (Jvm.Cond.methodLink "AnyKeyTown$Text" (35 : Nat) ({ cls := "AnyKeyTown$Sum", name := "told", desc := "(LAnyKeyTown$Asked;)I" } : Jvm.MethodName)) ∈ lw_all := lw_g (lw_at lw_m4 112 rfl) rfl
theorem in_X5 : ∀ w ∈ wsX50, w ∈ lw_all := lw_in wsX50 [277, 279, 281, 283] (by decide +kernel) (by decide +kernel)
/-! AnyKeyTown$Reader -/
set_option maxRecDepth 100000
def RX7 : String := "AnyKeyTown$Reader"
def TX7 : u_T := fun k => match k with
  | 0 => ("AnyKeyTown$Reader", "n", "I", true)
  | 1 => ("AnyKeyTown$Reader", "text", "LAnyKeyTown$Text;", true)
  | 2 => ("AnyKeyTown$Reader", "at", "I", false)
  | 3 => ("AnyKeyTown$Reader", "open", "I", false)
  | 4 => ("AnyKeyTown$Reader", "fault", "I", false)
  | 5 => ("AnyKeyTown$Reader", "place", "I", false)
  | _ => ("AnyKeyTown$Reader", "this$0", "LAnyKeyTown;", true)
def tyX7 : Nat → FieldType := fun k => match k with
  | 0 => .int
  | 1 => .object "AnyKeyTown$Text"
  | 2 => .int
  | 3 => .int
  | 4 => .int
  | 5 => .int
  | _ => .object "AnyKeyTown"
abbrev wsX70 : List Cond := u_ws RX7 TX7 7
theorem nmX7 : ∀ a, a < 7 → ∀ b, b < 7 → a ≠ b → (TX7 a).2.1 ≠ (TX7 b).2.1 := by decide +kernel
theorem tyX7_ok : ∀ k, k < 7 → parseFieldDescriptor (TX7 k).2.2.1 = some (tyX7 k) := by decide +kernel
abbrev cX7_init : ByteArray := prog_11_method_1_code
def yX7_init : MethodName := ⟨RX7, "<init>", "(LAnyKeyTown;I)V"⟩
def dkwX7_init_1 : List UInt8 := [181, 0, 22, 177]
abbrev dktX7_init_1 : List UInt8 := dkwX7_init_1 ++ []
def dkwX7_init_0 : List UInt8 := [42, 43, 181, 0, 3, 42, 183, 0, 9, 42, 187, 0, 15, 89, 183, 0, 17, 181, 0, 18, 42, 28]
abbrev dktX7_init_0 : List UInt8 := dkwX7_init_0 ++ dktX7_init_1
theorem dksX7_init_0 : cX7_init.data.toList.drop 0 = dktX7_init_0 := by decide +kernel
theorem dksX7_init_1 : cX7_init.data.toList.drop 22 = dktX7_init_1 := dk_seg dksX7_init_0 22 rfl rfl
theorem dX7_init_0 : decode cX7_init 0 = .ok (.aload_n 0, 1) := dk_42 (dk_at dksX7_init_0 0 rfl rfl)
theorem dX7_init_1 : decode cX7_init 1 = .ok (.aload_n 1, 1) := dk_43 (dk_at dksX7_init_0 1 rfl rfl)
theorem dX7_init_2 : decode cX7_init 2 = .ok (.putfield 3, 3) := dk_181 0 3 (dk_at dksX7_init_0 2 rfl rfl)
theorem dX7_init_5 : decode cX7_init 5 = .ok (.aload_n 0, 1) := dk_42 (dk_at dksX7_init_0 5 rfl rfl)
theorem dX7_init_6 : decode cX7_init 6 = .ok (.invokespecial 9, 3) := dk_183 0 9 (dk_at dksX7_init_0 6 rfl rfl)
theorem dX7_init_9 : decode cX7_init 9 = .ok (.aload_n 0, 1) := dk_42 (dk_at dksX7_init_0 9 rfl rfl)
theorem dX7_init_10 : decode cX7_init 10 = .ok (.new 15, 3) := dk_187 0 15 (dk_at dksX7_init_0 10 rfl rfl)
theorem dX7_init_13 : decode cX7_init 13 = .ok (.dup, 1) := dk_89 (dk_at dksX7_init_0 13 rfl rfl)
theorem dX7_init_14 : decode cX7_init 14 = .ok (.invokespecial 17, 3) := dk_183 0 17 (dk_at dksX7_init_0 14 rfl rfl)
theorem dX7_init_17 : decode cX7_init 17 = .ok (.putfield 18, 3) := dk_181 0 18 (dk_at dksX7_init_0 17 rfl rfl)
theorem dX7_init_20 : decode cX7_init 20 = .ok (.aload_n 0, 1) := dk_42 (dk_at dksX7_init_0 20 rfl rfl)
theorem dX7_init_21 : decode cX7_init 21 = .ok (.iload_n 2, 1) := dk_28 (dk_at dksX7_init_0 21 rfl rfl)
theorem dX7_init_22 : decode cX7_init 22 = .ok (.putfield 22, 3) := dk_181 0 22 (dk_at dksX7_init_1 0 rfl rfl)
theorem dX7_init_25 : decode cX7_init 25 = .ok (.return_, 1) := dk_177 (dk_at dksX7_init_1 3 rfl rfl)
abbrev cX7_read : ByteArray := prog_11_method_16_code
def yX7_read : MethodName := ⟨RX7, "read", "()I"⟩
def dkwX7_read_3 : List UInt8 := [17, 252, 24, 42, 180, 0, 33, 104, 42, 180, 0, 36, 100, 172]
abbrev dktX7_read_3 : List UInt8 := dkwX7_read_3 ++ []
def dkwX7_read_2 : List UInt8 := [182, 0, 64, 167, 255, 207, 42, 182, 0, 43, 153, 0, 13, 42, 180, 0, 18, 180, 0, 131, 167, 0, 16]
abbrev dktX7_read_2 : List UInt8 := dkwX7_read_2 ++ dktX7_read_3
def dkwX7_read_1 : List UInt8 := [42, 180, 0, 26, 42, 180, 0, 22, 162, 0, 7, 4, 167, 0, 4, 3, 60, 27, 153, 255, 216, 42, 16, 59]
abbrev dktX7_read_1 : List UInt8 := dkwX7_read_1 ++ dktX7_read_2
def dkwX7_read_0 : List UInt8 := [4, 60, 27, 153, 0, 51, 42, 182, 0, 43, 153, 0, 44, 42, 182, 0, 146, 42, 182, 0, 43, 153, 0, 18]
abbrev dktX7_read_0 : List UInt8 := dkwX7_read_0 ++ dktX7_read_1
theorem dksX7_read_0 : cX7_read.data.toList.drop 0 = dktX7_read_0 := by decide +kernel
theorem dksX7_read_1 : cX7_read.data.toList.drop 24 = dktX7_read_1 := dk_seg dksX7_read_0 24 rfl rfl
theorem dksX7_read_2 : cX7_read.data.toList.drop 48 = dktX7_read_2 := dk_seg dksX7_read_1 24 rfl rfl
theorem dksX7_read_3 : cX7_read.data.toList.drop 71 = dktX7_read_3 := dk_seg dksX7_read_2 23 rfl rfl
theorem dX7_read_0 : decode cX7_read 0 = .ok (.iconst 1, 1) := dk_4 (dk_at dksX7_read_0 0 rfl rfl)
theorem dX7_read_1 : decode cX7_read 1 = .ok (.istore_n 1, 1) := dk_60 (dk_at dksX7_read_0 1 rfl rfl)
theorem dX7_read_2 : decode cX7_read 2 = .ok (.iload_n 1, 1) := dk_27 (dk_at dksX7_read_0 2 rfl rfl)
theorem dX7_read_3 : decode cX7_read 3 = .ok (.ifCond .eq 51, 3) := dk_153 0 51 (dk_at dksX7_read_0 3 rfl rfl)
theorem dX7_read_6 : decode cX7_read 6 = .ok (.aload_n 0, 1) := dk_42 (dk_at dksX7_read_0 6 rfl rfl)
theorem dX7_read_7 : decode cX7_read 7 = .ok (.invokevirtual 43, 3) := dk_182 0 43 (dk_at dksX7_read_0 7 rfl rfl)
theorem dX7_read_10 : decode cX7_read 10 = .ok (.ifCond .eq 44, 3) := dk_153 0 44 (dk_at dksX7_read_0 10 rfl rfl)
theorem dX7_read_13 : decode cX7_read 13 = .ok (.aload_n 0, 1) := dk_42 (dk_at dksX7_read_0 13 rfl rfl)
theorem dX7_read_14 : decode cX7_read 14 = .ok (.invokevirtual 146, 3) := dk_182 0 146 (dk_at dksX7_read_0 14 rfl rfl)
theorem dX7_read_17 : decode cX7_read 17 = .ok (.aload_n 0, 1) := dk_42 (dk_at dksX7_read_0 17 rfl rfl)
theorem dX7_read_18 : decode cX7_read 18 = .ok (.invokevirtual 43, 3) := dk_182 0 43 (dk_at dksX7_read_0 18 rfl rfl)
theorem dX7_read_21 : decode cX7_read 21 = .ok (.ifCond .eq 18, 3) := dk_153 0 18 (dk_at dksX7_read_0 21 rfl rfl)
theorem dX7_read_24 : decode cX7_read 24 = .ok (.aload_n 0, 1) := dk_42 (dk_at dksX7_read_1 0 rfl rfl)
theorem dX7_read_25 : decode cX7_read 25 = .ok (.getfield 26, 3) := dk_180 0 26 (dk_at dksX7_read_1 1 rfl rfl)
theorem dX7_read_28 : decode cX7_read 28 = .ok (.aload_n 0, 1) := dk_42 (dk_at dksX7_read_1 4 rfl rfl)
theorem dX7_read_29 : decode cX7_read 29 = .ok (.getfield 22, 3) := dk_180 0 22 (dk_at dksX7_read_1 5 rfl rfl)
theorem dX7_read_32 : decode cX7_read 32 = .ok (.if_icmp .ge 7, 3) := dk_162 0 7 (dk_at dksX7_read_1 8 rfl rfl)
theorem dX7_read_35 : decode cX7_read 35 = .ok (.iconst 1, 1) := dk_4 (dk_at dksX7_read_1 11 rfl rfl)
theorem dX7_read_36 : decode cX7_read 36 = .ok (.goto 4, 3) := dk_167 0 4 (dk_at dksX7_read_1 12 rfl rfl)
theorem dX7_read_39 : decode cX7_read 39 = .ok (.iconst 0, 1) := dk_3 (dk_at dksX7_read_1 15 rfl rfl)
theorem dX7_read_40 : decode cX7_read 40 = .ok (.istore_n 1, 1) := dk_60 (dk_at dksX7_read_1 16 rfl rfl)
theorem dX7_read_41 : decode cX7_read 41 = .ok (.iload_n 1, 1) := dk_27 (dk_at dksX7_read_1 17 rfl rfl)
theorem dX7_read_42 : decode cX7_read 42 = .ok (.ifCond .eq (-40), 3) := dk_153 255 216 (dk_at dksX7_read_1 18 rfl rfl)
theorem dX7_read_45 : decode cX7_read 45 = .ok (.aload_n 0, 1) := dk_42 (dk_at dksX7_read_1 21 rfl rfl)
theorem dX7_read_46 : decode cX7_read 46 = .ok (.bipush 59, 2) := dk_16 59 (dk_at dksX7_read_1 22 rfl rfl)
theorem dX7_read_48 : decode cX7_read 48 = .ok (.invokevirtual 64, 3) := dk_182 0 64 (dk_at dksX7_read_2 0 rfl rfl)
theorem dX7_read_51 : decode cX7_read 51 = .ok (.goto (-49), 3) := dk_167 255 207 (dk_at dksX7_read_2 3 rfl rfl)
theorem dX7_read_54 : decode cX7_read 54 = .ok (.aload_n 0, 1) := dk_42 (dk_at dksX7_read_2 6 rfl rfl)
theorem dX7_read_55 : decode cX7_read 55 = .ok (.invokevirtual 43, 3) := dk_182 0 43 (dk_at dksX7_read_2 7 rfl rfl)
theorem dX7_read_58 : decode cX7_read 58 = .ok (.ifCond .eq 13, 3) := dk_153 0 13 (dk_at dksX7_read_2 10 rfl rfl)
theorem dX7_read_61 : decode cX7_read 61 = .ok (.aload_n 0, 1) := dk_42 (dk_at dksX7_read_2 13 rfl rfl)
theorem dX7_read_62 : decode cX7_read 62 = .ok (.getfield 18, 3) := dk_180 0 18 (dk_at dksX7_read_2 14 rfl rfl)
theorem dX7_read_65 : decode cX7_read 65 = .ok (.getfield 131, 3) := dk_180 0 131 (dk_at dksX7_read_2 17 rfl rfl)
theorem dX7_read_68 : decode cX7_read 68 = .ok (.goto 16, 3) := dk_167 0 16 (dk_at dksX7_read_2 20 rfl rfl)
theorem dX7_read_71 : decode cX7_read 71 = .ok (.sipush (-1000), 3) := dk_17 252 24 (dk_at dksX7_read_3 0 rfl rfl)
theorem dX7_read_74 : decode cX7_read 74 = .ok (.aload_n 0, 1) := dk_42 (dk_at dksX7_read_3 3 rfl rfl)
theorem dX7_read_75 : decode cX7_read 75 = .ok (.getfield 33, 3) := dk_180 0 33 (dk_at dksX7_read_3 4 rfl rfl)
theorem dX7_read_78 : decode cX7_read 78 = .ok (.imul, 1) := dk_104 (dk_at dksX7_read_3 7 rfl rfl)
theorem dX7_read_79 : decode cX7_read 79 = .ok (.aload_n 0, 1) := dk_42 (dk_at dksX7_read_3 8 rfl rfl)
theorem dX7_read_80 : decode cX7_read 80 = .ok (.getfield 36, 3) := dk_180 0 36 (dk_at dksX7_read_3 9 rfl rfl)
theorem dX7_read_83 : decode cX7_read 83 = .ok (.isub, 1) := dk_100 (dk_at dksX7_read_3 12 rfl rfl)
theorem dX7_read_84 : decode cX7_read 84 = .ok (.ireturn, 1) := dk_172 (dk_at dksX7_read_3 13 rfl rfl)
abbrev cX7_isGood : ByteArray := prog_11_method_3_code
def yX7_isGood : MethodName := ⟨RX7, "isGood", "()Z"⟩
def dkwX7_isGood_0 : List UInt8 := [42, 180, 0, 33, 154, 0, 7, 4, 167, 0, 4, 3, 172]
abbrev dktX7_isGood_0 : List UInt8 := dkwX7_isGood_0 ++ []
theorem dksX7_isGood_0 : cX7_isGood.data.toList.drop 0 = dktX7_isGood_0 := by decide +kernel
theorem dX7_isGood_0 : decode cX7_isGood 0 = .ok (.aload_n 0, 1) := dk_42 (dk_at dksX7_isGood_0 0 rfl rfl)
theorem dX7_isGood_1 : decode cX7_isGood 1 = .ok (.getfield 33, 3) := dk_180 0 33 (dk_at dksX7_isGood_0 1 rfl rfl)
theorem dX7_isGood_4 : decode cX7_isGood 4 = .ok (.ifCond .ne 7, 3) := dk_154 0 7 (dk_at dksX7_isGood_0 4 rfl rfl)
theorem dX7_isGood_7 : decode cX7_isGood 7 = .ok (.iconst 1, 1) := dk_4 (dk_at dksX7_isGood_0 7 rfl rfl)
theorem dX7_isGood_8 : decode cX7_isGood 8 = .ok (.goto 4, 3) := dk_167 0 4 (dk_at dksX7_isGood_0 8 rfl rfl)
theorem dX7_isGood_11 : decode cX7_isGood 11 = .ok (.iconst 0, 1) := dk_3 (dk_at dksX7_isGood_0 11 rfl rfl)
theorem dX7_isGood_12 : decode cX7_isGood 12 = .ok (.ireturn, 1) := dk_172 (dk_at dksX7_isGood_0 12 rfl rfl)
abbrev cX7_clause : ByteArray := prog_11_method_15_code
def yX7_clause : MethodName := ⟨RX7, "clause", "()V"⟩
def dkwX7_clause_8 : List UInt8 := [4, 96, 181, 0, 131, 177]
abbrev dktX7_clause_8 : List UInt8 := dkwX7_clause_8 ++ []
def dkwX7_clause_7 : List UInt8 := [42, 180, 0, 18, 180, 0, 142, 42, 180, 0, 18, 180, 0, 131, 45, 83, 42, 180, 0, 18, 89, 180, 0, 131]
abbrev dktX7_clause_7 : List UInt8 := dkwX7_clause_7 ++ dktX7_clause_8
def dkwX7_clause_6 : List UInt8 := [180, 0, 18, 180, 0, 131, 27, 79, 42, 180, 0, 18, 180, 0, 138, 42, 180, 0, 18, 180, 0, 131, 44, 83]
abbrev dktX7_clause_6 : List UInt8 := dkwX7_clause_6 ++ dktX7_clause_7
def dkwX7_clause_5 : List UInt8 := [182, 0, 43, 153, 0, 10, 42, 182, 0, 110, 167, 0, 4, 1, 78, 42, 180, 0, 18, 180, 0, 134, 42]
abbrev dktX7_clause_5 : List UInt8 := dkwX7_clause_5 ++ dktX7_clause_6
def dkwX7_clause_4 : List UInt8 := [153, 0, 21, 42, 182, 0, 39, 16, 40, 159, 0, 12, 42, 4, 42, 180, 0, 26, 182, 0, 50, 42]
abbrev dktX7_clause_4 : List UInt8 := dkwX7_clause_4 ++ dktX7_clause_5
def dkwX7_clause_3 : List UInt8 := [181, 0, 54, 27, 16, 120, 160, 0, 7, 1, 167, 0, 7, 42, 182, 0, 60, 77, 42, 182, 0, 43]
abbrev dktX7_clause_3 : List UInt8 := dkwX7_clause_3 ++ dktX7_clause_4
def dkwX7_clause_2 : List UInt8 := [182, 0, 50, 42, 182, 0, 43, 154, 0, 4, 177, 42, 89, 180, 0, 26, 4, 96, 181, 0, 26, 42, 3]
abbrev dktX7_clause_2 : List UInt8 := dkwX7_clause_2 ++ dktX7_clause_3
def dkwX7_clause_1 : List UInt8 := [182, 0, 50, 167, 0, 24, 42, 180, 0, 18, 180, 0, 131, 16, 16, 160, 0, 12, 42, 7, 42, 180, 0, 26]
abbrev dktX7_clause_1 : List UInt8 := dkwX7_clause_1 ++ dktX7_clause_2
def dkwX7_clause_0 : List UInt8 := [42, 182, 0, 39, 60, 27, 153, 0, 12, 18, 129, 27, 182, 0, 77, 156, 0, 15, 42, 4, 42, 180, 0, 26]
abbrev dktX7_clause_0 : List UInt8 := dkwX7_clause_0 ++ dktX7_clause_1
theorem dksX7_clause_0 : cX7_clause.data.toList.drop 0 = dktX7_clause_0 := by decide +kernel
theorem dksX7_clause_1 : cX7_clause.data.toList.drop 24 = dktX7_clause_1 := dk_seg dksX7_clause_0 24 rfl rfl
theorem dksX7_clause_2 : cX7_clause.data.toList.drop 48 = dktX7_clause_2 := dk_seg dksX7_clause_1 24 rfl rfl
theorem dksX7_clause_3 : cX7_clause.data.toList.drop 71 = dktX7_clause_3 := dk_seg dksX7_clause_2 23 rfl rfl
theorem dksX7_clause_4 : cX7_clause.data.toList.drop 93 = dktX7_clause_4 := dk_seg dksX7_clause_3 22 rfl rfl
theorem dksX7_clause_5 : cX7_clause.data.toList.drop 115 = dktX7_clause_5 := dk_seg dksX7_clause_4 22 rfl rfl
theorem dksX7_clause_6 : cX7_clause.data.toList.drop 138 = dktX7_clause_6 := dk_seg dksX7_clause_5 23 rfl rfl
theorem dksX7_clause_7 : cX7_clause.data.toList.drop 162 = dktX7_clause_7 := dk_seg dksX7_clause_6 24 rfl rfl
theorem dksX7_clause_8 : cX7_clause.data.toList.drop 186 = dktX7_clause_8 := dk_seg dksX7_clause_7 24 rfl rfl
theorem dX7_clause_0 : decode cX7_clause 0 = .ok (.aload_n 0, 1) := dk_42 (dk_at dksX7_clause_0 0 rfl rfl)
theorem dX7_clause_1 : decode cX7_clause 1 = .ok (.invokevirtual 39, 3) := dk_182 0 39 (dk_at dksX7_clause_0 1 rfl rfl)
theorem dX7_clause_4 : decode cX7_clause 4 = .ok (.istore_n 1, 1) := dk_60 (dk_at dksX7_clause_0 4 rfl rfl)
theorem dX7_clause_5 : decode cX7_clause 5 = .ok (.iload_n 1, 1) := dk_27 (dk_at dksX7_clause_0 5 rfl rfl)
theorem dX7_clause_6 : decode cX7_clause 6 = .ok (.ifCond .eq 12, 3) := dk_153 0 12 (dk_at dksX7_clause_0 6 rfl rfl)
theorem dX7_clause_9 : decode cX7_clause 9 = .ok (.ldc 129, 2) := dk_18 129 (dk_at dksX7_clause_0 9 rfl rfl)
theorem dX7_clause_11 : decode cX7_clause 11 = .ok (.iload_n 1, 1) := dk_27 (dk_at dksX7_clause_0 11 rfl rfl)
theorem dX7_clause_12 : decode cX7_clause 12 = .ok (.invokevirtual 77, 3) := dk_182 0 77 (dk_at dksX7_clause_0 12 rfl rfl)
theorem dX7_clause_15 : decode cX7_clause 15 = .ok (.ifCond .ge 15, 3) := dk_156 0 15 (dk_at dksX7_clause_0 15 rfl rfl)
theorem dX7_clause_18 : decode cX7_clause 18 = .ok (.aload_n 0, 1) := dk_42 (dk_at dksX7_clause_0 18 rfl rfl)
theorem dX7_clause_19 : decode cX7_clause 19 = .ok (.iconst 1, 1) := dk_4 (dk_at dksX7_clause_0 19 rfl rfl)
theorem dX7_clause_20 : decode cX7_clause 20 = .ok (.aload_n 0, 1) := dk_42 (dk_at dksX7_clause_0 20 rfl rfl)
theorem dX7_clause_21 : decode cX7_clause 21 = .ok (.getfield 26, 3) := dk_180 0 26 (dk_at dksX7_clause_0 21 rfl rfl)
theorem dX7_clause_24 : decode cX7_clause 24 = .ok (.invokevirtual 50, 3) := dk_182 0 50 (dk_at dksX7_clause_1 0 rfl rfl)
theorem dX7_clause_27 : decode cX7_clause 27 = .ok (.goto 24, 3) := dk_167 0 24 (dk_at dksX7_clause_1 3 rfl rfl)
theorem dX7_clause_30 : decode cX7_clause 30 = .ok (.aload_n 0, 1) := dk_42 (dk_at dksX7_clause_1 6 rfl rfl)
theorem dX7_clause_31 : decode cX7_clause 31 = .ok (.getfield 18, 3) := dk_180 0 18 (dk_at dksX7_clause_1 7 rfl rfl)
theorem dX7_clause_34 : decode cX7_clause 34 = .ok (.getfield 131, 3) := dk_180 0 131 (dk_at dksX7_clause_1 10 rfl rfl)
theorem dX7_clause_37 : decode cX7_clause 37 = .ok (.bipush 16, 2) := dk_16 16 (dk_at dksX7_clause_1 13 rfl rfl)
theorem dX7_clause_39 : decode cX7_clause 39 = .ok (.if_icmp .ne 12, 3) := dk_160 0 12 (dk_at dksX7_clause_1 15 rfl rfl)
theorem dX7_clause_42 : decode cX7_clause 42 = .ok (.aload_n 0, 1) := dk_42 (dk_at dksX7_clause_1 18 rfl rfl)
theorem dX7_clause_43 : decode cX7_clause 43 = .ok (.iconst 4, 1) := dk_7 (dk_at dksX7_clause_1 19 rfl rfl)
theorem dX7_clause_44 : decode cX7_clause 44 = .ok (.aload_n 0, 1) := dk_42 (dk_at dksX7_clause_1 20 rfl rfl)
theorem dX7_clause_45 : decode cX7_clause 45 = .ok (.getfield 26, 3) := dk_180 0 26 (dk_at dksX7_clause_1 21 rfl rfl)
theorem dX7_clause_48 : decode cX7_clause 48 = .ok (.invokevirtual 50, 3) := dk_182 0 50 (dk_at dksX7_clause_2 0 rfl rfl)
theorem dX7_clause_51 : decode cX7_clause 51 = .ok (.aload_n 0, 1) := dk_42 (dk_at dksX7_clause_2 3 rfl rfl)
theorem dX7_clause_52 : decode cX7_clause 52 = .ok (.invokevirtual 43, 3) := dk_182 0 43 (dk_at dksX7_clause_2 4 rfl rfl)
theorem dX7_clause_55 : decode cX7_clause 55 = .ok (.ifCond .ne 4, 3) := dk_154 0 4 (dk_at dksX7_clause_2 7 rfl rfl)
theorem dX7_clause_58 : decode cX7_clause 58 = .ok (.return_, 1) := dk_177 (dk_at dksX7_clause_2 10 rfl rfl)
theorem dX7_clause_59 : decode cX7_clause 59 = .ok (.aload_n 0, 1) := dk_42 (dk_at dksX7_clause_2 11 rfl rfl)
theorem dX7_clause_60 : decode cX7_clause 60 = .ok (.dup, 1) := dk_89 (dk_at dksX7_clause_2 12 rfl rfl)
theorem dX7_clause_61 : decode cX7_clause 61 = .ok (.getfield 26, 3) := dk_180 0 26 (dk_at dksX7_clause_2 13 rfl rfl)
theorem dX7_clause_64 : decode cX7_clause 64 = .ok (.iconst 1, 1) := dk_4 (dk_at dksX7_clause_2 16 rfl rfl)
theorem dX7_clause_65 : decode cX7_clause 65 = .ok (.iadd, 1) := dk_96 (dk_at dksX7_clause_2 17 rfl rfl)
theorem dX7_clause_66 : decode cX7_clause 66 = .ok (.putfield 26, 3) := dk_181 0 26 (dk_at dksX7_clause_2 18 rfl rfl)
theorem dX7_clause_69 : decode cX7_clause 69 = .ok (.aload_n 0, 1) := dk_42 (dk_at dksX7_clause_2 21 rfl rfl)
theorem dX7_clause_70 : decode cX7_clause 70 = .ok (.iconst 0, 1) := dk_3 (dk_at dksX7_clause_2 22 rfl rfl)
theorem dX7_clause_71 : decode cX7_clause 71 = .ok (.putfield 54, 3) := dk_181 0 54 (dk_at dksX7_clause_3 0 rfl rfl)
theorem dX7_clause_74 : decode cX7_clause 74 = .ok (.iload_n 1, 1) := dk_27 (dk_at dksX7_clause_3 3 rfl rfl)
theorem dX7_clause_75 : decode cX7_clause 75 = .ok (.bipush 120, 2) := dk_16 120 (dk_at dksX7_clause_3 4 rfl rfl)
theorem dX7_clause_77 : decode cX7_clause 77 = .ok (.if_icmp .ne 7, 3) := dk_160 0 7 (dk_at dksX7_clause_3 6 rfl rfl)
theorem dX7_clause_80 : decode cX7_clause 80 = .ok (.aconst_null, 1) := dk_1 (dk_at dksX7_clause_3 9 rfl rfl)
theorem dX7_clause_81 : decode cX7_clause 81 = .ok (.goto 7, 3) := dk_167 0 7 (dk_at dksX7_clause_3 10 rfl rfl)
theorem dX7_clause_84 : decode cX7_clause 84 = .ok (.aload_n 0, 1) := dk_42 (dk_at dksX7_clause_3 13 rfl rfl)
theorem dX7_clause_85 : decode cX7_clause 85 = .ok (.invokevirtual 60, 3) := dk_182 0 60 (dk_at dksX7_clause_3 14 rfl rfl)
theorem dX7_clause_88 : decode cX7_clause 88 = .ok (.astore_n 2, 1) := dk_77 (dk_at dksX7_clause_3 17 rfl rfl)
theorem dX7_clause_89 : decode cX7_clause 89 = .ok (.aload_n 0, 1) := dk_42 (dk_at dksX7_clause_3 18 rfl rfl)
theorem dX7_clause_90 : decode cX7_clause 90 = .ok (.invokevirtual 43, 3) := dk_182 0 43 (dk_at dksX7_clause_3 19 rfl rfl)
theorem dX7_clause_93 : decode cX7_clause 93 = .ok (.ifCond .eq 21, 3) := dk_153 0 21 (dk_at dksX7_clause_4 0 rfl rfl)
theorem dX7_clause_96 : decode cX7_clause 96 = .ok (.aload_n 0, 1) := dk_42 (dk_at dksX7_clause_4 3 rfl rfl)
theorem dX7_clause_97 : decode cX7_clause 97 = .ok (.invokevirtual 39, 3) := dk_182 0 39 (dk_at dksX7_clause_4 4 rfl rfl)
theorem dX7_clause_100 : decode cX7_clause 100 = .ok (.bipush 40, 2) := dk_16 40 (dk_at dksX7_clause_4 7 rfl rfl)
theorem dX7_clause_102 : decode cX7_clause 102 = .ok (.if_icmp .eq 12, 3) := dk_159 0 12 (dk_at dksX7_clause_4 9 rfl rfl)
theorem dX7_clause_105 : decode cX7_clause 105 = .ok (.aload_n 0, 1) := dk_42 (dk_at dksX7_clause_4 12 rfl rfl)
theorem dX7_clause_106 : decode cX7_clause 106 = .ok (.iconst 1, 1) := dk_4 (dk_at dksX7_clause_4 13 rfl rfl)
theorem dX7_clause_107 : decode cX7_clause 107 = .ok (.aload_n 0, 1) := dk_42 (dk_at dksX7_clause_4 14 rfl rfl)
theorem dX7_clause_108 : decode cX7_clause 108 = .ok (.getfield 26, 3) := dk_180 0 26 (dk_at dksX7_clause_4 15 rfl rfl)
theorem dX7_clause_111 : decode cX7_clause 111 = .ok (.invokevirtual 50, 3) := dk_182 0 50 (dk_at dksX7_clause_4 18 rfl rfl)
theorem dX7_clause_114 : decode cX7_clause 114 = .ok (.aload_n 0, 1) := dk_42 (dk_at dksX7_clause_4 21 rfl rfl)
theorem dX7_clause_115 : decode cX7_clause 115 = .ok (.invokevirtual 43, 3) := dk_182 0 43 (dk_at dksX7_clause_5 0 rfl rfl)
theorem dX7_clause_118 : decode cX7_clause 118 = .ok (.ifCond .eq 10, 3) := dk_153 0 10 (dk_at dksX7_clause_5 3 rfl rfl)
theorem dX7_clause_121 : decode cX7_clause 121 = .ok (.aload_n 0, 1) := dk_42 (dk_at dksX7_clause_5 6 rfl rfl)
theorem dX7_clause_122 : decode cX7_clause 122 = .ok (.invokevirtual 110, 3) := dk_182 0 110 (dk_at dksX7_clause_5 7 rfl rfl)
theorem dX7_clause_125 : decode cX7_clause 125 = .ok (.goto 4, 3) := dk_167 0 4 (dk_at dksX7_clause_5 10 rfl rfl)
theorem dX7_clause_128 : decode cX7_clause 128 = .ok (.aconst_null, 1) := dk_1 (dk_at dksX7_clause_5 13 rfl rfl)
theorem dX7_clause_129 : decode cX7_clause 129 = .ok (.astore_n 3, 1) := dk_78 (dk_at dksX7_clause_5 14 rfl rfl)
theorem dX7_clause_130 : decode cX7_clause 130 = .ok (.aload_n 0, 1) := dk_42 (dk_at dksX7_clause_5 15 rfl rfl)
theorem dX7_clause_131 : decode cX7_clause 131 = .ok (.getfield 18, 3) := dk_180 0 18 (dk_at dksX7_clause_5 16 rfl rfl)
theorem dX7_clause_134 : decode cX7_clause 134 = .ok (.getfield 134, 3) := dk_180 0 134 (dk_at dksX7_clause_5 19 rfl rfl)
theorem dX7_clause_137 : decode cX7_clause 137 = .ok (.aload_n 0, 1) := dk_42 (dk_at dksX7_clause_5 22 rfl rfl)
theorem dX7_clause_138 : decode cX7_clause 138 = .ok (.getfield 18, 3) := dk_180 0 18 (dk_at dksX7_clause_6 0 rfl rfl)
theorem dX7_clause_141 : decode cX7_clause 141 = .ok (.getfield 131, 3) := dk_180 0 131 (dk_at dksX7_clause_6 3 rfl rfl)
theorem dX7_clause_144 : decode cX7_clause 144 = .ok (.iload_n 1, 1) := dk_27 (dk_at dksX7_clause_6 6 rfl rfl)
theorem dX7_clause_145 : decode cX7_clause 145 = .ok (.iastore, 1) := dk_79 (dk_at dksX7_clause_6 7 rfl rfl)
theorem dX7_clause_146 : decode cX7_clause 146 = .ok (.aload_n 0, 1) := dk_42 (dk_at dksX7_clause_6 8 rfl rfl)
theorem dX7_clause_147 : decode cX7_clause 147 = .ok (.getfield 18, 3) := dk_180 0 18 (dk_at dksX7_clause_6 9 rfl rfl)
theorem dX7_clause_150 : decode cX7_clause 150 = .ok (.getfield 138, 3) := dk_180 0 138 (dk_at dksX7_clause_6 12 rfl rfl)
theorem dX7_clause_153 : decode cX7_clause 153 = .ok (.aload_n 0, 1) := dk_42 (dk_at dksX7_clause_6 15 rfl rfl)
theorem dX7_clause_154 : decode cX7_clause 154 = .ok (.getfield 18, 3) := dk_180 0 18 (dk_at dksX7_clause_6 16 rfl rfl)
theorem dX7_clause_157 : decode cX7_clause 157 = .ok (.getfield 131, 3) := dk_180 0 131 (dk_at dksX7_clause_6 19 rfl rfl)
theorem dX7_clause_160 : decode cX7_clause 160 = .ok (.aload_n 2, 1) := dk_44 (dk_at dksX7_clause_6 22 rfl rfl)
theorem dX7_clause_161 : decode cX7_clause 161 = .ok (.aastore, 1) := dk_83 (dk_at dksX7_clause_6 23 rfl rfl)
theorem dX7_clause_162 : decode cX7_clause 162 = .ok (.aload_n 0, 1) := dk_42 (dk_at dksX7_clause_7 0 rfl rfl)
theorem dX7_clause_163 : decode cX7_clause 163 = .ok (.getfield 18, 3) := dk_180 0 18 (dk_at dksX7_clause_7 1 rfl rfl)
theorem dX7_clause_166 : decode cX7_clause 166 = .ok (.getfield 142, 3) := dk_180 0 142 (dk_at dksX7_clause_7 4 rfl rfl)
theorem dX7_clause_169 : decode cX7_clause 169 = .ok (.aload_n 0, 1) := dk_42 (dk_at dksX7_clause_7 7 rfl rfl)
theorem dX7_clause_170 : decode cX7_clause 170 = .ok (.getfield 18, 3) := dk_180 0 18 (dk_at dksX7_clause_7 8 rfl rfl)
theorem dX7_clause_173 : decode cX7_clause 173 = .ok (.getfield 131, 3) := dk_180 0 131 (dk_at dksX7_clause_7 11 rfl rfl)
theorem dX7_clause_176 : decode cX7_clause 176 = .ok (.aload_n 3, 1) := dk_45 (dk_at dksX7_clause_7 14 rfl rfl)
theorem dX7_clause_177 : decode cX7_clause 177 = .ok (.aastore, 1) := dk_83 (dk_at dksX7_clause_7 15 rfl rfl)
theorem dX7_clause_178 : decode cX7_clause 178 = .ok (.aload_n 0, 1) := dk_42 (dk_at dksX7_clause_7 16 rfl rfl)
theorem dX7_clause_179 : decode cX7_clause 179 = .ok (.getfield 18, 3) := dk_180 0 18 (dk_at dksX7_clause_7 17 rfl rfl)
theorem dX7_clause_182 : decode cX7_clause 182 = .ok (.dup, 1) := dk_89 (dk_at dksX7_clause_7 20 rfl rfl)
theorem dX7_clause_183 : decode cX7_clause 183 = .ok (.getfield 131, 3) := dk_180 0 131 (dk_at dksX7_clause_7 21 rfl rfl)
theorem dX7_clause_186 : decode cX7_clause 186 = .ok (.iconst 1, 1) := dk_4 (dk_at dksX7_clause_8 0 rfl rfl)
theorem dX7_clause_187 : decode cX7_clause 187 = .ok (.iadd, 1) := dk_96 (dk_at dksX7_clause_8 1 rfl rfl)
theorem dX7_clause_188 : decode cX7_clause 188 = .ok (.putfield 131, 3) := dk_181 0 131 (dk_at dksX7_clause_8 2 rfl rfl)
theorem dX7_clause_191 : decode cX7_clause 191 = .ok (.return_, 1) := dk_177 (dk_at dksX7_clause_8 5 rfl rfl)
abbrev cX7_here : ByteArray := prog_11_method_2_code
def yX7_here : MethodName := ⟨RX7, "here", "()I"⟩
def dkwX7_here_1 : List UInt8 := [17, 0, 255, 126, 167, 0, 4, 3, 172]
abbrev dktX7_here_1 : List UInt8 := dkwX7_here_1 ++ []
def dkwX7_here_0 : List UInt8 := [42, 180, 0, 26, 42, 180, 0, 22, 162, 0, 22, 42, 180, 0, 3, 180, 0, 29, 42, 180, 0, 26, 51]
abbrev dktX7_here_0 : List UInt8 := dkwX7_here_0 ++ dktX7_here_1
theorem dksX7_here_0 : cX7_here.data.toList.drop 0 = dktX7_here_0 := by decide +kernel
theorem dksX7_here_1 : cX7_here.data.toList.drop 23 = dktX7_here_1 := dk_seg dksX7_here_0 23 rfl rfl
theorem dX7_here_0 : decode cX7_here 0 = .ok (.aload_n 0, 1) := dk_42 (dk_at dksX7_here_0 0 rfl rfl)
theorem dX7_here_1 : decode cX7_here 1 = .ok (.getfield 26, 3) := dk_180 0 26 (dk_at dksX7_here_0 1 rfl rfl)
theorem dX7_here_4 : decode cX7_here 4 = .ok (.aload_n 0, 1) := dk_42 (dk_at dksX7_here_0 4 rfl rfl)
theorem dX7_here_5 : decode cX7_here 5 = .ok (.getfield 22, 3) := dk_180 0 22 (dk_at dksX7_here_0 5 rfl rfl)
theorem dX7_here_8 : decode cX7_here 8 = .ok (.if_icmp .ge 22, 3) := dk_162 0 22 (dk_at dksX7_here_0 8 rfl rfl)
theorem dX7_here_11 : decode cX7_here 11 = .ok (.aload_n 0, 1) := dk_42 (dk_at dksX7_here_0 11 rfl rfl)
theorem dX7_here_12 : decode cX7_here 12 = .ok (.getfield 3, 3) := dk_180 0 3 (dk_at dksX7_here_0 12 rfl rfl)
theorem dX7_here_15 : decode cX7_here 15 = .ok (.getfield 29, 3) := dk_180 0 29 (dk_at dksX7_here_0 15 rfl rfl)
theorem dX7_here_18 : decode cX7_here 18 = .ok (.aload_n 0, 1) := dk_42 (dk_at dksX7_here_0 18 rfl rfl)
theorem dX7_here_19 : decode cX7_here 19 = .ok (.getfield 26, 3) := dk_180 0 26 (dk_at dksX7_here_0 19 rfl rfl)
theorem dX7_here_22 : decode cX7_here 22 = .ok (.baload, 1) := dk_51 (dk_at dksX7_here_0 22 rfl rfl)
theorem dX7_here_23 : decode cX7_here 23 = .ok (.sipush 255, 3) := dk_17 0 255 (dk_at dksX7_here_1 0 rfl rfl)
theorem dX7_here_26 : decode cX7_here 26 = .ok (.iand, 1) := dk_126 (dk_at dksX7_here_1 3 rfl rfl)
theorem dX7_here_27 : decode cX7_here 27 = .ok (.goto 4, 3) := dk_167 0 4 (dk_at dksX7_here_1 4 rfl rfl)
theorem dX7_here_30 : decode cX7_here 30 = .ok (.iconst 0, 1) := dk_3 (dk_at dksX7_here_1 7 rfl rfl)
theorem dX7_here_31 : decode cX7_here 31 = .ok (.ireturn, 1) := dk_172 (dk_at dksX7_here_1 8 rfl rfl)
abbrev cX7_bad : ByteArray := prog_11_method_4_code
def yX7_bad : MethodName := ⟨RX7, "bad", "(II)V"⟩
def dkwX7_bad_0 : List UInt8 := [42, 180, 0, 33, 158, 0, 4, 177, 42, 27, 181, 0, 33, 42, 28, 181, 0, 36, 177]
abbrev dktX7_bad_0 : List UInt8 := dkwX7_bad_0 ++ []
theorem dksX7_bad_0 : cX7_bad.data.toList.drop 0 = dktX7_bad_0 := by decide +kernel
theorem dX7_bad_0 : decode cX7_bad 0 = .ok (.aload_n 0, 1) := dk_42 (dk_at dksX7_bad_0 0 rfl rfl)
theorem dX7_bad_1 : decode cX7_bad 1 = .ok (.getfield 33, 3) := dk_180 0 33 (dk_at dksX7_bad_0 1 rfl rfl)
theorem dX7_bad_4 : decode cX7_bad 4 = .ok (.ifCond .le 4, 3) := dk_158 0 4 (dk_at dksX7_bad_0 4 rfl rfl)
theorem dX7_bad_7 : decode cX7_bad 7 = .ok (.return_, 1) := dk_177 (dk_at dksX7_bad_0 7 rfl rfl)
theorem dX7_bad_8 : decode cX7_bad 8 = .ok (.aload_n 0, 1) := dk_42 (dk_at dksX7_bad_0 8 rfl rfl)
theorem dX7_bad_9 : decode cX7_bad 9 = .ok (.iload_n 1, 1) := dk_27 (dk_at dksX7_bad_0 9 rfl rfl)
theorem dX7_bad_10 : decode cX7_bad 10 = .ok (.putfield 33, 3) := dk_181 0 33 (dk_at dksX7_bad_0 10 rfl rfl)
theorem dX7_bad_13 : decode cX7_bad 13 = .ok (.aload_n 0, 1) := dk_42 (dk_at dksX7_bad_0 13 rfl rfl)
theorem dX7_bad_14 : decode cX7_bad 14 = .ok (.iload_n 2, 1) := dk_28 (dk_at dksX7_bad_0 14 rfl rfl)
theorem dX7_bad_15 : decode cX7_bad 15 = .ok (.putfield 36, 3) := dk_181 0 36 (dk_at dksX7_bad_0 15 rfl rfl)
theorem dX7_bad_18 : decode cX7_bad 18 = .ok (.return_, 1) := dk_177 (dk_at dksX7_bad_0 18 rfl rfl)
abbrev cX7_sum : ByteArray := prog_11_method_11_code
def yX7_sum : MethodName := ⟨RX7, "sum", "()LAnyKeyTown$Sum;"⟩
def dkwX7_sum_3 : List UInt8 := [44, 180, 0, 94, 77, 167, 255, 195, 43, 176]
abbrev dktX7_sum_3 : List UInt8 := dkwX7_sum_3 ++ []
def dkwX7_sum_2 : List UInt8 := [180, 0, 26, 4, 96, 181, 0, 26, 44, 187, 0, 86, 89, 29, 42, 182, 0, 98, 183, 0, 91, 181, 0, 94]
abbrev dktX7_sum_2 : List UInt8 := dkwX7_sum_2 ++ dktX7_sum_3
def dkwX7_sum_1 : List UInt8 := [182, 0, 39, 16, 43, 159, 0, 12, 42, 182, 0, 39, 16, 45, 160, 0, 42, 42, 182, 0, 39, 62, 42, 89]
abbrev dktX7_sum_1 : List UInt8 := dkwX7_sum_1 ++ dktX7_sum_2
def dkwX7_sum_0 : List UInt8 := [187, 0, 86, 89, 3, 42, 182, 0, 98, 183, 0, 91, 76, 43, 77, 42, 182, 0, 43, 153, 0, 60, 42]
abbrev dktX7_sum_0 : List UInt8 := dkwX7_sum_0 ++ dktX7_sum_1
theorem dksX7_sum_0 : cX7_sum.data.toList.drop 0 = dktX7_sum_0 := by decide +kernel
theorem dksX7_sum_1 : cX7_sum.data.toList.drop 23 = dktX7_sum_1 := dk_seg dksX7_sum_0 23 rfl rfl
theorem dksX7_sum_2 : cX7_sum.data.toList.drop 47 = dktX7_sum_2 := dk_seg dksX7_sum_1 24 rfl rfl
theorem dksX7_sum_3 : cX7_sum.data.toList.drop 71 = dktX7_sum_3 := dk_seg dksX7_sum_2 24 rfl rfl
theorem dX7_sum_0 : decode cX7_sum 0 = .ok (.new 86, 3) := dk_187 0 86 (dk_at dksX7_sum_0 0 rfl rfl)
theorem dX7_sum_3 : decode cX7_sum 3 = .ok (.dup, 1) := dk_89 (dk_at dksX7_sum_0 3 rfl rfl)
theorem dX7_sum_4 : decode cX7_sum 4 = .ok (.iconst 0, 1) := dk_3 (dk_at dksX7_sum_0 4 rfl rfl)
theorem dX7_sum_5 : decode cX7_sum 5 = .ok (.aload_n 0, 1) := dk_42 (dk_at dksX7_sum_0 5 rfl rfl)
theorem dX7_sum_6 : decode cX7_sum 6 = .ok (.invokevirtual 98, 3) := dk_182 0 98 (dk_at dksX7_sum_0 6 rfl rfl)
theorem dX7_sum_9 : decode cX7_sum 9 = .ok (.invokespecial 91, 3) := dk_183 0 91 (dk_at dksX7_sum_0 9 rfl rfl)
theorem dX7_sum_12 : decode cX7_sum 12 = .ok (.astore_n 1, 1) := dk_76 (dk_at dksX7_sum_0 12 rfl rfl)
theorem dX7_sum_13 : decode cX7_sum 13 = .ok (.aload_n 1, 1) := dk_43 (dk_at dksX7_sum_0 13 rfl rfl)
theorem dX7_sum_14 : decode cX7_sum 14 = .ok (.astore_n 2, 1) := dk_77 (dk_at dksX7_sum_0 14 rfl rfl)
theorem dX7_sum_15 : decode cX7_sum 15 = .ok (.aload_n 0, 1) := dk_42 (dk_at dksX7_sum_0 15 rfl rfl)
theorem dX7_sum_16 : decode cX7_sum 16 = .ok (.invokevirtual 43, 3) := dk_182 0 43 (dk_at dksX7_sum_0 16 rfl rfl)
theorem dX7_sum_19 : decode cX7_sum 19 = .ok (.ifCond .eq 60, 3) := dk_153 0 60 (dk_at dksX7_sum_0 19 rfl rfl)
theorem dX7_sum_22 : decode cX7_sum 22 = .ok (.aload_n 0, 1) := dk_42 (dk_at dksX7_sum_0 22 rfl rfl)
theorem dX7_sum_23 : decode cX7_sum 23 = .ok (.invokevirtual 39, 3) := dk_182 0 39 (dk_at dksX7_sum_1 0 rfl rfl)
theorem dX7_sum_26 : decode cX7_sum 26 = .ok (.bipush 43, 2) := dk_16 43 (dk_at dksX7_sum_1 3 rfl rfl)
theorem dX7_sum_28 : decode cX7_sum 28 = .ok (.if_icmp .eq 12, 3) := dk_159 0 12 (dk_at dksX7_sum_1 5 rfl rfl)
theorem dX7_sum_31 : decode cX7_sum 31 = .ok (.aload_n 0, 1) := dk_42 (dk_at dksX7_sum_1 8 rfl rfl)
theorem dX7_sum_32 : decode cX7_sum 32 = .ok (.invokevirtual 39, 3) := dk_182 0 39 (dk_at dksX7_sum_1 9 rfl rfl)
theorem dX7_sum_35 : decode cX7_sum 35 = .ok (.bipush 45, 2) := dk_16 45 (dk_at dksX7_sum_1 12 rfl rfl)
theorem dX7_sum_37 : decode cX7_sum 37 = .ok (.if_icmp .ne 42, 3) := dk_160 0 42 (dk_at dksX7_sum_1 14 rfl rfl)
theorem dX7_sum_40 : decode cX7_sum 40 = .ok (.aload_n 0, 1) := dk_42 (dk_at dksX7_sum_1 17 rfl rfl)
theorem dX7_sum_41 : decode cX7_sum 41 = .ok (.invokevirtual 39, 3) := dk_182 0 39 (dk_at dksX7_sum_1 18 rfl rfl)
theorem dX7_sum_44 : decode cX7_sum 44 = .ok (.istore_n 3, 1) := dk_62 (dk_at dksX7_sum_1 21 rfl rfl)
theorem dX7_sum_45 : decode cX7_sum 45 = .ok (.aload_n 0, 1) := dk_42 (dk_at dksX7_sum_1 22 rfl rfl)
theorem dX7_sum_46 : decode cX7_sum 46 = .ok (.dup, 1) := dk_89 (dk_at dksX7_sum_1 23 rfl rfl)
theorem dX7_sum_47 : decode cX7_sum 47 = .ok (.getfield 26, 3) := dk_180 0 26 (dk_at dksX7_sum_2 0 rfl rfl)
theorem dX7_sum_50 : decode cX7_sum 50 = .ok (.iconst 1, 1) := dk_4 (dk_at dksX7_sum_2 3 rfl rfl)
theorem dX7_sum_51 : decode cX7_sum 51 = .ok (.iadd, 1) := dk_96 (dk_at dksX7_sum_2 4 rfl rfl)
theorem dX7_sum_52 : decode cX7_sum 52 = .ok (.putfield 26, 3) := dk_181 0 26 (dk_at dksX7_sum_2 5 rfl rfl)
theorem dX7_sum_55 : decode cX7_sum 55 = .ok (.aload_n 2, 1) := dk_44 (dk_at dksX7_sum_2 8 rfl rfl)
theorem dX7_sum_56 : decode cX7_sum 56 = .ok (.new 86, 3) := dk_187 0 86 (dk_at dksX7_sum_2 9 rfl rfl)
theorem dX7_sum_59 : decode cX7_sum 59 = .ok (.dup, 1) := dk_89 (dk_at dksX7_sum_2 12 rfl rfl)
theorem dX7_sum_60 : decode cX7_sum 60 = .ok (.iload_n 3, 1) := dk_29 (dk_at dksX7_sum_2 13 rfl rfl)
theorem dX7_sum_61 : decode cX7_sum 61 = .ok (.aload_n 0, 1) := dk_42 (dk_at dksX7_sum_2 14 rfl rfl)
theorem dX7_sum_62 : decode cX7_sum 62 = .ok (.invokevirtual 98, 3) := dk_182 0 98 (dk_at dksX7_sum_2 15 rfl rfl)
theorem dX7_sum_65 : decode cX7_sum 65 = .ok (.invokespecial 91, 3) := dk_183 0 91 (dk_at dksX7_sum_2 18 rfl rfl)
theorem dX7_sum_68 : decode cX7_sum 68 = .ok (.putfield 94, 3) := dk_181 0 94 (dk_at dksX7_sum_2 21 rfl rfl)
theorem dX7_sum_71 : decode cX7_sum 71 = .ok (.aload_n 2, 1) := dk_44 (dk_at dksX7_sum_3 0 rfl rfl)
theorem dX7_sum_72 : decode cX7_sum 72 = .ok (.getfield 94, 3) := dk_180 0 94 (dk_at dksX7_sum_3 1 rfl rfl)
theorem dX7_sum_75 : decode cX7_sum 75 = .ok (.astore_n 2, 1) := dk_77 (dk_at dksX7_sum_3 4 rfl rfl)
theorem dX7_sum_76 : decode cX7_sum 76 = .ok (.goto (-61), 3) := dk_167 255 195 (dk_at dksX7_sum_3 5 rfl rfl)
theorem dX7_sum_79 : decode cX7_sum 79 = .ok (.aload_n 1, 1) := dk_43 (dk_at dksX7_sum_3 8 rfl rfl)
theorem dX7_sum_80 : decode cX7_sum 80 = .ok (.areturn, 1) := dk_176 (dk_at dksX7_sum_3 9 rfl rfl)
abbrev cX7_product : ByteArray := prog_11_method_10_code
def yX7_product : MethodName := ⟨RX7, "product", "()LAnyKeyTown$Sum;"⟩
def dkwX7_product_3 : List UInt8 := [42, 182, 0, 88, 183, 0, 91, 181, 0, 94, 44, 180, 0, 94, 77, 167, 255, 186, 43, 176]
abbrev dktX7_product_3 : List UInt8 := dkwX7_product_3 ++ []
def dkwX7_product_2 : List UInt8 := [160, 0, 42, 42, 182, 0, 39, 62, 42, 89, 180, 0, 26, 4, 96, 181, 0, 26, 44, 187, 0, 86, 89, 29]
abbrev dktX7_product_2 : List UInt8 := dkwX7_product_2 ++ dktX7_product_3
def dkwX7_product_1 : List UInt8 := [182, 0, 39, 16, 42, 159, 0, 21, 42, 182, 0, 39, 16, 47, 159, 0, 12, 42, 182, 0, 39, 16, 37]
abbrev dktX7_product_1 : List UInt8 := dkwX7_product_1 ++ dktX7_product_2
def dkwX7_product_0 : List UInt8 := [187, 0, 86, 89, 3, 42, 182, 0, 88, 183, 0, 91, 76, 43, 77, 42, 182, 0, 43, 153, 0, 69, 42]
abbrev dktX7_product_0 : List UInt8 := dkwX7_product_0 ++ dktX7_product_1
theorem dksX7_product_0 : cX7_product.data.toList.drop 0 = dktX7_product_0 := by decide +kernel
theorem dksX7_product_1 : cX7_product.data.toList.drop 23 = dktX7_product_1 := dk_seg dksX7_product_0 23 rfl rfl
theorem dksX7_product_2 : cX7_product.data.toList.drop 46 = dktX7_product_2 := dk_seg dksX7_product_1 23 rfl rfl
theorem dksX7_product_3 : cX7_product.data.toList.drop 70 = dktX7_product_3 := dk_seg dksX7_product_2 24 rfl rfl
theorem dX7_product_0 : decode cX7_product 0 = .ok (.new 86, 3) := dk_187 0 86 (dk_at dksX7_product_0 0 rfl rfl)
theorem dX7_product_3 : decode cX7_product 3 = .ok (.dup, 1) := dk_89 (dk_at dksX7_product_0 3 rfl rfl)
theorem dX7_product_4 : decode cX7_product 4 = .ok (.iconst 0, 1) := dk_3 (dk_at dksX7_product_0 4 rfl rfl)
theorem dX7_product_5 : decode cX7_product 5 = .ok (.aload_n 0, 1) := dk_42 (dk_at dksX7_product_0 5 rfl rfl)
theorem dX7_product_6 : decode cX7_product 6 = .ok (.invokevirtual 88, 3) := dk_182 0 88 (dk_at dksX7_product_0 6 rfl rfl)
theorem dX7_product_9 : decode cX7_product 9 = .ok (.invokespecial 91, 3) := dk_183 0 91 (dk_at dksX7_product_0 9 rfl rfl)
theorem dX7_product_12 : decode cX7_product 12 = .ok (.astore_n 1, 1) := dk_76 (dk_at dksX7_product_0 12 rfl rfl)
theorem dX7_product_13 : decode cX7_product 13 = .ok (.aload_n 1, 1) := dk_43 (dk_at dksX7_product_0 13 rfl rfl)
theorem dX7_product_14 : decode cX7_product 14 = .ok (.astore_n 2, 1) := dk_77 (dk_at dksX7_product_0 14 rfl rfl)
theorem dX7_product_15 : decode cX7_product 15 = .ok (.aload_n 0, 1) := dk_42 (dk_at dksX7_product_0 15 rfl rfl)
theorem dX7_product_16 : decode cX7_product 16 = .ok (.invokevirtual 43, 3) := dk_182 0 43 (dk_at dksX7_product_0 16 rfl rfl)
theorem dX7_product_19 : decode cX7_product 19 = .ok (.ifCond .eq 69, 3) := dk_153 0 69 (dk_at dksX7_product_0 19 rfl rfl)
theorem dX7_product_22 : decode cX7_product 22 = .ok (.aload_n 0, 1) := dk_42 (dk_at dksX7_product_0 22 rfl rfl)
theorem dX7_product_23 : decode cX7_product 23 = .ok (.invokevirtual 39, 3) := dk_182 0 39 (dk_at dksX7_product_1 0 rfl rfl)
theorem dX7_product_26 : decode cX7_product 26 = .ok (.bipush 42, 2) := dk_16 42 (dk_at dksX7_product_1 3 rfl rfl)
theorem dX7_product_28 : decode cX7_product 28 = .ok (.if_icmp .eq 21, 3) := dk_159 0 21 (dk_at dksX7_product_1 5 rfl rfl)
theorem dX7_product_31 : decode cX7_product 31 = .ok (.aload_n 0, 1) := dk_42 (dk_at dksX7_product_1 8 rfl rfl)
theorem dX7_product_32 : decode cX7_product 32 = .ok (.invokevirtual 39, 3) := dk_182 0 39 (dk_at dksX7_product_1 9 rfl rfl)
theorem dX7_product_35 : decode cX7_product 35 = .ok (.bipush 47, 2) := dk_16 47 (dk_at dksX7_product_1 12 rfl rfl)
theorem dX7_product_37 : decode cX7_product 37 = .ok (.if_icmp .eq 12, 3) := dk_159 0 12 (dk_at dksX7_product_1 14 rfl rfl)
theorem dX7_product_40 : decode cX7_product 40 = .ok (.aload_n 0, 1) := dk_42 (dk_at dksX7_product_1 17 rfl rfl)
theorem dX7_product_41 : decode cX7_product 41 = .ok (.invokevirtual 39, 3) := dk_182 0 39 (dk_at dksX7_product_1 18 rfl rfl)
theorem dX7_product_44 : decode cX7_product 44 = .ok (.bipush 37, 2) := dk_16 37 (dk_at dksX7_product_1 21 rfl rfl)
theorem dX7_product_46 : decode cX7_product 46 = .ok (.if_icmp .ne 42, 3) := dk_160 0 42 (dk_at dksX7_product_2 0 rfl rfl)
theorem dX7_product_49 : decode cX7_product 49 = .ok (.aload_n 0, 1) := dk_42 (dk_at dksX7_product_2 3 rfl rfl)
theorem dX7_product_50 : decode cX7_product 50 = .ok (.invokevirtual 39, 3) := dk_182 0 39 (dk_at dksX7_product_2 4 rfl rfl)
theorem dX7_product_53 : decode cX7_product 53 = .ok (.istore_n 3, 1) := dk_62 (dk_at dksX7_product_2 7 rfl rfl)
theorem dX7_product_54 : decode cX7_product 54 = .ok (.aload_n 0, 1) := dk_42 (dk_at dksX7_product_2 8 rfl rfl)
theorem dX7_product_55 : decode cX7_product 55 = .ok (.dup, 1) := dk_89 (dk_at dksX7_product_2 9 rfl rfl)
theorem dX7_product_56 : decode cX7_product 56 = .ok (.getfield 26, 3) := dk_180 0 26 (dk_at dksX7_product_2 10 rfl rfl)
theorem dX7_product_59 : decode cX7_product 59 = .ok (.iconst 1, 1) := dk_4 (dk_at dksX7_product_2 13 rfl rfl)
theorem dX7_product_60 : decode cX7_product 60 = .ok (.iadd, 1) := dk_96 (dk_at dksX7_product_2 14 rfl rfl)
theorem dX7_product_61 : decode cX7_product 61 = .ok (.putfield 26, 3) := dk_181 0 26 (dk_at dksX7_product_2 15 rfl rfl)
theorem dX7_product_64 : decode cX7_product 64 = .ok (.aload_n 2, 1) := dk_44 (dk_at dksX7_product_2 18 rfl rfl)
theorem dX7_product_65 : decode cX7_product 65 = .ok (.new 86, 3) := dk_187 0 86 (dk_at dksX7_product_2 19 rfl rfl)
theorem dX7_product_68 : decode cX7_product 68 = .ok (.dup, 1) := dk_89 (dk_at dksX7_product_2 22 rfl rfl)
theorem dX7_product_69 : decode cX7_product 69 = .ok (.iload_n 3, 1) := dk_29 (dk_at dksX7_product_2 23 rfl rfl)
theorem dX7_product_70 : decode cX7_product 70 = .ok (.aload_n 0, 1) := dk_42 (dk_at dksX7_product_3 0 rfl rfl)
theorem dX7_product_71 : decode cX7_product 71 = .ok (.invokevirtual 88, 3) := dk_182 0 88 (dk_at dksX7_product_3 1 rfl rfl)
theorem dX7_product_74 : decode cX7_product 74 = .ok (.invokespecial 91, 3) := dk_183 0 91 (dk_at dksX7_product_3 4 rfl rfl)
theorem dX7_product_77 : decode cX7_product 77 = .ok (.putfield 94, 3) := dk_181 0 94 (dk_at dksX7_product_3 7 rfl rfl)
theorem dX7_product_80 : decode cX7_product 80 = .ok (.aload_n 2, 1) := dk_44 (dk_at dksX7_product_3 10 rfl rfl)
theorem dX7_product_81 : decode cX7_product 81 = .ok (.getfield 94, 3) := dk_180 0 94 (dk_at dksX7_product_3 11 rfl rfl)
theorem dX7_product_84 : decode cX7_product 84 = .ok (.astore_n 2, 1) := dk_77 (dk_at dksX7_product_3 14 rfl rfl)
theorem dX7_product_85 : decode cX7_product 85 = .ok (.goto (-70), 3) := dk_167 255 186 (dk_at dksX7_product_3 15 rfl rfl)
theorem dX7_product_88 : decode cX7_product 88 = .ok (.aload_n 1, 1) := dk_43 (dk_at dksX7_product_3 18 rfl rfl)
theorem dX7_product_89 : decode cX7_product 89 = .ok (.areturn, 1) := dk_176 (dk_at dksX7_product_3 19 rfl rfl)
abbrev cX7_factor : ByteArray := prog_11_method_9_code
def yX7_factor : MethodName := ⟨RX7, "factor", "()LAnyKeyTown$Sum;"⟩
def dkwX7_factor_5 : List UInt8 := [176]
abbrev dktX7_factor_5 : List UInt8 := dkwX7_factor_5 ++ []
def dkwX7_factor_4 : List UInt8 := [180, 0, 26, 182, 0, 50, 42, 89, 180, 0, 26, 4, 96, 181, 0, 26, 187, 0, 83, 89, 27, 183, 0, 85]
abbrev dktX7_factor_4 : List UInt8 := dkwX7_factor_4 ++ dktX7_factor_5
def dkwX7_factor_3 : List UInt8 := [182, 0, 70, 183, 0, 73, 176, 27, 153, 0, 12, 18, 75, 27, 182, 0, 77, 156, 0, 12, 42, 4, 42]
abbrev dktX7_factor_3 : List UInt8 := dkwX7_factor_3 ++ dktX7_factor_4
def dkwX7_factor_2 : List UInt8 := [180, 0, 54, 4, 100, 181, 0, 54, 44, 176, 42, 182, 0, 47, 153, 0, 15, 187, 0, 68, 89, 42]
abbrev dktX7_factor_2 : List UInt8 := dkwX7_factor_2 ++ dktX7_factor_3
def dkwX7_factor_1 : List UInt8 := [182, 0, 60, 167, 0, 4, 1, 77, 42, 182, 0, 43, 153, 0, 9, 42, 16, 93, 182, 0, 64, 42, 89]
abbrev dktX7_factor_1 : List UInt8 := dkwX7_factor_1 ++ dktX7_factor_2
def dkwX7_factor_0 : List UInt8 := [42, 182, 0, 39, 60, 27, 16, 91, 160, 0, 48, 42, 182, 0, 57, 42, 182, 0, 43, 153, 0, 10, 42]
abbrev dktX7_factor_0 : List UInt8 := dkwX7_factor_0 ++ dktX7_factor_1
theorem dksX7_factor_0 : cX7_factor.data.toList.drop 0 = dktX7_factor_0 := by decide +kernel
theorem dksX7_factor_1 : cX7_factor.data.toList.drop 23 = dktX7_factor_1 := dk_seg dksX7_factor_0 23 rfl rfl
theorem dksX7_factor_2 : cX7_factor.data.toList.drop 46 = dktX7_factor_2 := dk_seg dksX7_factor_1 23 rfl rfl
theorem dksX7_factor_3 : cX7_factor.data.toList.drop 68 = dktX7_factor_3 := dk_seg dksX7_factor_2 22 rfl rfl
theorem dksX7_factor_4 : cX7_factor.data.toList.drop 91 = dktX7_factor_4 := dk_seg dksX7_factor_3 23 rfl rfl
theorem dksX7_factor_5 : cX7_factor.data.toList.drop 115 = dktX7_factor_5 := dk_seg dksX7_factor_4 24 rfl rfl
theorem dX7_factor_0 : decode cX7_factor 0 = .ok (.aload_n 0, 1) := dk_42 (dk_at dksX7_factor_0 0 rfl rfl)
theorem dX7_factor_1 : decode cX7_factor 1 = .ok (.invokevirtual 39, 3) := dk_182 0 39 (dk_at dksX7_factor_0 1 rfl rfl)
theorem dX7_factor_4 : decode cX7_factor 4 = .ok (.istore_n 1, 1) := dk_60 (dk_at dksX7_factor_0 4 rfl rfl)
theorem dX7_factor_5 : decode cX7_factor 5 = .ok (.iload_n 1, 1) := dk_27 (dk_at dksX7_factor_0 5 rfl rfl)
theorem dX7_factor_6 : decode cX7_factor 6 = .ok (.bipush 91, 2) := dk_16 91 (dk_at dksX7_factor_0 6 rfl rfl)
theorem dX7_factor_8 : decode cX7_factor 8 = .ok (.if_icmp .ne 48, 3) := dk_160 0 48 (dk_at dksX7_factor_0 8 rfl rfl)
theorem dX7_factor_11 : decode cX7_factor 11 = .ok (.aload_n 0, 1) := dk_42 (dk_at dksX7_factor_0 11 rfl rfl)
theorem dX7_factor_12 : decode cX7_factor 12 = .ok (.invokevirtual 57, 3) := dk_182 0 57 (dk_at dksX7_factor_0 12 rfl rfl)
theorem dX7_factor_15 : decode cX7_factor 15 = .ok (.aload_n 0, 1) := dk_42 (dk_at dksX7_factor_0 15 rfl rfl)
theorem dX7_factor_16 : decode cX7_factor 16 = .ok (.invokevirtual 43, 3) := dk_182 0 43 (dk_at dksX7_factor_0 16 rfl rfl)
theorem dX7_factor_19 : decode cX7_factor 19 = .ok (.ifCond .eq 10, 3) := dk_153 0 10 (dk_at dksX7_factor_0 19 rfl rfl)
theorem dX7_factor_22 : decode cX7_factor 22 = .ok (.aload_n 0, 1) := dk_42 (dk_at dksX7_factor_0 22 rfl rfl)
theorem dX7_factor_23 : decode cX7_factor 23 = .ok (.invokevirtual 60, 3) := dk_182 0 60 (dk_at dksX7_factor_1 0 rfl rfl)
theorem dX7_factor_26 : decode cX7_factor 26 = .ok (.goto 4, 3) := dk_167 0 4 (dk_at dksX7_factor_1 3 rfl rfl)
theorem dX7_factor_29 : decode cX7_factor 29 = .ok (.aconst_null, 1) := dk_1 (dk_at dksX7_factor_1 6 rfl rfl)
theorem dX7_factor_30 : decode cX7_factor 30 = .ok (.astore_n 2, 1) := dk_77 (dk_at dksX7_factor_1 7 rfl rfl)
theorem dX7_factor_31 : decode cX7_factor 31 = .ok (.aload_n 0, 1) := dk_42 (dk_at dksX7_factor_1 8 rfl rfl)
theorem dX7_factor_32 : decode cX7_factor 32 = .ok (.invokevirtual 43, 3) := dk_182 0 43 (dk_at dksX7_factor_1 9 rfl rfl)
theorem dX7_factor_35 : decode cX7_factor 35 = .ok (.ifCond .eq 9, 3) := dk_153 0 9 (dk_at dksX7_factor_1 12 rfl rfl)
theorem dX7_factor_38 : decode cX7_factor 38 = .ok (.aload_n 0, 1) := dk_42 (dk_at dksX7_factor_1 15 rfl rfl)
theorem dX7_factor_39 : decode cX7_factor 39 = .ok (.bipush 93, 2) := dk_16 93 (dk_at dksX7_factor_1 16 rfl rfl)
theorem dX7_factor_41 : decode cX7_factor 41 = .ok (.invokevirtual 64, 3) := dk_182 0 64 (dk_at dksX7_factor_1 18 rfl rfl)
theorem dX7_factor_44 : decode cX7_factor 44 = .ok (.aload_n 0, 1) := dk_42 (dk_at dksX7_factor_1 21 rfl rfl)
theorem dX7_factor_45 : decode cX7_factor 45 = .ok (.dup, 1) := dk_89 (dk_at dksX7_factor_1 22 rfl rfl)
theorem dX7_factor_46 : decode cX7_factor 46 = .ok (.getfield 54, 3) := dk_180 0 54 (dk_at dksX7_factor_2 0 rfl rfl)
theorem dX7_factor_49 : decode cX7_factor 49 = .ok (.iconst 1, 1) := dk_4 (dk_at dksX7_factor_2 3 rfl rfl)
theorem dX7_factor_50 : decode cX7_factor 50 = .ok (.isub, 1) := dk_100 (dk_at dksX7_factor_2 4 rfl rfl)
theorem dX7_factor_51 : decode cX7_factor 51 = .ok (.putfield 54, 3) := dk_181 0 54 (dk_at dksX7_factor_2 5 rfl rfl)
theorem dX7_factor_54 : decode cX7_factor 54 = .ok (.aload_n 2, 1) := dk_44 (dk_at dksX7_factor_2 8 rfl rfl)
theorem dX7_factor_55 : decode cX7_factor 55 = .ok (.areturn, 1) := dk_176 (dk_at dksX7_factor_2 9 rfl rfl)
theorem dX7_factor_56 : decode cX7_factor 56 = .ok (.aload_n 0, 1) := dk_42 (dk_at dksX7_factor_2 10 rfl rfl)
theorem dX7_factor_57 : decode cX7_factor 57 = .ok (.invokevirtual 47, 3) := dk_182 0 47 (dk_at dksX7_factor_2 11 rfl rfl)
theorem dX7_factor_60 : decode cX7_factor 60 = .ok (.ifCond .eq 15, 3) := dk_153 0 15 (dk_at dksX7_factor_2 14 rfl rfl)
theorem dX7_factor_63 : decode cX7_factor 63 = .ok (.new 68, 3) := dk_187 0 68 (dk_at dksX7_factor_2 17 rfl rfl)
theorem dX7_factor_66 : decode cX7_factor 66 = .ok (.dup, 1) := dk_89 (dk_at dksX7_factor_2 20 rfl rfl)
theorem dX7_factor_67 : decode cX7_factor 67 = .ok (.aload_n 0, 1) := dk_42 (dk_at dksX7_factor_2 21 rfl rfl)
theorem dX7_factor_68 : decode cX7_factor 68 = .ok (.invokevirtual 70, 3) := dk_182 0 70 (dk_at dksX7_factor_3 0 rfl rfl)
theorem dX7_factor_71 : decode cX7_factor 71 = .ok (.invokespecial 73, 3) := dk_183 0 73 (dk_at dksX7_factor_3 3 rfl rfl)
theorem dX7_factor_74 : decode cX7_factor 74 = .ok (.areturn, 1) := dk_176 (dk_at dksX7_factor_3 6 rfl rfl)
theorem dX7_factor_75 : decode cX7_factor 75 = .ok (.iload_n 1, 1) := dk_27 (dk_at dksX7_factor_3 7 rfl rfl)
theorem dX7_factor_76 : decode cX7_factor 76 = .ok (.ifCond .eq 12, 3) := dk_153 0 12 (dk_at dksX7_factor_3 8 rfl rfl)
theorem dX7_factor_79 : decode cX7_factor 79 = .ok (.ldc 75, 2) := dk_18 75 (dk_at dksX7_factor_3 11 rfl rfl)
theorem dX7_factor_81 : decode cX7_factor 81 = .ok (.iload_n 1, 1) := dk_27 (dk_at dksX7_factor_3 13 rfl rfl)
theorem dX7_factor_82 : decode cX7_factor 82 = .ok (.invokevirtual 77, 3) := dk_182 0 77 (dk_at dksX7_factor_3 14 rfl rfl)
theorem dX7_factor_85 : decode cX7_factor 85 = .ok (.ifCond .ge 12, 3) := dk_156 0 12 (dk_at dksX7_factor_3 17 rfl rfl)
theorem dX7_factor_88 : decode cX7_factor 88 = .ok (.aload_n 0, 1) := dk_42 (dk_at dksX7_factor_3 20 rfl rfl)
theorem dX7_factor_89 : decode cX7_factor 89 = .ok (.iconst 1, 1) := dk_4 (dk_at dksX7_factor_3 21 rfl rfl)
theorem dX7_factor_90 : decode cX7_factor 90 = .ok (.aload_n 0, 1) := dk_42 (dk_at dksX7_factor_3 22 rfl rfl)
theorem dX7_factor_91 : decode cX7_factor 91 = .ok (.getfield 26, 3) := dk_180 0 26 (dk_at dksX7_factor_4 0 rfl rfl)
theorem dX7_factor_94 : decode cX7_factor 94 = .ok (.invokevirtual 50, 3) := dk_182 0 50 (dk_at dksX7_factor_4 3 rfl rfl)
theorem dX7_factor_97 : decode cX7_factor 97 = .ok (.aload_n 0, 1) := dk_42 (dk_at dksX7_factor_4 6 rfl rfl)
theorem dX7_factor_98 : decode cX7_factor 98 = .ok (.dup, 1) := dk_89 (dk_at dksX7_factor_4 7 rfl rfl)
theorem dX7_factor_99 : decode cX7_factor 99 = .ok (.getfield 26, 3) := dk_180 0 26 (dk_at dksX7_factor_4 8 rfl rfl)
theorem dX7_factor_102 : decode cX7_factor 102 = .ok (.iconst 1, 1) := dk_4 (dk_at dksX7_factor_4 11 rfl rfl)
theorem dX7_factor_103 : decode cX7_factor 103 = .ok (.iadd, 1) := dk_96 (dk_at dksX7_factor_4 12 rfl rfl)
theorem dX7_factor_104 : decode cX7_factor 104 = .ok (.putfield 26, 3) := dk_181 0 26 (dk_at dksX7_factor_4 13 rfl rfl)
theorem dX7_factor_107 : decode cX7_factor 107 = .ok (.new 83, 3) := dk_187 0 83 (dk_at dksX7_factor_4 16 rfl rfl)
theorem dX7_factor_110 : decode cX7_factor 110 = .ok (.dup, 1) := dk_89 (dk_at dksX7_factor_4 19 rfl rfl)
theorem dX7_factor_111 : decode cX7_factor 111 = .ok (.iload_n 1, 1) := dk_27 (dk_at dksX7_factor_4 20 rfl rfl)
theorem dX7_factor_112 : decode cX7_factor 112 = .ok (.invokespecial 85, 3) := dk_183 0 85 (dk_at dksX7_factor_4 21 rfl rfl)
theorem dX7_factor_115 : decode cX7_factor 115 = .ok (.areturn, 1) := dk_176 (dk_at dksX7_factor_5 0 rfl rfl)
abbrev cX7_opens : ByteArray := prog_11_method_8_code
def yX7_opens : MethodName := ⟨RX7, "opens", "()V"⟩
def dkwX7_opens_1 : List UInt8 := [96, 181, 0, 54, 42, 89, 180, 0, 26, 4, 96, 181, 0, 26, 177]
abbrev dktX7_opens_1 : List UInt8 := dkwX7_opens_1 ++ []
def dkwX7_opens_0 : List UInt8 := [42, 180, 0, 54, 16, 6, 160, 0, 12, 42, 8, 42, 180, 0, 26, 182, 0, 50, 42, 89, 180, 0, 54, 4]
abbrev dktX7_opens_0 : List UInt8 := dkwX7_opens_0 ++ dktX7_opens_1
theorem dksX7_opens_0 : cX7_opens.data.toList.drop 0 = dktX7_opens_0 := by decide +kernel
theorem dksX7_opens_1 : cX7_opens.data.toList.drop 24 = dktX7_opens_1 := dk_seg dksX7_opens_0 24 rfl rfl
theorem dX7_opens_0 : decode cX7_opens 0 = .ok (.aload_n 0, 1) := dk_42 (dk_at dksX7_opens_0 0 rfl rfl)
theorem dX7_opens_1 : decode cX7_opens 1 = .ok (.getfield 54, 3) := dk_180 0 54 (dk_at dksX7_opens_0 1 rfl rfl)
theorem dX7_opens_4 : decode cX7_opens 4 = .ok (.bipush 6, 2) := dk_16 6 (dk_at dksX7_opens_0 4 rfl rfl)
theorem dX7_opens_6 : decode cX7_opens 6 = .ok (.if_icmp .ne 12, 3) := dk_160 0 12 (dk_at dksX7_opens_0 6 rfl rfl)
theorem dX7_opens_9 : decode cX7_opens 9 = .ok (.aload_n 0, 1) := dk_42 (dk_at dksX7_opens_0 9 rfl rfl)
theorem dX7_opens_10 : decode cX7_opens 10 = .ok (.iconst 5, 1) := dk_8 (dk_at dksX7_opens_0 10 rfl rfl)
theorem dX7_opens_11 : decode cX7_opens 11 = .ok (.aload_n 0, 1) := dk_42 (dk_at dksX7_opens_0 11 rfl rfl)
theorem dX7_opens_12 : decode cX7_opens 12 = .ok (.getfield 26, 3) := dk_180 0 26 (dk_at dksX7_opens_0 12 rfl rfl)
theorem dX7_opens_15 : decode cX7_opens 15 = .ok (.invokevirtual 50, 3) := dk_182 0 50 (dk_at dksX7_opens_0 15 rfl rfl)
theorem dX7_opens_18 : decode cX7_opens 18 = .ok (.aload_n 0, 1) := dk_42 (dk_at dksX7_opens_0 18 rfl rfl)
theorem dX7_opens_19 : decode cX7_opens 19 = .ok (.dup, 1) := dk_89 (dk_at dksX7_opens_0 19 rfl rfl)
theorem dX7_opens_20 : decode cX7_opens 20 = .ok (.getfield 54, 3) := dk_180 0 54 (dk_at dksX7_opens_0 20 rfl rfl)
theorem dX7_opens_23 : decode cX7_opens 23 = .ok (.iconst 1, 1) := dk_4 (dk_at dksX7_opens_0 23 rfl rfl)
theorem dX7_opens_24 : decode cX7_opens 24 = .ok (.iadd, 1) := dk_96 (dk_at dksX7_opens_1 0 rfl rfl)
theorem dX7_opens_25 : decode cX7_opens 25 = .ok (.putfield 54, 3) := dk_181 0 54 (dk_at dksX7_opens_1 1 rfl rfl)
theorem dX7_opens_28 : decode cX7_opens 28 = .ok (.aload_n 0, 1) := dk_42 (dk_at dksX7_opens_1 4 rfl rfl)
theorem dX7_opens_29 : decode cX7_opens 29 = .ok (.dup, 1) := dk_89 (dk_at dksX7_opens_1 5 rfl rfl)
theorem dX7_opens_30 : decode cX7_opens 30 = .ok (.getfield 26, 3) := dk_180 0 26 (dk_at dksX7_opens_1 6 rfl rfl)
theorem dX7_opens_33 : decode cX7_opens 33 = .ok (.iconst 1, 1) := dk_4 (dk_at dksX7_opens_1 9 rfl rfl)
theorem dX7_opens_34 : decode cX7_opens 34 = .ok (.iadd, 1) := dk_96 (dk_at dksX7_opens_1 10 rfl rfl)
theorem dX7_opens_35 : decode cX7_opens 35 = .ok (.putfield 26, 3) := dk_181 0 26 (dk_at dksX7_opens_1 11 rfl rfl)
theorem dX7_opens_38 : decode cX7_opens 38 = .ok (.return_, 1) := dk_177 (dk_at dksX7_opens_1 14 rfl rfl)
abbrev cX7_must : ByteArray := prog_11_method_7_code
def yX7_must : MethodName := ⟨RX7, "must", "(I)V"⟩
def dkwX7_must_1 : List UInt8 := [181, 0, 26, 177]
abbrev dktX7_must_1 : List UInt8 := dkwX7_must_1 ++ []
def dkwX7_must_0 : List UInt8 := [42, 182, 0, 39, 27, 159, 0, 12, 42, 4, 42, 180, 0, 26, 182, 0, 50, 42, 89, 180, 0, 26, 4, 96]
abbrev dktX7_must_0 : List UInt8 := dkwX7_must_0 ++ dktX7_must_1
theorem dksX7_must_0 : cX7_must.data.toList.drop 0 = dktX7_must_0 := by decide +kernel
theorem dksX7_must_1 : cX7_must.data.toList.drop 24 = dktX7_must_1 := dk_seg dksX7_must_0 24 rfl rfl
theorem dX7_must_0 : decode cX7_must 0 = .ok (.aload_n 0, 1) := dk_42 (dk_at dksX7_must_0 0 rfl rfl)
theorem dX7_must_1 : decode cX7_must 1 = .ok (.invokevirtual 39, 3) := dk_182 0 39 (dk_at dksX7_must_0 1 rfl rfl)
theorem dX7_must_4 : decode cX7_must 4 = .ok (.iload_n 1, 1) := dk_27 (dk_at dksX7_must_0 4 rfl rfl)
theorem dX7_must_5 : decode cX7_must 5 = .ok (.if_icmp .eq 12, 3) := dk_159 0 12 (dk_at dksX7_must_0 5 rfl rfl)
theorem dX7_must_8 : decode cX7_must 8 = .ok (.aload_n 0, 1) := dk_42 (dk_at dksX7_must_0 8 rfl rfl)
theorem dX7_must_9 : decode cX7_must 9 = .ok (.iconst 1, 1) := dk_4 (dk_at dksX7_must_0 9 rfl rfl)
theorem dX7_must_10 : decode cX7_must 10 = .ok (.aload_n 0, 1) := dk_42 (dk_at dksX7_must_0 10 rfl rfl)
theorem dX7_must_11 : decode cX7_must 11 = .ok (.getfield 26, 3) := dk_180 0 26 (dk_at dksX7_must_0 11 rfl rfl)
theorem dX7_must_14 : decode cX7_must 14 = .ok (.invokevirtual 50, 3) := dk_182 0 50 (dk_at dksX7_must_0 14 rfl rfl)
theorem dX7_must_17 : decode cX7_must 17 = .ok (.aload_n 0, 1) := dk_42 (dk_at dksX7_must_0 17 rfl rfl)
theorem dX7_must_18 : decode cX7_must 18 = .ok (.dup, 1) := dk_89 (dk_at dksX7_must_0 18 rfl rfl)
theorem dX7_must_19 : decode cX7_must 19 = .ok (.getfield 26, 3) := dk_180 0 26 (dk_at dksX7_must_0 19 rfl rfl)
theorem dX7_must_22 : decode cX7_must 22 = .ok (.iconst 1, 1) := dk_4 (dk_at dksX7_must_0 22 rfl rfl)
theorem dX7_must_23 : decode cX7_must 23 = .ok (.iadd, 1) := dk_96 (dk_at dksX7_must_0 23 rfl rfl)
theorem dX7_must_24 : decode cX7_must 24 = .ok (.putfield 26, 3) := dk_181 0 26 (dk_at dksX7_must_1 0 rfl rfl)
theorem dX7_must_27 : decode cX7_must 27 = .ok (.return_, 1) := dk_177 (dk_at dksX7_must_1 3 rfl rfl)
abbrev cX7_seesDigit : ByteArray := prog_11_method_5_code
def yX7_seesDigit : MethodName := ⟨RX7, "seesDigit", "()Z"⟩
def dkwX7_seesDigit_0 : List UInt8 := [42, 182, 0, 39, 16, 48, 161, 0, 16, 42, 182, 0, 39, 16, 57, 163, 0, 7, 4, 167, 0, 4, 3, 172]
abbrev dktX7_seesDigit_0 : List UInt8 := dkwX7_seesDigit_0 ++ []
theorem dksX7_seesDigit_0 : cX7_seesDigit.data.toList.drop 0 = dktX7_seesDigit_0 := by decide +kernel
theorem dX7_seesDigit_0 : decode cX7_seesDigit 0 = .ok (.aload_n 0, 1) := dk_42 (dk_at dksX7_seesDigit_0 0 rfl rfl)
theorem dX7_seesDigit_1 : decode cX7_seesDigit 1 = .ok (.invokevirtual 39, 3) := dk_182 0 39 (dk_at dksX7_seesDigit_0 1 rfl rfl)
theorem dX7_seesDigit_4 : decode cX7_seesDigit 4 = .ok (.bipush 48, 2) := dk_16 48 (dk_at dksX7_seesDigit_0 4 rfl rfl)
theorem dX7_seesDigit_6 : decode cX7_seesDigit 6 = .ok (.if_icmp .lt 16, 3) := dk_161 0 16 (dk_at dksX7_seesDigit_0 6 rfl rfl)
theorem dX7_seesDigit_9 : decode cX7_seesDigit 9 = .ok (.aload_n 0, 1) := dk_42 (dk_at dksX7_seesDigit_0 9 rfl rfl)
theorem dX7_seesDigit_10 : decode cX7_seesDigit 10 = .ok (.invokevirtual 39, 3) := dk_182 0 39 (dk_at dksX7_seesDigit_0 10 rfl rfl)
theorem dX7_seesDigit_13 : decode cX7_seesDigit 13 = .ok (.bipush 57, 2) := dk_16 57 (dk_at dksX7_seesDigit_0 13 rfl rfl)
theorem dX7_seesDigit_15 : decode cX7_seesDigit 15 = .ok (.if_icmp .gt 7, 3) := dk_163 0 7 (dk_at dksX7_seesDigit_0 15 rfl rfl)
theorem dX7_seesDigit_18 : decode cX7_seesDigit 18 = .ok (.iconst 1, 1) := dk_4 (dk_at dksX7_seesDigit_0 18 rfl rfl)
theorem dX7_seesDigit_19 : decode cX7_seesDigit 19 = .ok (.goto 4, 3) := dk_167 0 4 (dk_at dksX7_seesDigit_0 19 rfl rfl)
theorem dX7_seesDigit_22 : decode cX7_seesDigit 22 = .ok (.iconst 0, 1) := dk_3 (dk_at dksX7_seesDigit_0 22 rfl rfl)
theorem dX7_seesDigit_23 : decode cX7_seesDigit 23 = .ok (.ireturn, 1) := dk_172 (dk_at dksX7_seesDigit_0 23 rfl rfl)
abbrev cX7_number : ByteArray := prog_11_method_6_code
def yX7_number : MethodName := ⟨RX7, "number", "()I"⟩
def dkwX7_number_2 : List UInt8 := [182, 0, 39, 96, 16, 48, 100, 61, 42, 89, 180, 0, 26, 4, 96, 181, 0, 26, 167, 255, 200, 28, 172]
abbrev dktX7_number_2 : List UInt8 := dkwX7_number_2 ++ []
def dkwX7_number_1 : List UInt8 := [180, 0, 26, 27, 8, 96, 160, 0, 12, 42, 5, 42, 180, 0, 26, 182, 0, 50, 16, 10, 28, 104, 42]
abbrev dktX7_number_1 : List UInt8 := dkwX7_number_1 ++ dktX7_number_2
def dkwX7_number_0 : List UInt8 := [42, 180, 0, 26, 60, 3, 61, 42, 182, 0, 43, 153, 0, 55, 42, 182, 0, 47, 153, 0, 48, 42]
abbrev dktX7_number_0 : List UInt8 := dkwX7_number_0 ++ dktX7_number_1
theorem dksX7_number_0 : cX7_number.data.toList.drop 0 = dktX7_number_0 := by decide +kernel
theorem dksX7_number_1 : cX7_number.data.toList.drop 22 = dktX7_number_1 := dk_seg dksX7_number_0 22 rfl rfl
theorem dksX7_number_2 : cX7_number.data.toList.drop 45 = dktX7_number_2 := dk_seg dksX7_number_1 23 rfl rfl
theorem dX7_number_0 : decode cX7_number 0 = .ok (.aload_n 0, 1) := dk_42 (dk_at dksX7_number_0 0 rfl rfl)
theorem dX7_number_1 : decode cX7_number 1 = .ok (.getfield 26, 3) := dk_180 0 26 (dk_at dksX7_number_0 1 rfl rfl)
theorem dX7_number_4 : decode cX7_number 4 = .ok (.istore_n 1, 1) := dk_60 (dk_at dksX7_number_0 4 rfl rfl)
theorem dX7_number_5 : decode cX7_number 5 = .ok (.iconst 0, 1) := dk_3 (dk_at dksX7_number_0 5 rfl rfl)
theorem dX7_number_6 : decode cX7_number 6 = .ok (.istore_n 2, 1) := dk_61 (dk_at dksX7_number_0 6 rfl rfl)
theorem dX7_number_7 : decode cX7_number 7 = .ok (.aload_n 0, 1) := dk_42 (dk_at dksX7_number_0 7 rfl rfl)
theorem dX7_number_8 : decode cX7_number 8 = .ok (.invokevirtual 43, 3) := dk_182 0 43 (dk_at dksX7_number_0 8 rfl rfl)
theorem dX7_number_11 : decode cX7_number 11 = .ok (.ifCond .eq 55, 3) := dk_153 0 55 (dk_at dksX7_number_0 11 rfl rfl)
theorem dX7_number_14 : decode cX7_number 14 = .ok (.aload_n 0, 1) := dk_42 (dk_at dksX7_number_0 14 rfl rfl)
theorem dX7_number_15 : decode cX7_number 15 = .ok (.invokevirtual 47, 3) := dk_182 0 47 (dk_at dksX7_number_0 15 rfl rfl)
theorem dX7_number_18 : decode cX7_number 18 = .ok (.ifCond .eq 48, 3) := dk_153 0 48 (dk_at dksX7_number_0 18 rfl rfl)
theorem dX7_number_21 : decode cX7_number 21 = .ok (.aload_n 0, 1) := dk_42 (dk_at dksX7_number_0 21 rfl rfl)
theorem dX7_number_22 : decode cX7_number 22 = .ok (.getfield 26, 3) := dk_180 0 26 (dk_at dksX7_number_1 0 rfl rfl)
theorem dX7_number_25 : decode cX7_number 25 = .ok (.iload_n 1, 1) := dk_27 (dk_at dksX7_number_1 3 rfl rfl)
theorem dX7_number_26 : decode cX7_number 26 = .ok (.iconst 5, 1) := dk_8 (dk_at dksX7_number_1 4 rfl rfl)
theorem dX7_number_27 : decode cX7_number 27 = .ok (.iadd, 1) := dk_96 (dk_at dksX7_number_1 5 rfl rfl)
theorem dX7_number_28 : decode cX7_number 28 = .ok (.if_icmp .ne 12, 3) := dk_160 0 12 (dk_at dksX7_number_1 6 rfl rfl)
theorem dX7_number_31 : decode cX7_number 31 = .ok (.aload_n 0, 1) := dk_42 (dk_at dksX7_number_1 9 rfl rfl)
theorem dX7_number_32 : decode cX7_number 32 = .ok (.iconst 2, 1) := dk_5 (dk_at dksX7_number_1 10 rfl rfl)
theorem dX7_number_33 : decode cX7_number 33 = .ok (.aload_n 0, 1) := dk_42 (dk_at dksX7_number_1 11 rfl rfl)
theorem dX7_number_34 : decode cX7_number 34 = .ok (.getfield 26, 3) := dk_180 0 26 (dk_at dksX7_number_1 12 rfl rfl)
theorem dX7_number_37 : decode cX7_number 37 = .ok (.invokevirtual 50, 3) := dk_182 0 50 (dk_at dksX7_number_1 15 rfl rfl)
theorem dX7_number_40 : decode cX7_number 40 = .ok (.bipush 10, 2) := dk_16 10 (dk_at dksX7_number_1 18 rfl rfl)
theorem dX7_number_42 : decode cX7_number 42 = .ok (.iload_n 2, 1) := dk_28 (dk_at dksX7_number_1 20 rfl rfl)
theorem dX7_number_43 : decode cX7_number 43 = .ok (.imul, 1) := dk_104 (dk_at dksX7_number_1 21 rfl rfl)
theorem dX7_number_44 : decode cX7_number 44 = .ok (.aload_n 0, 1) := dk_42 (dk_at dksX7_number_1 22 rfl rfl)
theorem dX7_number_45 : decode cX7_number 45 = .ok (.invokevirtual 39, 3) := dk_182 0 39 (dk_at dksX7_number_2 0 rfl rfl)
theorem dX7_number_48 : decode cX7_number 48 = .ok (.iadd, 1) := dk_96 (dk_at dksX7_number_2 3 rfl rfl)
theorem dX7_number_49 : decode cX7_number 49 = .ok (.bipush 48, 2) := dk_16 48 (dk_at dksX7_number_2 4 rfl rfl)
theorem dX7_number_51 : decode cX7_number 51 = .ok (.isub, 1) := dk_100 (dk_at dksX7_number_2 6 rfl rfl)
theorem dX7_number_52 : decode cX7_number 52 = .ok (.istore_n 2, 1) := dk_61 (dk_at dksX7_number_2 7 rfl rfl)
theorem dX7_number_53 : decode cX7_number 53 = .ok (.aload_n 0, 1) := dk_42 (dk_at dksX7_number_2 8 rfl rfl)
theorem dX7_number_54 : decode cX7_number 54 = .ok (.dup, 1) := dk_89 (dk_at dksX7_number_2 9 rfl rfl)
theorem dX7_number_55 : decode cX7_number 55 = .ok (.getfield 26, 3) := dk_180 0 26 (dk_at dksX7_number_2 10 rfl rfl)
theorem dX7_number_58 : decode cX7_number 58 = .ok (.iconst 1, 1) := dk_4 (dk_at dksX7_number_2 13 rfl rfl)
theorem dX7_number_59 : decode cX7_number 59 = .ok (.iadd, 1) := dk_96 (dk_at dksX7_number_2 14 rfl rfl)
theorem dX7_number_60 : decode cX7_number 60 = .ok (.putfield 26, 3) := dk_181 0 26 (dk_at dksX7_number_2 15 rfl rfl)
theorem dX7_number_63 : decode cX7_number 63 = .ok (.goto (-56), 3) := dk_167 255 200 (dk_at dksX7_number_2 18 rfl rfl)
theorem dX7_number_66 : decode cX7_number 66 = .ok (.iload_n 2, 1) := dk_28 (dk_at dksX7_number_2 21 rfl rfl)
theorem dX7_number_67 : decode cX7_number 67 = .ok (.ireturn, 1) := dk_172 (dk_at dksX7_number_2 22 rfl rfl)
abbrev cX7_condition : ByteArray := prog_11_method_14_code
def yX7_condition : MethodName := ⟨RX7, "condition", "()LAnyKeyTown$Condition;"⟩
def dkwX7_condition_4 : List UInt8 := [42, 89, 180, 0, 54, 4, 100, 181, 0, 54, 43, 176]
abbrev dktX7_condition_4 : List UInt8 := dkwX7_condition_4 ++ []
def dkwX7_condition_3 : List UInt8 := [181, 0, 123, 44, 180, 0, 123, 77, 167, 255, 209, 42, 182, 0, 43, 153, 0, 9, 42, 16, 41, 182, 0, 64]
abbrev dktX7_condition_3 : List UInt8 := dkwX7_condition_3 ++ dktX7_condition_4
def dkwX7_condition_2 : List UInt8 := [89, 180, 0, 26, 4, 96, 181, 0, 26, 44, 187, 0, 118, 89, 42, 182, 0, 126, 4, 183, 0, 120]
abbrev dktX7_condition_2 : List UInt8 := dkwX7_condition_2 ++ dktX7_condition_3
def dkwX7_condition_1 : List UInt8 := [167, 0, 4, 1, 76, 43, 77, 42, 182, 0, 43, 153, 0, 46, 42, 182, 0, 39, 16, 124, 160, 0, 37, 42]
abbrev dktX7_condition_1 : List UInt8 := dkwX7_condition_1 ++ dktX7_condition_2
def dkwX7_condition_0 : List UInt8 := [42, 182, 0, 57, 42, 182, 0, 43, 153, 0, 18, 187, 0, 118, 89, 42, 182, 0, 126, 4, 183, 0, 120]
abbrev dktX7_condition_0 : List UInt8 := dkwX7_condition_0 ++ dktX7_condition_1
theorem dksX7_condition_0 : cX7_condition.data.toList.drop 0 = dktX7_condition_0 := by decide +kernel
theorem dksX7_condition_1 : cX7_condition.data.toList.drop 23 = dktX7_condition_1 := dk_seg dksX7_condition_0 23 rfl rfl
theorem dksX7_condition_2 : cX7_condition.data.toList.drop 47 = dktX7_condition_2 := dk_seg dksX7_condition_1 24 rfl rfl
theorem dksX7_condition_3 : cX7_condition.data.toList.drop 69 = dktX7_condition_3 := dk_seg dksX7_condition_2 22 rfl rfl
theorem dksX7_condition_4 : cX7_condition.data.toList.drop 93 = dktX7_condition_4 := dk_seg dksX7_condition_3 24 rfl rfl
theorem dX7_condition_0 : decode cX7_condition 0 = .ok (.aload_n 0, 1) := dk_42 (dk_at dksX7_condition_0 0 rfl rfl)
theorem dX7_condition_1 : decode cX7_condition 1 = .ok (.invokevirtual 57, 3) := dk_182 0 57 (dk_at dksX7_condition_0 1 rfl rfl)
theorem dX7_condition_4 : decode cX7_condition 4 = .ok (.aload_n 0, 1) := dk_42 (dk_at dksX7_condition_0 4 rfl rfl)
theorem dX7_condition_5 : decode cX7_condition 5 = .ok (.invokevirtual 43, 3) := dk_182 0 43 (dk_at dksX7_condition_0 5 rfl rfl)
theorem dX7_condition_8 : decode cX7_condition 8 = .ok (.ifCond .eq 18, 3) := dk_153 0 18 (dk_at dksX7_condition_0 8 rfl rfl)
theorem dX7_condition_11 : decode cX7_condition 11 = .ok (.new 118, 3) := dk_187 0 118 (dk_at dksX7_condition_0 11 rfl rfl)
theorem dX7_condition_14 : decode cX7_condition 14 = .ok (.dup, 1) := dk_89 (dk_at dksX7_condition_0 14 rfl rfl)
theorem dX7_condition_15 : decode cX7_condition 15 = .ok (.aload_n 0, 1) := dk_42 (dk_at dksX7_condition_0 15 rfl rfl)
theorem dX7_condition_16 : decode cX7_condition 16 = .ok (.invokevirtual 126, 3) := dk_182 0 126 (dk_at dksX7_condition_0 16 rfl rfl)
theorem dX7_condition_19 : decode cX7_condition 19 = .ok (.iconst 1, 1) := dk_4 (dk_at dksX7_condition_0 19 rfl rfl)
theorem dX7_condition_20 : decode cX7_condition 20 = .ok (.invokespecial 120, 3) := dk_183 0 120 (dk_at dksX7_condition_0 20 rfl rfl)
theorem dX7_condition_23 : decode cX7_condition 23 = .ok (.goto 4, 3) := dk_167 0 4 (dk_at dksX7_condition_1 0 rfl rfl)
theorem dX7_condition_26 : decode cX7_condition 26 = .ok (.aconst_null, 1) := dk_1 (dk_at dksX7_condition_1 3 rfl rfl)
theorem dX7_condition_27 : decode cX7_condition 27 = .ok (.astore_n 1, 1) := dk_76 (dk_at dksX7_condition_1 4 rfl rfl)
theorem dX7_condition_28 : decode cX7_condition 28 = .ok (.aload_n 1, 1) := dk_43 (dk_at dksX7_condition_1 5 rfl rfl)
theorem dX7_condition_29 : decode cX7_condition 29 = .ok (.astore_n 2, 1) := dk_77 (dk_at dksX7_condition_1 6 rfl rfl)
theorem dX7_condition_30 : decode cX7_condition 30 = .ok (.aload_n 0, 1) := dk_42 (dk_at dksX7_condition_1 7 rfl rfl)
theorem dX7_condition_31 : decode cX7_condition 31 = .ok (.invokevirtual 43, 3) := dk_182 0 43 (dk_at dksX7_condition_1 8 rfl rfl)
theorem dX7_condition_34 : decode cX7_condition 34 = .ok (.ifCond .eq 46, 3) := dk_153 0 46 (dk_at dksX7_condition_1 11 rfl rfl)
theorem dX7_condition_37 : decode cX7_condition 37 = .ok (.aload_n 0, 1) := dk_42 (dk_at dksX7_condition_1 14 rfl rfl)
theorem dX7_condition_38 : decode cX7_condition 38 = .ok (.invokevirtual 39, 3) := dk_182 0 39 (dk_at dksX7_condition_1 15 rfl rfl)
theorem dX7_condition_41 : decode cX7_condition 41 = .ok (.bipush 124, 2) := dk_16 124 (dk_at dksX7_condition_1 18 rfl rfl)
theorem dX7_condition_43 : decode cX7_condition 43 = .ok (.if_icmp .ne 37, 3) := dk_160 0 37 (dk_at dksX7_condition_1 20 rfl rfl)
theorem dX7_condition_46 : decode cX7_condition 46 = .ok (.aload_n 0, 1) := dk_42 (dk_at dksX7_condition_1 23 rfl rfl)
theorem dX7_condition_47 : decode cX7_condition 47 = .ok (.dup, 1) := dk_89 (dk_at dksX7_condition_2 0 rfl rfl)
theorem dX7_condition_48 : decode cX7_condition 48 = .ok (.getfield 26, 3) := dk_180 0 26 (dk_at dksX7_condition_2 1 rfl rfl)
theorem dX7_condition_51 : decode cX7_condition 51 = .ok (.iconst 1, 1) := dk_4 (dk_at dksX7_condition_2 4 rfl rfl)
theorem dX7_condition_52 : decode cX7_condition 52 = .ok (.iadd, 1) := dk_96 (dk_at dksX7_condition_2 5 rfl rfl)
theorem dX7_condition_53 : decode cX7_condition 53 = .ok (.putfield 26, 3) := dk_181 0 26 (dk_at dksX7_condition_2 6 rfl rfl)
theorem dX7_condition_56 : decode cX7_condition 56 = .ok (.aload_n 2, 1) := dk_44 (dk_at dksX7_condition_2 9 rfl rfl)
theorem dX7_condition_57 : decode cX7_condition 57 = .ok (.new 118, 3) := dk_187 0 118 (dk_at dksX7_condition_2 10 rfl rfl)
theorem dX7_condition_60 : decode cX7_condition 60 = .ok (.dup, 1) := dk_89 (dk_at dksX7_condition_2 13 rfl rfl)
theorem dX7_condition_61 : decode cX7_condition 61 = .ok (.aload_n 0, 1) := dk_42 (dk_at dksX7_condition_2 14 rfl rfl)
theorem dX7_condition_62 : decode cX7_condition 62 = .ok (.invokevirtual 126, 3) := dk_182 0 126 (dk_at dksX7_condition_2 15 rfl rfl)
theorem dX7_condition_65 : decode cX7_condition 65 = .ok (.iconst 1, 1) := dk_4 (dk_at dksX7_condition_2 18 rfl rfl)
theorem dX7_condition_66 : decode cX7_condition 66 = .ok (.invokespecial 120, 3) := dk_183 0 120 (dk_at dksX7_condition_2 19 rfl rfl)
theorem dX7_condition_69 : decode cX7_condition 69 = .ok (.putfield 123, 3) := dk_181 0 123 (dk_at dksX7_condition_3 0 rfl rfl)
theorem dX7_condition_72 : decode cX7_condition 72 = .ok (.aload_n 2, 1) := dk_44 (dk_at dksX7_condition_3 3 rfl rfl)
theorem dX7_condition_73 : decode cX7_condition 73 = .ok (.getfield 123, 3) := dk_180 0 123 (dk_at dksX7_condition_3 4 rfl rfl)
theorem dX7_condition_76 : decode cX7_condition 76 = .ok (.astore_n 2, 1) := dk_77 (dk_at dksX7_condition_3 7 rfl rfl)
theorem dX7_condition_77 : decode cX7_condition 77 = .ok (.goto (-47), 3) := dk_167 255 209 (dk_at dksX7_condition_3 8 rfl rfl)
theorem dX7_condition_80 : decode cX7_condition 80 = .ok (.aload_n 0, 1) := dk_42 (dk_at dksX7_condition_3 11 rfl rfl)
theorem dX7_condition_81 : decode cX7_condition 81 = .ok (.invokevirtual 43, 3) := dk_182 0 43 (dk_at dksX7_condition_3 12 rfl rfl)
theorem dX7_condition_84 : decode cX7_condition 84 = .ok (.ifCond .eq 9, 3) := dk_153 0 9 (dk_at dksX7_condition_3 15 rfl rfl)
theorem dX7_condition_87 : decode cX7_condition 87 = .ok (.aload_n 0, 1) := dk_42 (dk_at dksX7_condition_3 18 rfl rfl)
theorem dX7_condition_88 : decode cX7_condition 88 = .ok (.bipush 41, 2) := dk_16 41 (dk_at dksX7_condition_3 19 rfl rfl)
theorem dX7_condition_90 : decode cX7_condition 90 = .ok (.invokevirtual 64, 3) := dk_182 0 64 (dk_at dksX7_condition_3 21 rfl rfl)
theorem dX7_condition_93 : decode cX7_condition 93 = .ok (.aload_n 0, 1) := dk_42 (dk_at dksX7_condition_4 0 rfl rfl)
theorem dX7_condition_94 : decode cX7_condition 94 = .ok (.dup, 1) := dk_89 (dk_at dksX7_condition_4 1 rfl rfl)
theorem dX7_condition_95 : decode cX7_condition 95 = .ok (.getfield 54, 3) := dk_180 0 54 (dk_at dksX7_condition_4 2 rfl rfl)
theorem dX7_condition_98 : decode cX7_condition 98 = .ok (.iconst 1, 1) := dk_4 (dk_at dksX7_condition_4 5 rfl rfl)
theorem dX7_condition_99 : decode cX7_condition 99 = .ok (.isub, 1) := dk_100 (dk_at dksX7_condition_4 6 rfl rfl)
theorem dX7_condition_100 : decode cX7_condition 100 = .ok (.putfield 54, 3) := dk_181 0 54 (dk_at dksX7_condition_4 7 rfl rfl)
theorem dX7_condition_103 : decode cX7_condition 103 = .ok (.aload_n 1, 1) := dk_43 (dk_at dksX7_condition_4 10 rfl rfl)
theorem dX7_condition_104 : decode cX7_condition 104 = .ok (.areturn, 1) := dk_176 (dk_at dksX7_condition_4 11 rfl rfl)
abbrev cX7_pieces : ByteArray := prog_11_method_13_code
def yX7_pieces : MethodName := ⟨RX7, "pieces", "()LAnyKeyTown$Condition;"⟩
def dkwX7_pieces_2 : List UInt8 := [182, 0, 101, 3, 183, 0, 120, 181, 0, 123, 44, 180, 0, 123, 77, 167, 255, 209, 43, 176]
abbrev dktX7_pieces_2 : List UInt8 := dkwX7_pieces_2 ++ []
def dkwX7_pieces_1 : List UInt8 := [182, 0, 39, 16, 38, 160, 0, 37, 42, 89, 180, 0, 26, 4, 96, 181, 0, 26, 44, 187, 0, 118, 89, 42]
abbrev dktX7_pieces_1 : List UInt8 := dkwX7_pieces_1 ++ dktX7_pieces_2
def dkwX7_pieces_0 : List UInt8 := [187, 0, 118, 89, 42, 182, 0, 101, 3, 183, 0, 120, 76, 43, 77, 42, 182, 0, 43, 153, 0, 46, 42]
abbrev dktX7_pieces_0 : List UInt8 := dkwX7_pieces_0 ++ dktX7_pieces_1
theorem dksX7_pieces_0 : cX7_pieces.data.toList.drop 0 = dktX7_pieces_0 := by decide +kernel
theorem dksX7_pieces_1 : cX7_pieces.data.toList.drop 23 = dktX7_pieces_1 := dk_seg dksX7_pieces_0 23 rfl rfl
theorem dksX7_pieces_2 : cX7_pieces.data.toList.drop 47 = dktX7_pieces_2 := dk_seg dksX7_pieces_1 24 rfl rfl
theorem dX7_pieces_0 : decode cX7_pieces 0 = .ok (.new 118, 3) := dk_187 0 118 (dk_at dksX7_pieces_0 0 rfl rfl)
theorem dX7_pieces_3 : decode cX7_pieces 3 = .ok (.dup, 1) := dk_89 (dk_at dksX7_pieces_0 3 rfl rfl)
theorem dX7_pieces_4 : decode cX7_pieces 4 = .ok (.aload_n 0, 1) := dk_42 (dk_at dksX7_pieces_0 4 rfl rfl)
theorem dX7_pieces_5 : decode cX7_pieces 5 = .ok (.invokevirtual 101, 3) := dk_182 0 101 (dk_at dksX7_pieces_0 5 rfl rfl)
theorem dX7_pieces_8 : decode cX7_pieces 8 = .ok (.iconst 0, 1) := dk_3 (dk_at dksX7_pieces_0 8 rfl rfl)
theorem dX7_pieces_9 : decode cX7_pieces 9 = .ok (.invokespecial 120, 3) := dk_183 0 120 (dk_at dksX7_pieces_0 9 rfl rfl)
theorem dX7_pieces_12 : decode cX7_pieces 12 = .ok (.astore_n 1, 1) := dk_76 (dk_at dksX7_pieces_0 12 rfl rfl)
theorem dX7_pieces_13 : decode cX7_pieces 13 = .ok (.aload_n 1, 1) := dk_43 (dk_at dksX7_pieces_0 13 rfl rfl)
theorem dX7_pieces_14 : decode cX7_pieces 14 = .ok (.astore_n 2, 1) := dk_77 (dk_at dksX7_pieces_0 14 rfl rfl)
theorem dX7_pieces_15 : decode cX7_pieces 15 = .ok (.aload_n 0, 1) := dk_42 (dk_at dksX7_pieces_0 15 rfl rfl)
theorem dX7_pieces_16 : decode cX7_pieces 16 = .ok (.invokevirtual 43, 3) := dk_182 0 43 (dk_at dksX7_pieces_0 16 rfl rfl)
theorem dX7_pieces_19 : decode cX7_pieces 19 = .ok (.ifCond .eq 46, 3) := dk_153 0 46 (dk_at dksX7_pieces_0 19 rfl rfl)
theorem dX7_pieces_22 : decode cX7_pieces 22 = .ok (.aload_n 0, 1) := dk_42 (dk_at dksX7_pieces_0 22 rfl rfl)
theorem dX7_pieces_23 : decode cX7_pieces 23 = .ok (.invokevirtual 39, 3) := dk_182 0 39 (dk_at dksX7_pieces_1 0 rfl rfl)
theorem dX7_pieces_26 : decode cX7_pieces 26 = .ok (.bipush 38, 2) := dk_16 38 (dk_at dksX7_pieces_1 3 rfl rfl)
theorem dX7_pieces_28 : decode cX7_pieces 28 = .ok (.if_icmp .ne 37, 3) := dk_160 0 37 (dk_at dksX7_pieces_1 5 rfl rfl)
theorem dX7_pieces_31 : decode cX7_pieces 31 = .ok (.aload_n 0, 1) := dk_42 (dk_at dksX7_pieces_1 8 rfl rfl)
theorem dX7_pieces_32 : decode cX7_pieces 32 = .ok (.dup, 1) := dk_89 (dk_at dksX7_pieces_1 9 rfl rfl)
theorem dX7_pieces_33 : decode cX7_pieces 33 = .ok (.getfield 26, 3) := dk_180 0 26 (dk_at dksX7_pieces_1 10 rfl rfl)
theorem dX7_pieces_36 : decode cX7_pieces 36 = .ok (.iconst 1, 1) := dk_4 (dk_at dksX7_pieces_1 13 rfl rfl)
theorem dX7_pieces_37 : decode cX7_pieces 37 = .ok (.iadd, 1) := dk_96 (dk_at dksX7_pieces_1 14 rfl rfl)
theorem dX7_pieces_38 : decode cX7_pieces 38 = .ok (.putfield 26, 3) := dk_181 0 26 (dk_at dksX7_pieces_1 15 rfl rfl)
theorem dX7_pieces_41 : decode cX7_pieces 41 = .ok (.aload_n 2, 1) := dk_44 (dk_at dksX7_pieces_1 18 rfl rfl)
theorem dX7_pieces_42 : decode cX7_pieces 42 = .ok (.new 118, 3) := dk_187 0 118 (dk_at dksX7_pieces_1 19 rfl rfl)
theorem dX7_pieces_45 : decode cX7_pieces 45 = .ok (.dup, 1) := dk_89 (dk_at dksX7_pieces_1 22 rfl rfl)
theorem dX7_pieces_46 : decode cX7_pieces 46 = .ok (.aload_n 0, 1) := dk_42 (dk_at dksX7_pieces_1 23 rfl rfl)
theorem dX7_pieces_47 : decode cX7_pieces 47 = .ok (.invokevirtual 101, 3) := dk_182 0 101 (dk_at dksX7_pieces_2 0 rfl rfl)
theorem dX7_pieces_50 : decode cX7_pieces 50 = .ok (.iconst 0, 1) := dk_3 (dk_at dksX7_pieces_2 3 rfl rfl)
theorem dX7_pieces_51 : decode cX7_pieces 51 = .ok (.invokespecial 120, 3) := dk_183 0 120 (dk_at dksX7_pieces_2 4 rfl rfl)
theorem dX7_pieces_54 : decode cX7_pieces 54 = .ok (.putfield 123, 3) := dk_181 0 123 (dk_at dksX7_pieces_2 7 rfl rfl)
theorem dX7_pieces_57 : decode cX7_pieces 57 = .ok (.aload_n 2, 1) := dk_44 (dk_at dksX7_pieces_2 10 rfl rfl)
theorem dX7_pieces_58 : decode cX7_pieces 58 = .ok (.getfield 123, 3) := dk_180 0 123 (dk_at dksX7_pieces_2 11 rfl rfl)
theorem dX7_pieces_61 : decode cX7_pieces 61 = .ok (.astore_n 2, 1) := dk_77 (dk_at dksX7_pieces_2 14 rfl rfl)
theorem dX7_pieces_62 : decode cX7_pieces 62 = .ok (.goto (-47), 3) := dk_167 255 209 (dk_at dksX7_pieces_2 15 rfl rfl)
theorem dX7_pieces_65 : decode cX7_pieces 65 = .ok (.aload_n 1, 1) := dk_43 (dk_at dksX7_pieces_2 18 rfl rfl)
theorem dX7_pieces_66 : decode cX7_pieces 66 = .ok (.areturn, 1) := dk_176 (dk_at dksX7_pieces_2 19 rfl rfl)
abbrev cX7_piece : ByteArray := prog_11_method_12_code
def yX7_piece : MethodName := ⟨RX7, "piece", "()LAnyKeyTown$Condition;"⟩
def dkwX7_piece_5 : List UInt8 := [182, 0, 43, 153, 0, 10, 42, 182, 0, 60, 167, 0, 4, 1, 183, 0, 115, 176]
abbrev dktX7_piece_5 : List UInt8 := dkwX7_piece_5 ++ []
def dkwX7_piece_4 : List UInt8 := [180, 0, 26, 182, 0, 50, 42, 89, 180, 0, 26, 4, 96, 181, 0, 26, 187, 0, 113, 89, 44, 29, 42]
abbrev dktX7_piece_4 : List UInt8 := dkwX7_piece_4 ++ dktX7_piece_5
def dkwX7_piece_3 : List UInt8 := [62, 29, 16, 60, 159, 0, 24, 29, 16, 62, 159, 0, 18, 29, 16, 61, 159, 0, 12, 42, 4, 42]
abbrev dktX7_piece_3 : List UInt8 := dkwX7_piece_3 ++ dktX7_piece_4
def dkwX7_piece_2 : List UInt8 := [183, 0, 107, 176, 27, 16, 40, 160, 0, 8, 42, 182, 0, 110, 176, 42, 182, 0, 60, 77, 42, 182, 0, 39]
abbrev dktX7_piece_2 : List UInt8 := dkwX7_piece_2 ++ dktX7_piece_3
def dkwX7_piece_1 : List UInt8 := [182, 0, 101, 167, 0, 4, 1, 77, 42, 89, 180, 0, 54, 4, 100, 181, 0, 54, 187, 0, 105, 89, 44]
abbrev dktX7_piece_1 : List UInt8 := dkwX7_piece_1 ++ dktX7_piece_2
def dkwX7_piece_0 : List UInt8 := [42, 182, 0, 39, 60, 27, 16, 33, 160, 0, 42, 42, 182, 0, 57, 42, 182, 0, 43, 153, 0, 10, 42]
abbrev dktX7_piece_0 : List UInt8 := dkwX7_piece_0 ++ dktX7_piece_1
theorem dksX7_piece_0 : cX7_piece.data.toList.drop 0 = dktX7_piece_0 := by decide +kernel
theorem dksX7_piece_1 : cX7_piece.data.toList.drop 23 = dktX7_piece_1 := dk_seg dksX7_piece_0 23 rfl rfl
theorem dksX7_piece_2 : cX7_piece.data.toList.drop 46 = dktX7_piece_2 := dk_seg dksX7_piece_1 23 rfl rfl
theorem dksX7_piece_3 : cX7_piece.data.toList.drop 70 = dktX7_piece_3 := dk_seg dksX7_piece_2 24 rfl rfl
theorem dksX7_piece_4 : cX7_piece.data.toList.drop 92 = dktX7_piece_4 := dk_seg dksX7_piece_3 22 rfl rfl
theorem dksX7_piece_5 : cX7_piece.data.toList.drop 115 = dktX7_piece_5 := dk_seg dksX7_piece_4 23 rfl rfl
theorem dX7_piece_0 : decode cX7_piece 0 = .ok (.aload_n 0, 1) := dk_42 (dk_at dksX7_piece_0 0 rfl rfl)
theorem dX7_piece_1 : decode cX7_piece 1 = .ok (.invokevirtual 39, 3) := dk_182 0 39 (dk_at dksX7_piece_0 1 rfl rfl)
theorem dX7_piece_4 : decode cX7_piece 4 = .ok (.istore_n 1, 1) := dk_60 (dk_at dksX7_piece_0 4 rfl rfl)
theorem dX7_piece_5 : decode cX7_piece 5 = .ok (.iload_n 1, 1) := dk_27 (dk_at dksX7_piece_0 5 rfl rfl)
theorem dX7_piece_6 : decode cX7_piece 6 = .ok (.bipush 33, 2) := dk_16 33 (dk_at dksX7_piece_0 6 rfl rfl)
theorem dX7_piece_8 : decode cX7_piece 8 = .ok (.if_icmp .ne 42, 3) := dk_160 0 42 (dk_at dksX7_piece_0 8 rfl rfl)
theorem dX7_piece_11 : decode cX7_piece 11 = .ok (.aload_n 0, 1) := dk_42 (dk_at dksX7_piece_0 11 rfl rfl)
theorem dX7_piece_12 : decode cX7_piece 12 = .ok (.invokevirtual 57, 3) := dk_182 0 57 (dk_at dksX7_piece_0 12 rfl rfl)
theorem dX7_piece_15 : decode cX7_piece 15 = .ok (.aload_n 0, 1) := dk_42 (dk_at dksX7_piece_0 15 rfl rfl)
theorem dX7_piece_16 : decode cX7_piece 16 = .ok (.invokevirtual 43, 3) := dk_182 0 43 (dk_at dksX7_piece_0 16 rfl rfl)
theorem dX7_piece_19 : decode cX7_piece 19 = .ok (.ifCond .eq 10, 3) := dk_153 0 10 (dk_at dksX7_piece_0 19 rfl rfl)
theorem dX7_piece_22 : decode cX7_piece 22 = .ok (.aload_n 0, 1) := dk_42 (dk_at dksX7_piece_0 22 rfl rfl)
theorem dX7_piece_23 : decode cX7_piece 23 = .ok (.invokevirtual 101, 3) := dk_182 0 101 (dk_at dksX7_piece_1 0 rfl rfl)
theorem dX7_piece_26 : decode cX7_piece 26 = .ok (.goto 4, 3) := dk_167 0 4 (dk_at dksX7_piece_1 3 rfl rfl)
theorem dX7_piece_29 : decode cX7_piece 29 = .ok (.aconst_null, 1) := dk_1 (dk_at dksX7_piece_1 6 rfl rfl)
theorem dX7_piece_30 : decode cX7_piece 30 = .ok (.astore_n 2, 1) := dk_77 (dk_at dksX7_piece_1 7 rfl rfl)
theorem dX7_piece_31 : decode cX7_piece 31 = .ok (.aload_n 0, 1) := dk_42 (dk_at dksX7_piece_1 8 rfl rfl)
theorem dX7_piece_32 : decode cX7_piece 32 = .ok (.dup, 1) := dk_89 (dk_at dksX7_piece_1 9 rfl rfl)
theorem dX7_piece_33 : decode cX7_piece 33 = .ok (.getfield 54, 3) := dk_180 0 54 (dk_at dksX7_piece_1 10 rfl rfl)
theorem dX7_piece_36 : decode cX7_piece 36 = .ok (.iconst 1, 1) := dk_4 (dk_at dksX7_piece_1 13 rfl rfl)
theorem dX7_piece_37 : decode cX7_piece 37 = .ok (.isub, 1) := dk_100 (dk_at dksX7_piece_1 14 rfl rfl)
theorem dX7_piece_38 : decode cX7_piece 38 = .ok (.putfield 54, 3) := dk_181 0 54 (dk_at dksX7_piece_1 15 rfl rfl)
theorem dX7_piece_41 : decode cX7_piece 41 = .ok (.new 105, 3) := dk_187 0 105 (dk_at dksX7_piece_1 18 rfl rfl)
theorem dX7_piece_44 : decode cX7_piece 44 = .ok (.dup, 1) := dk_89 (dk_at dksX7_piece_1 21 rfl rfl)
theorem dX7_piece_45 : decode cX7_piece 45 = .ok (.aload_n 2, 1) := dk_44 (dk_at dksX7_piece_1 22 rfl rfl)
theorem dX7_piece_46 : decode cX7_piece 46 = .ok (.invokespecial 107, 3) := dk_183 0 107 (dk_at dksX7_piece_2 0 rfl rfl)
theorem dX7_piece_49 : decode cX7_piece 49 = .ok (.areturn, 1) := dk_176 (dk_at dksX7_piece_2 3 rfl rfl)
theorem dX7_piece_50 : decode cX7_piece 50 = .ok (.iload_n 1, 1) := dk_27 (dk_at dksX7_piece_2 4 rfl rfl)
theorem dX7_piece_51 : decode cX7_piece 51 = .ok (.bipush 40, 2) := dk_16 40 (dk_at dksX7_piece_2 5 rfl rfl)
theorem dX7_piece_53 : decode cX7_piece 53 = .ok (.if_icmp .ne 8, 3) := dk_160 0 8 (dk_at dksX7_piece_2 7 rfl rfl)
theorem dX7_piece_56 : decode cX7_piece 56 = .ok (.aload_n 0, 1) := dk_42 (dk_at dksX7_piece_2 10 rfl rfl)
theorem dX7_piece_57 : decode cX7_piece 57 = .ok (.invokevirtual 110, 3) := dk_182 0 110 (dk_at dksX7_piece_2 11 rfl rfl)
theorem dX7_piece_60 : decode cX7_piece 60 = .ok (.areturn, 1) := dk_176 (dk_at dksX7_piece_2 14 rfl rfl)
theorem dX7_piece_61 : decode cX7_piece 61 = .ok (.aload_n 0, 1) := dk_42 (dk_at dksX7_piece_2 15 rfl rfl)
theorem dX7_piece_62 : decode cX7_piece 62 = .ok (.invokevirtual 60, 3) := dk_182 0 60 (dk_at dksX7_piece_2 16 rfl rfl)
theorem dX7_piece_65 : decode cX7_piece 65 = .ok (.astore_n 2, 1) := dk_77 (dk_at dksX7_piece_2 19 rfl rfl)
theorem dX7_piece_66 : decode cX7_piece 66 = .ok (.aload_n 0, 1) := dk_42 (dk_at dksX7_piece_2 20 rfl rfl)
theorem dX7_piece_67 : decode cX7_piece 67 = .ok (.invokevirtual 39, 3) := dk_182 0 39 (dk_at dksX7_piece_2 21 rfl rfl)
theorem dX7_piece_70 : decode cX7_piece 70 = .ok (.istore_n 3, 1) := dk_62 (dk_at dksX7_piece_3 0 rfl rfl)
theorem dX7_piece_71 : decode cX7_piece 71 = .ok (.iload_n 3, 1) := dk_29 (dk_at dksX7_piece_3 1 rfl rfl)
theorem dX7_piece_72 : decode cX7_piece 72 = .ok (.bipush 60, 2) := dk_16 60 (dk_at dksX7_piece_3 2 rfl rfl)
theorem dX7_piece_74 : decode cX7_piece 74 = .ok (.if_icmp .eq 24, 3) := dk_159 0 24 (dk_at dksX7_piece_3 4 rfl rfl)
theorem dX7_piece_77 : decode cX7_piece 77 = .ok (.iload_n 3, 1) := dk_29 (dk_at dksX7_piece_3 7 rfl rfl)
theorem dX7_piece_78 : decode cX7_piece 78 = .ok (.bipush 62, 2) := dk_16 62 (dk_at dksX7_piece_3 8 rfl rfl)
theorem dX7_piece_80 : decode cX7_piece 80 = .ok (.if_icmp .eq 18, 3) := dk_159 0 18 (dk_at dksX7_piece_3 10 rfl rfl)
theorem dX7_piece_83 : decode cX7_piece 83 = .ok (.iload_n 3, 1) := dk_29 (dk_at dksX7_piece_3 13 rfl rfl)
theorem dX7_piece_84 : decode cX7_piece 84 = .ok (.bipush 61, 2) := dk_16 61 (dk_at dksX7_piece_3 14 rfl rfl)
theorem dX7_piece_86 : decode cX7_piece 86 = .ok (.if_icmp .eq 12, 3) := dk_159 0 12 (dk_at dksX7_piece_3 16 rfl rfl)
theorem dX7_piece_89 : decode cX7_piece 89 = .ok (.aload_n 0, 1) := dk_42 (dk_at dksX7_piece_3 19 rfl rfl)
theorem dX7_piece_90 : decode cX7_piece 90 = .ok (.iconst 1, 1) := dk_4 (dk_at dksX7_piece_3 20 rfl rfl)
theorem dX7_piece_91 : decode cX7_piece 91 = .ok (.aload_n 0, 1) := dk_42 (dk_at dksX7_piece_3 21 rfl rfl)
theorem dX7_piece_92 : decode cX7_piece 92 = .ok (.getfield 26, 3) := dk_180 0 26 (dk_at dksX7_piece_4 0 rfl rfl)
theorem dX7_piece_95 : decode cX7_piece 95 = .ok (.invokevirtual 50, 3) := dk_182 0 50 (dk_at dksX7_piece_4 3 rfl rfl)
theorem dX7_piece_98 : decode cX7_piece 98 = .ok (.aload_n 0, 1) := dk_42 (dk_at dksX7_piece_4 6 rfl rfl)
theorem dX7_piece_99 : decode cX7_piece 99 = .ok (.dup, 1) := dk_89 (dk_at dksX7_piece_4 7 rfl rfl)
theorem dX7_piece_100 : decode cX7_piece 100 = .ok (.getfield 26, 3) := dk_180 0 26 (dk_at dksX7_piece_4 8 rfl rfl)
theorem dX7_piece_103 : decode cX7_piece 103 = .ok (.iconst 1, 1) := dk_4 (dk_at dksX7_piece_4 11 rfl rfl)
theorem dX7_piece_104 : decode cX7_piece 104 = .ok (.iadd, 1) := dk_96 (dk_at dksX7_piece_4 12 rfl rfl)
theorem dX7_piece_105 : decode cX7_piece 105 = .ok (.putfield 26, 3) := dk_181 0 26 (dk_at dksX7_piece_4 13 rfl rfl)
theorem dX7_piece_108 : decode cX7_piece 108 = .ok (.new 113, 3) := dk_187 0 113 (dk_at dksX7_piece_4 16 rfl rfl)
theorem dX7_piece_111 : decode cX7_piece 111 = .ok (.dup, 1) := dk_89 (dk_at dksX7_piece_4 19 rfl rfl)
theorem dX7_piece_112 : decode cX7_piece 112 = .ok (.aload_n 2, 1) := dk_44 (dk_at dksX7_piece_4 20 rfl rfl)
theorem dX7_piece_113 : decode cX7_piece 113 = .ok (.iload_n 3, 1) := dk_29 (dk_at dksX7_piece_4 21 rfl rfl)
theorem dX7_piece_114 : decode cX7_piece 114 = .ok (.aload_n 0, 1) := dk_42 (dk_at dksX7_piece_4 22 rfl rfl)
theorem dX7_piece_115 : decode cX7_piece 115 = .ok (.invokevirtual 43, 3) := dk_182 0 43 (dk_at dksX7_piece_5 0 rfl rfl)
theorem dX7_piece_118 : decode cX7_piece 118 = .ok (.ifCond .eq 10, 3) := dk_153 0 10 (dk_at dksX7_piece_5 3 rfl rfl)
theorem dX7_piece_121 : decode cX7_piece 121 = .ok (.aload_n 0, 1) := dk_42 (dk_at dksX7_piece_5 6 rfl rfl)
theorem dX7_piece_122 : decode cX7_piece 122 = .ok (.invokevirtual 60, 3) := dk_182 0 60 (dk_at dksX7_piece_5 7 rfl rfl)
theorem dX7_piece_125 : decode cX7_piece 125 = .ok (.goto 4, 3) := dk_167 0 4 (dk_at dksX7_piece_5 10 rfl rfl)
theorem dX7_piece_128 : decode cX7_piece 128 = .ok (.aconst_null, 1) := dk_1 (dk_at dksX7_piece_5 13 rfl rfl)
theorem dX7_piece_129 : decode cX7_piece 129 = .ok (.invokespecial 115, 3) := dk_183 0 115 (dk_at dksX7_piece_5 14 rfl rfl)
theorem dX7_piece_132 : decode cX7_piece 132 = .ok (.areturn, 1) := dk_176 (dk_at dksX7_piece_5 17 rfl rfl)
theorem q108 : (Jvm.Cond.initialized "AnyKeyTown$Reader") ∈ lw_all := lw_g (lw_at lw_m1 8 rfl) rfl
theorem q269 : (Jvm.Cond.fieldLinkNest "AnyKeyTown$Reader" (134 : Nat) "AnyKeyTown$Text" "letters" "[I" "AnyKeyTown") ∈ lw_tbl := lw_at lw_m1 169 rfl
theorem q271 : (Jvm.Cond.fieldLinkNest "AnyKeyTown$Reader" (138 : Nat) "AnyKeyTown$Text" "sums" "[LAnyKeyTown$Sum;" "AnyKeyTown") ∈ lw_tbl := lw_at lw_m1 171 rfl
theorem q273 : (Jvm.Cond.fieldLinkNest "AnyKeyTown$Reader" (142 : Nat) "AnyKeyTown$Text" "conditions" "[LAnyKeyTown$Condition;" "AnyKeyTown") ∈ lw_tbl := lw_at lw_m1 173 rfl
theorem q275 : (Jvm.Cond.fieldLinkNest "AnyKeyTown$Reader" (131 : Nat) "AnyKeyTown$Text" "many" "I" "AnyKeyTown") ∈ lw_tbl := lw_at lw_m1 175 rfl
theorem q300 : (Jvm.Cond.fieldLinkNest "AnyKeyTown$Reader" (29 : Nat) "AnyKeyTown" "tape" "[B" "AnyKeyTown") ∈ lw_tbl := lw_at lw_m1 200 rfl
theorem q372 : (Jvm.Cond.instantiable "AnyKeyTown$Reader" (7 : Nat)) ∈ lw_all := lw_g (lw_at lw_m2 32 rfl) rfl
theorem q374 : (Jvm.Cond.instanceMethod ({ cls := "AnyKeyTown$Reader", name := "<init>", desc := "(LAnyKeyTown;I)V" } : Jvm.MethodName)) ∈ lw_all := lw_g (lw_at lw_m2 34 rfl) rfl
theorem q375 : (Jvm.Cond.code ({ cls := "AnyKeyTown$Reader", name := "<init>", desc := "(LAnyKeyTown;I)V" } : Jvm.MethodName) prog_11_method_1_code (3 : Nat) (Option.none : Option Jvm.ClassFile.FieldType)) ∈ lw_all := lw_g (lw_at lw_m2 35 rfl) rfl
theorem q376 : (Jvm.Cond.methodLink "AnyKeyTown$Reader" (9 : Nat) ({ cls := "java/lang/Object", name := "<init>", desc := "()V" } : Jvm.MethodName)) ∈ lw_all := lw_g (lw_at lw_m2 36 rfl) rfl
theorem q377 : (Jvm.Cond.classLink "AnyKeyTown$Reader" (15 : Nat) "AnyKeyTown$Text") ∈ lw_all := lw_g (lw_at lw_m2 37 rfl) rfl
theorem q378 : (Jvm.Cond.methodLinkNest "AnyKeyTown$Reader" (17 : Nat) ({ cls := "AnyKeyTown$Text", name := "<init>", desc := "()V" } : Jvm.MethodName) "AnyKeyTown") ∈ lw_tbl := lw_at lw_m2 38 rfl
theorem q379 : (Jvm.Cond.fieldLink "AnyKeyTown$Reader" (22 : Nat) "AnyKeyTown$Reader" "n" "I") ∈ lw_all := lw_g (lw_at lw_m2 39 rfl) rfl
theorem q380 : (Jvm.Cond.fieldLink "AnyKeyTown$Reader" (18 : Nat) "AnyKeyTown$Reader" "text" "LAnyKeyTown$Text;") ∈ lw_all := lw_g (lw_at lw_m2 40 rfl) rfl
theorem q382 : (Jvm.Cond.fieldLink "AnyKeyTown$Reader" (26 : Nat) "AnyKeyTown$Reader" "at" "I") ∈ lw_all := lw_g (lw_at lw_m2 42 rfl) rfl
theorem q383 : (Jvm.Cond.fieldLink "AnyKeyTown$Reader" (54 : Nat) "AnyKeyTown$Reader" "open" "I") ∈ lw_all := lw_g (lw_at lw_m2 43 rfl) rfl
theorem q384 : (Jvm.Cond.fieldLink "AnyKeyTown$Reader" (33 : Nat) "AnyKeyTown$Reader" "fault" "I") ∈ lw_all := lw_g (lw_at lw_m2 44 rfl) rfl
theorem q385 : (Jvm.Cond.fieldLink "AnyKeyTown$Reader" (36 : Nat) "AnyKeyTown$Reader" "place" "I") ∈ lw_all := lw_g (lw_at lw_m2 45 rfl) rfl
theorem q386 : (Jvm.Cond.fieldLink "AnyKeyTown$Reader" (3 : Nat) "AnyKeyTown$Reader" "this$0" "LAnyKeyTown;") ∈ lw_all := lw_g (lw_at lw_m2 46 rfl) rfl
theorem q387 : (Jvm.Cond.laysFinal "AnyKeyTown$Reader" "AnyKeyTown$Reader" "n" "I") ∈ lw_all := lw_g (lw_at lw_m2 47 rfl) rfl
theorem q388 : (Jvm.Cond.soleField "AnyKeyTown$Reader" "n") ∈ lw_all := lw_g (lw_at lw_m2 48 rfl) rfl
theorem q389 : (Jvm.Cond.laysFinal "AnyKeyTown$Reader" "AnyKeyTown$Reader" "text" "LAnyKeyTown$Text;") ∈ lw_all := lw_g (lw_at lw_m2 49 rfl) rfl
theorem q390 : (Jvm.Cond.soleField "AnyKeyTown$Reader" "text") ∈ lw_all := lw_g (lw_at lw_m2 50 rfl) rfl
theorem q391 : (Jvm.Cond.lays "AnyKeyTown$Reader" "AnyKeyTown$Reader" "at" "I") ∈ lw_all := lw_g (lw_at lw_m2 51 rfl) rfl
theorem q392 : (Jvm.Cond.soleField "AnyKeyTown$Reader" "at") ∈ lw_all := lw_g (lw_at lw_m2 52 rfl) rfl
theorem q393 : (Jvm.Cond.lays "AnyKeyTown$Reader" "AnyKeyTown$Reader" "open" "I") ∈ lw_all := lw_g (lw_at lw_m2 53 rfl) rfl
theorem q394 : (Jvm.Cond.soleField "AnyKeyTown$Reader" "open") ∈ lw_all := lw_g (lw_at lw_m2 54 rfl) rfl
theorem q395 : (Jvm.Cond.lays "AnyKeyTown$Reader" "AnyKeyTown$Reader" "fault" "I") ∈ lw_all := lw_g (lw_at lw_m2 55 rfl) rfl
theorem q396 : (Jvm.Cond.soleField "AnyKeyTown$Reader" "fault") ∈ lw_all := lw_g (lw_at lw_m2 56 rfl) rfl
theorem q397 : (Jvm.Cond.lays "AnyKeyTown$Reader" "AnyKeyTown$Reader" "place" "I") ∈ lw_all := lw_g (lw_at lw_m2 57 rfl) rfl
theorem q398 : (Jvm.Cond.soleField "AnyKeyTown$Reader" "place") ∈ lw_all := lw_g (lw_at lw_m2 58 rfl) rfl
theorem q399 : (Jvm.Cond.laysFinal "AnyKeyTown$Reader" "AnyKeyTown$Reader" "this$0" "LAnyKeyTown;") ∈ lw_all := lw_g (lw_at lw_m2 59 rfl) rfl
theorem q400 : (Jvm.Cond.soleField "AnyKeyTown$Reader" "this$0") ∈ lw_all := lw_g (lw_at lw_m2 60 rfl) rfl
theorem q401 : (Jvm.Cond.superclass "AnyKeyTown$Reader" "java/lang/Object") ∈ lw_all := lw_g (lw_at lw_m2 61 rfl) rfl
theorem q403 : (Jvm.Cond.instanceMethod ({ cls := "AnyKeyTown$Reader", name := "read", desc := "()I" } : Jvm.MethodName)) ∈ lw_all := lw_g (lw_at lw_m2 63 rfl) rfl
theorem q404 : (Jvm.Cond.selects "AnyKeyTown$Reader" ({ cls := "AnyKeyTown$Reader", name := "read", desc := "()I" } : Jvm.MethodName) ({ cls := "AnyKeyTown$Reader", name := "read", desc := "()I" } : Jvm.MethodName)) ∈ lw_all := lw_g (lw_at lw_m2 64 rfl) rfl
theorem q405 : (Jvm.Cond.code ({ cls := "AnyKeyTown$Reader", name := "read", desc := "()I" } : Jvm.MethodName) prog_11_method_16_code (2 : Nat) (Option.some Jvm.ClassFile.FieldType.int)) ∈ lw_all := lw_g (lw_at lw_m2 65 rfl) rfl
theorem q406 : (Jvm.Cond.methodLink "AnyKeyTown$Reader" (43 : Nat) ({ cls := "AnyKeyTown$Reader", name := "isGood", desc := "()Z" } : Jvm.MethodName)) ∈ lw_all := lw_g (lw_at lw_m2 66 rfl) rfl
theorem q407 : (Jvm.Cond.privateMethod ({ cls := "AnyKeyTown$Reader", name := "isGood", desc := "()Z" } : Jvm.MethodName)) ∈ lw_tbl := lw_at lw_m2 67 rfl
theorem q408 : (Jvm.Cond.instanceMethod ({ cls := "AnyKeyTown$Reader", name := "isGood", desc := "()Z" } : Jvm.MethodName)) ∈ lw_all := lw_g (lw_at lw_m2 68 rfl) rfl
theorem q409 : (Jvm.Cond.code ({ cls := "AnyKeyTown$Reader", name := "isGood", desc := "()Z" } : Jvm.MethodName) prog_11_method_3_code (1 : Nat) (Option.some Jvm.ClassFile.FieldType.boolean)) ∈ lw_all := lw_g (lw_at lw_m2 69 rfl) rfl
theorem q410 : (Jvm.Cond.methodLink "AnyKeyTown$Reader" (146 : Nat) ({ cls := "AnyKeyTown$Reader", name := "clause", desc := "()V" } : Jvm.MethodName)) ∈ lw_all := lw_g (lw_at lw_m2 70 rfl) rfl
theorem q411 : (Jvm.Cond.privateMethod ({ cls := "AnyKeyTown$Reader", name := "clause", desc := "()V" } : Jvm.MethodName)) ∈ lw_tbl := lw_at lw_m2 71 rfl
theorem q412 : (Jvm.Cond.instanceMethod ({ cls := "AnyKeyTown$Reader", name := "clause", desc := "()V" } : Jvm.MethodName)) ∈ lw_all := lw_g (lw_at lw_m2 72 rfl) rfl
theorem q413 : (Jvm.Cond.code ({ cls := "AnyKeyTown$Reader", name := "clause", desc := "()V" } : Jvm.MethodName) prog_11_method_15_code (4 : Nat) (Option.none : Option Jvm.ClassFile.FieldType)) ∈ lw_all := lw_g (lw_at lw_m2 73 rfl) rfl
theorem q414 : (Jvm.Cond.methodLink "AnyKeyTown$Reader" (39 : Nat) ({ cls := "AnyKeyTown$Reader", name := "here", desc := "()I" } : Jvm.MethodName)) ∈ lw_all := lw_g (lw_at lw_m2 74 rfl) rfl
theorem q415 : (Jvm.Cond.privateMethod ({ cls := "AnyKeyTown$Reader", name := "here", desc := "()I" } : Jvm.MethodName)) ∈ lw_tbl := lw_at lw_m2 75 rfl
theorem q416 : (Jvm.Cond.instanceMethod ({ cls := "AnyKeyTown$Reader", name := "here", desc := "()I" } : Jvm.MethodName)) ∈ lw_all := lw_g (lw_at lw_m2 76 rfl) rfl
theorem q417 : (Jvm.Cond.code ({ cls := "AnyKeyTown$Reader", name := "here", desc := "()I" } : Jvm.MethodName) prog_11_method_2_code (1 : Nat) (Option.some Jvm.ClassFile.FieldType.int)) ∈ lw_all := lw_g (lw_at lw_m2 77 rfl) rfl
theorem q418 : (Jvm.Cond.stringRef "AnyKeyTown$Reader" (129 : Nat) "ebx") ∈ lw_tbl := lw_at lw_m2 78 rfl
theorem q419 : (Jvm.Cond.methodLink "AnyKeyTown$Reader" (77 : Nat) ({ cls := "java/lang/String", name := "indexOf", desc := "(I)I" } : Jvm.MethodName)) ∈ lw_all := lw_g (lw_at lw_m2 79 rfl) rfl
theorem q505 : (Jvm.Cond.methodLink "AnyKeyTown$Reader" (50 : Nat) ({ cls := "AnyKeyTown$Reader", name := "bad", desc := "(II)V" } : Jvm.MethodName)) ∈ lw_all := lw_g (lw_at lw_m2 165 rfl) rfl
theorem q506 : (Jvm.Cond.privateMethod ({ cls := "AnyKeyTown$Reader", name := "bad", desc := "(II)V" } : Jvm.MethodName)) ∈ lw_tbl := lw_at lw_m2 166 rfl
theorem q507 : (Jvm.Cond.instanceMethod ({ cls := "AnyKeyTown$Reader", name := "bad", desc := "(II)V" } : Jvm.MethodName)) ∈ lw_all := lw_g (lw_at lw_m2 167 rfl) rfl
theorem q508 : (Jvm.Cond.code ({ cls := "AnyKeyTown$Reader", name := "bad", desc := "(II)V" } : Jvm.MethodName) prog_11_method_4_code (3 : Nat) (Option.none : Option Jvm.ClassFile.FieldType)) ∈ lw_all := lw_g (lw_at lw_m2 168 rfl) rfl
theorem q509 : (Jvm.Cond.methodLink "AnyKeyTown$Reader" (60 : Nat) ({ cls := "AnyKeyTown$Reader", name := "sum", desc := "()LAnyKeyTown$Sum;" } : Jvm.MethodName)) ∈ lw_all := lw_g (lw_at lw_m2 169 rfl) rfl
theorem q510 : (Jvm.Cond.privateMethod ({ cls := "AnyKeyTown$Reader", name := "sum", desc := "()LAnyKeyTown$Sum;" } : Jvm.MethodName)) ∈ lw_tbl := lw_at lw_m2 170 rfl
theorem q511 : (Jvm.Cond.instanceMethod ({ cls := "AnyKeyTown$Reader", name := "sum", desc := "()LAnyKeyTown$Sum;" } : Jvm.MethodName)) ∈ lw_all := lw_g (lw_at lw_m2 171 rfl) rfl
theorem q512 : (Jvm.Cond.code ({ cls := "AnyKeyTown$Reader", name := "sum", desc := "()LAnyKeyTown$Sum;" } : Jvm.MethodName) prog_11_method_11_code (4 : Nat) (Option.some (Jvm.ClassFile.FieldType.object "AnyKeyTown$Sum"))) ∈ lw_all := lw_g (lw_at lw_m2 172 rfl) rfl
theorem q513 : (Jvm.Cond.classLink "AnyKeyTown$Reader" (86 : Nat) "AnyKeyTown$Row") ∈ lw_all := lw_g (lw_at lw_m2 173 rfl) rfl
theorem q515 : (Jvm.Cond.methodLink "AnyKeyTown$Reader" (98 : Nat) ({ cls := "AnyKeyTown$Reader", name := "product", desc := "()LAnyKeyTown$Sum;" } : Jvm.MethodName)) ∈ lw_all := lw_g (lw_at lw_m2 175 rfl) rfl
theorem q516 : (Jvm.Cond.privateMethod ({ cls := "AnyKeyTown$Reader", name := "product", desc := "()LAnyKeyTown$Sum;" } : Jvm.MethodName)) ∈ lw_tbl := lw_at lw_m2 176 rfl
theorem q517 : (Jvm.Cond.instanceMethod ({ cls := "AnyKeyTown$Reader", name := "product", desc := "()LAnyKeyTown$Sum;" } : Jvm.MethodName)) ∈ lw_all := lw_g (lw_at lw_m2 177 rfl) rfl
theorem q518 : (Jvm.Cond.code ({ cls := "AnyKeyTown$Reader", name := "product", desc := "()LAnyKeyTown$Sum;" } : Jvm.MethodName) prog_11_method_10_code (4 : Nat) (Option.some (Jvm.ClassFile.FieldType.object "AnyKeyTown$Sum"))) ∈ lw_all := lw_g (lw_at lw_m2 178 rfl) rfl
theorem q519 : (Jvm.Cond.methodLink "AnyKeyTown$Reader" (88 : Nat) ({ cls := "AnyKeyTown$Reader", name := "factor", desc := "()LAnyKeyTown$Sum;" } : Jvm.MethodName)) ∈ lw_all := lw_g (lw_at lw_m2 179 rfl) rfl
theorem q520 : (Jvm.Cond.privateMethod ({ cls := "AnyKeyTown$Reader", name := "factor", desc := "()LAnyKeyTown$Sum;" } : Jvm.MethodName)) ∈ lw_tbl := lw_at lw_m2 180 rfl
theorem q521 : (Jvm.Cond.instanceMethod ({ cls := "AnyKeyTown$Reader", name := "factor", desc := "()LAnyKeyTown$Sum;" } : Jvm.MethodName)) ∈ lw_all := lw_g (lw_at lw_m2 181 rfl) rfl
theorem q522 : (Jvm.Cond.code ({ cls := "AnyKeyTown$Reader", name := "factor", desc := "()LAnyKeyTown$Sum;" } : Jvm.MethodName) prog_11_method_9_code (3 : Nat) (Option.some (Jvm.ClassFile.FieldType.object "AnyKeyTown$Sum"))) ∈ lw_all := lw_g (lw_at lw_m2 182 rfl) rfl
theorem q523 : (Jvm.Cond.methodLink "AnyKeyTown$Reader" (57 : Nat) ({ cls := "AnyKeyTown$Reader", name := "opens", desc := "()V" } : Jvm.MethodName)) ∈ lw_all := lw_g (lw_at lw_m2 183 rfl) rfl
theorem q524 : (Jvm.Cond.privateMethod ({ cls := "AnyKeyTown$Reader", name := "opens", desc := "()V" } : Jvm.MethodName)) ∈ lw_tbl := lw_at lw_m2 184 rfl
theorem q525 : (Jvm.Cond.instanceMethod ({ cls := "AnyKeyTown$Reader", name := "opens", desc := "()V" } : Jvm.MethodName)) ∈ lw_all := lw_g (lw_at lw_m2 185 rfl) rfl
theorem q526 : (Jvm.Cond.code ({ cls := "AnyKeyTown$Reader", name := "opens", desc := "()V" } : Jvm.MethodName) prog_11_method_8_code (1 : Nat) (Option.none : Option Jvm.ClassFile.FieldType)) ∈ lw_all := lw_g (lw_at lw_m2 186 rfl) rfl
theorem q527 : (Jvm.Cond.methodLink "AnyKeyTown$Reader" (64 : Nat) ({ cls := "AnyKeyTown$Reader", name := "must", desc := "(I)V" } : Jvm.MethodName)) ∈ lw_all := lw_g (lw_at lw_m2 187 rfl) rfl
theorem q528 : (Jvm.Cond.privateMethod ({ cls := "AnyKeyTown$Reader", name := "must", desc := "(I)V" } : Jvm.MethodName)) ∈ lw_tbl := lw_at lw_m2 188 rfl
theorem q529 : (Jvm.Cond.instanceMethod ({ cls := "AnyKeyTown$Reader", name := "must", desc := "(I)V" } : Jvm.MethodName)) ∈ lw_all := lw_g (lw_at lw_m2 189 rfl) rfl
theorem q530 : (Jvm.Cond.code ({ cls := "AnyKeyTown$Reader", name := "must", desc := "(I)V" } : Jvm.MethodName) prog_11_method_7_code (2 : Nat) (Option.none : Option Jvm.ClassFile.FieldType)) ∈ lw_all := lw_g (lw_at lw_m2 190 rfl) rfl
theorem q531 : (Jvm.Cond.methodLink "AnyKeyTown$Reader" (47 : Nat) ({ cls := "AnyKeyTown$Reader", name := "seesDigit", desc := "()Z" } : Jvm.MethodName)) ∈ lw_all := lw_g (lw_at lw_m2 191 rfl) rfl
theorem q532 : (Jvm.Cond.privateMethod ({ cls := "AnyKeyTown$Reader", name := "seesDigit", desc := "()Z" } : Jvm.MethodName)) ∈ lw_tbl := lw_at lw_m2 192 rfl
theorem q533 : (Jvm.Cond.instanceMethod ({ cls := "AnyKeyTown$Reader", name := "seesDigit", desc := "()Z" } : Jvm.MethodName)) ∈ lw_all := lw_g (lw_at lw_m2 193 rfl) rfl
theorem q534 : (Jvm.Cond.code ({ cls := "AnyKeyTown$Reader", name := "seesDigit", desc := "()Z" } : Jvm.MethodName) prog_11_method_5_code (1 : Nat) (Option.some Jvm.ClassFile.FieldType.boolean)) ∈ lw_all := lw_g (lw_at lw_m2 194 rfl) rfl
theorem q535 : (Jvm.Cond.classLink "AnyKeyTown$Reader" (68 : Nat) "AnyKeyTown$Number") ∈ lw_all := lw_g (lw_at lw_m2 195 rfl) rfl
theorem q537 : (Jvm.Cond.methodLink "AnyKeyTown$Reader" (70 : Nat) ({ cls := "AnyKeyTown$Reader", name := "number", desc := "()I" } : Jvm.MethodName)) ∈ lw_all := lw_g (lw_at lw_m2 197 rfl) rfl
theorem q538 : (Jvm.Cond.privateMethod ({ cls := "AnyKeyTown$Reader", name := "number", desc := "()I" } : Jvm.MethodName)) ∈ lw_tbl := lw_at lw_m2 198 rfl
theorem q539 : (Jvm.Cond.instanceMethod ({ cls := "AnyKeyTown$Reader", name := "number", desc := "()I" } : Jvm.MethodName)) ∈ lw_all := lw_g (lw_at lw_m2 199 rfl) rfl
theorem q540 : (Jvm.Cond.code ({ cls := "AnyKeyTown$Reader", name := "number", desc := "()I" } : Jvm.MethodName) prog_11_method_6_code (3 : Nat) (Option.some Jvm.ClassFile.FieldType.int)) ∈ lw_all := lw_g (lw_at lw_m2 200 rfl) rfl
theorem q541 : (Jvm.Cond.methodLink "AnyKeyTown$Reader" (73 : Nat) ({ cls := "AnyKeyTown$Number", name := "<init>", desc := "(I)V" } : Jvm.MethodName)) ∈ lw_all := lw_g (lw_at lw_m2 201 rfl) rfl
theorem q552 : (Jvm.Cond.stringRef "AnyKeyTown$Reader" (75 : Nat) "pqhdfgnotw") ∈ lw_tbl := lw_at lw_m2 212 rfl
theorem q553 : (Jvm.Cond.classLink "AnyKeyTown$Reader" (83 : Nat) "AnyKeyTown$Letter") ∈ lw_all := lw_g (lw_at lw_m2 213 rfl) rfl
theorem q555 : (Jvm.Cond.methodLink "AnyKeyTown$Reader" (85 : Nat) ({ cls := "AnyKeyTown$Letter", name := "<init>", desc := "(I)V" } : Jvm.MethodName)) ∈ lw_all := lw_g (lw_at lw_m2 215 rfl) rfl
theorem q563 : (Jvm.Cond.methodLink "AnyKeyTown$Reader" (91 : Nat) ({ cls := "AnyKeyTown$Row", name := "<init>", desc := "(ILAnyKeyTown$Sum;)V" } : Jvm.MethodName)) ∈ lw_all := lw_g (lw_at lw_m2 223 rfl) rfl
theorem q570 : (Jvm.Cond.fieldLinkNest "AnyKeyTown$Reader" (94 : Nat) "AnyKeyTown$Row" "next" "LAnyKeyTown$Row;" "AnyKeyTown") ∈ lw_tbl := lw_at lw_m2 230 rfl
theorem q578 : (Jvm.Cond.methodLink "AnyKeyTown$Reader" (110 : Nat) ({ cls := "AnyKeyTown$Reader", name := "condition", desc := "()LAnyKeyTown$Condition;" } : Jvm.MethodName)) ∈ lw_all := lw_g (lw_at lw_m2 238 rfl) rfl
theorem q579 : (Jvm.Cond.privateMethod ({ cls := "AnyKeyTown$Reader", name := "condition", desc := "()LAnyKeyTown$Condition;" } : Jvm.MethodName)) ∈ lw_tbl := lw_at lw_m2 239 rfl
theorem q580 : (Jvm.Cond.instanceMethod ({ cls := "AnyKeyTown$Reader", name := "condition", desc := "()LAnyKeyTown$Condition;" } : Jvm.MethodName)) ∈ lw_all := lw_g (lw_at lw_m3 0 rfl) rfl
theorem q581 : (Jvm.Cond.code ({ cls := "AnyKeyTown$Reader", name := "condition", desc := "()LAnyKeyTown$Condition;" } : Jvm.MethodName) prog_11_method_14_code (3 : Nat) (Option.some (Jvm.ClassFile.FieldType.object "AnyKeyTown$Condition"))) ∈ lw_all := lw_g (lw_at lw_m3 1 rfl) rfl
theorem q582 : (Jvm.Cond.classLink "AnyKeyTown$Reader" (118 : Nat) "AnyKeyTown$Some") ∈ lw_all := lw_g (lw_at lw_m3 2 rfl) rfl
theorem q584 : (Jvm.Cond.methodLink "AnyKeyTown$Reader" (126 : Nat) ({ cls := "AnyKeyTown$Reader", name := "pieces", desc := "()LAnyKeyTown$Condition;" } : Jvm.MethodName)) ∈ lw_all := lw_g (lw_at lw_m3 4 rfl) rfl
theorem q585 : (Jvm.Cond.privateMethod ({ cls := "AnyKeyTown$Reader", name := "pieces", desc := "()LAnyKeyTown$Condition;" } : Jvm.MethodName)) ∈ lw_tbl := lw_at lw_m3 5 rfl
theorem q586 : (Jvm.Cond.instanceMethod ({ cls := "AnyKeyTown$Reader", name := "pieces", desc := "()LAnyKeyTown$Condition;" } : Jvm.MethodName)) ∈ lw_all := lw_g (lw_at lw_m3 6 rfl) rfl
theorem q587 : (Jvm.Cond.code ({ cls := "AnyKeyTown$Reader", name := "pieces", desc := "()LAnyKeyTown$Condition;" } : Jvm.MethodName) prog_11_method_13_code (3 : Nat) (Option.some (Jvm.ClassFile.FieldType.object "AnyKeyTown$Condition"))) ∈ lw_all := lw_g (lw_at lw_m3 7 rfl) rfl
theorem q588 : (Jvm.Cond.methodLink "AnyKeyTown$Reader" (101 : Nat) ({ cls := "AnyKeyTown$Reader", name := "piece", desc := "()LAnyKeyTown$Condition;" } : Jvm.MethodName)) ∈ lw_all := lw_g (lw_at lw_m3 8 rfl) rfl
theorem q589 : (Jvm.Cond.privateMethod ({ cls := "AnyKeyTown$Reader", name := "piece", desc := "()LAnyKeyTown$Condition;" } : Jvm.MethodName)) ∈ lw_tbl := lw_at lw_m3 9 rfl
theorem q590 : (Jvm.Cond.instanceMethod ({ cls := "AnyKeyTown$Reader", name := "piece", desc := "()LAnyKeyTown$Condition;" } : Jvm.MethodName)) ∈ lw_all := lw_g (lw_at lw_m3 10 rfl) rfl
theorem q591 : (Jvm.Cond.code ({ cls := "AnyKeyTown$Reader", name := "piece", desc := "()LAnyKeyTown$Condition;" } : Jvm.MethodName) prog_11_method_12_code (4 : Nat) (Option.some (Jvm.ClassFile.FieldType.object "AnyKeyTown$Condition"))) ∈ lw_all := lw_g (lw_at lw_m3 11 rfl) rfl
theorem q592 : (Jvm.Cond.classLink "AnyKeyTown$Reader" (105 : Nat) "AnyKeyTown$Not") ∈ lw_all := lw_g (lw_at lw_m3 12 rfl) rfl
theorem q594 : (Jvm.Cond.methodLink "AnyKeyTown$Reader" (107 : Nat) ({ cls := "AnyKeyTown$Not", name := "<init>", desc := "(LAnyKeyTown$Condition;)V" } : Jvm.MethodName)) ∈ lw_all := lw_g (lw_at lw_m3 14 rfl) rfl
theorem q605 : (Jvm.Cond.classLink "AnyKeyTown$Reader" (113 : Nat) "AnyKeyTown$Compared") ∈ lw_all := lw_g (lw_at lw_m3 25 rfl) rfl
theorem q607 : (Jvm.Cond.methodLink "AnyKeyTown$Reader" (115 : Nat) ({ cls := "AnyKeyTown$Compared", name := "<init>", desc := "(LAnyKeyTown$Sum;ILAnyKeyTown$Sum;)V" } : Jvm.MethodName)) ∈ lw_all := lw_g (lw_at lw_m3 27 rfl) rfl
theorem q621 : (Jvm.Cond.methodLink "AnyKeyTown$Reader" (120 : Nat) ({ cls := "AnyKeyTown$Some", name := "<init>", desc := "(LAnyKeyTown$Condition;I)V" } : Jvm.MethodName)) ∈ lw_all := lw_g (lw_at lw_m3 41 rfl) rfl
theorem q628 : (Jvm.Cond.fieldLinkNest "AnyKeyTown$Reader" (123 : Nat) "AnyKeyTown$Some" "next" "LAnyKeyTown$Some;" "AnyKeyTown") ∈ lw_tbl := lw_at lw_m3 48 rfl
theorem in_X7 : ∀ w ∈ wsX70, w ∈ lw_all := lw_in wsX70 [387, 389, 391, 393, 395, 397, 399] (by decide +kernel) (by decide +kernel)
/-! AnyKeyTown$Sum -/
set_option maxRecDepth 100000
def RX8 : String := "AnyKeyTown$Sum"
abbrev cX8_init : ByteArray := prog_16_method_1_code
def yX8_init : MethodName := ⟨RX8, "<init>", "()V"⟩
theorem dX8_init_0 : decode cX8_init 0 = .ok (.aload_n 0, 1) := by decide +kernel
theorem dX8_init_1 : decode cX8_init 1 = .ok (.invokespecial 1, 3) := by decide +kernel
theorem dX8_init_4 : decode cX8_init 4 = .ok (.return_, 1) := by decide +kernel
abbrev cX8_told : ByteArray := prog_16_method_3_code
def yX8_told : MethodName := ⟨RX8, "told", "(LAnyKeyTown$Asked;)I"⟩
def dkwX8_told_0 : List UInt8 := [43, 3, 181, 0, 7, 42, 43, 182, 0, 13, 61, 43, 180, 0, 7, 153, 0, 7, 3, 167, 0, 4, 28, 172]
abbrev dktX8_told_0 : List UInt8 := dkwX8_told_0 ++ []
theorem dksX8_told_0 : cX8_told.data.toList.drop 0 = dktX8_told_0 := by decide +kernel
theorem dX8_told_0 : decode cX8_told 0 = .ok (.aload_n 1, 1) := dk_43 (dk_at dksX8_told_0 0 rfl rfl)
theorem dX8_told_1 : decode cX8_told 1 = .ok (.iconst 0, 1) := dk_3 (dk_at dksX8_told_0 1 rfl rfl)
theorem dX8_told_2 : decode cX8_told 2 = .ok (.putfield 7, 3) := dk_181 0 7 (dk_at dksX8_told_0 2 rfl rfl)
theorem dX8_told_5 : decode cX8_told 5 = .ok (.aload_n 0, 1) := dk_42 (dk_at dksX8_told_0 5 rfl rfl)
theorem dX8_told_6 : decode cX8_told 6 = .ok (.aload_n 1, 1) := dk_43 (dk_at dksX8_told_0 6 rfl rfl)
theorem dX8_told_7 : decode cX8_told 7 = .ok (.invokevirtual 13, 3) := dk_182 0 13 (dk_at dksX8_told_0 7 rfl rfl)
theorem dX8_told_10 : decode cX8_told 10 = .ok (.istore_n 2, 1) := dk_61 (dk_at dksX8_told_0 10 rfl rfl)
theorem dX8_told_11 : decode cX8_told 11 = .ok (.aload_n 1, 1) := dk_43 (dk_at dksX8_told_0 11 rfl rfl)
theorem dX8_told_12 : decode cX8_told 12 = .ok (.getfield 7, 3) := dk_180 0 7 (dk_at dksX8_told_0 12 rfl rfl)
theorem dX8_told_15 : decode cX8_told 15 = .ok (.ifCond .eq 7, 3) := dk_153 0 7 (dk_at dksX8_told_0 15 rfl rfl)
theorem dX8_told_18 : decode cX8_told 18 = .ok (.iconst 0, 1) := dk_3 (dk_at dksX8_told_0 18 rfl rfl)
theorem dX8_told_19 : decode cX8_told 19 = .ok (.goto 4, 3) := dk_167 0 4 (dk_at dksX8_told_0 19 rfl rfl)
theorem dX8_told_22 : decode cX8_told 22 = .ok (.iload_n 2, 1) := dk_28 (dk_at dksX8_told_0 22 rfl rfl)
theorem dX8_told_23 : decode cX8_told 23 = .ok (.ireturn, 1) := dk_172 (dk_at dksX8_told_0 23 rfl rfl)
theorem q115 : (Jvm.Cond.initialized "AnyKeyTown$Sum") ∈ lw_all := lw_g (lw_at lw_m1 15 rfl) rfl
theorem q189 : (Jvm.Cond.fieldLinkNest "AnyKeyTown$Sum" (7 : Nat) "AnyKeyTown$Asked" "isRefused" "Z" "AnyKeyTown") ∈ lw_tbl := lw_at lw_m1 89 rfl
theorem q545 : (Jvm.Cond.instanceMethod ({ cls := "AnyKeyTown$Sum", name := "<init>", desc := "()V" } : Jvm.MethodName)) ∈ lw_all := lw_g (lw_at lw_m2 205 rfl) rfl
theorem q546 : (Jvm.Cond.code ({ cls := "AnyKeyTown$Sum", name := "<init>", desc := "()V" } : Jvm.MethodName) prog_16_method_1_code (1 : Nat) (Option.none : Option Jvm.ClassFile.FieldType)) ∈ lw_all := lw_g (lw_at lw_m2 206 rfl) rfl
theorem q547 : (Jvm.Cond.methodLink "AnyKeyTown$Sum" (1 : Nat) ({ cls := "java/lang/Object", name := "<init>", desc := "()V" } : Jvm.MethodName)) ∈ lw_all := lw_g (lw_at lw_m2 207 rfl) rfl
theorem q881 : (Jvm.Cond.declares ({ cls := "AnyKeyTown$Sum", name := "worth", desc := "(LAnyKeyTown$Asked;)I" } : Jvm.MethodName)) ∈ lw_tbl := lw_at lw_m4 61 rfl
theorem q882 : (Jvm.Cond.sameMethod "AnyKeyTown$Sum" "AnyKeyTown$Sum" "worth" "(LAnyKeyTown$Asked;)I") ∈ lw_all := lw_g (lw_at lw_m4 62 rfl) rfl
theorem q933 : (Jvm.Cond.instanceMethod ({ cls := "AnyKeyTown$Sum", name := "told", desc := "(LAnyKeyTown$Asked;)I" } : Jvm.MethodName)) ∈ lw_all := lw_g (lw_at lw_m4 113 rfl) rfl
theorem q934 : (Jvm.Cond.sameMethod "AnyKeyTown$Sum" "AnyKeyTown$Sum" "told" "(LAnyKeyTown$Asked;)I") ∈ lw_all := lw_g (lw_at lw_m4 114 rfl) rfl
theorem q938 : (Jvm.Cond.code ({ cls := "AnyKeyTown$Sum", name := "told", desc := "(LAnyKeyTown$Asked;)I" } : Jvm.MethodName) prog_16_method_3_code (3 : Nat) (Option.some Jvm.ClassFile.FieldType.int)) ∈ lw_all := lw_g (lw_at lw_m4 118 rfl) rfl
theorem q939 : (Jvm.Cond.methodLink "AnyKeyTown$Sum" (13 : Nat) ({ cls := "AnyKeyTown$Sum", name := "worth", desc := "(LAnyKeyTown$Asked;)I" } : Jvm.MethodName)) ∈ lw_all := lw_g (lw_at lw_m4 119 rfl) rfl
/-! AnyKeyTown$Row -/
set_option maxRecDepth 100000
def RX9 : String := "AnyKeyTown$Row"
def TX9 : u_T := fun k => match k with
  | 0 => ("AnyKeyTown$Row", "sign", "I", true)
  | 1 => ("AnyKeyTown$Row", "part", "LAnyKeyTown$Sum;", true)
  | _ => ("AnyKeyTown$Row", "next", "LAnyKeyTown$Row;", false)
def tyX9 : Nat → FieldType := fun k => match k with
  | 0 => .int
  | 1 => .object "AnyKeyTown$Sum"
  | _ => .object "AnyKeyTown$Row"
abbrev wsX90 : List Cond := u_ws RX9 TX9 3
theorem nmX9 : ∀ a, a < 3 → ∀ b, b < 3 → a ≠ b → (TX9 a).2.1 ≠ (TX9 b).2.1 := by decide +kernel
theorem tyX9_ok : ∀ k, k < 3 → parseFieldDescriptor (TX9 k).2.2.1 = some (tyX9 k) := by decide +kernel
abbrev cX9_init : ByteArray := prog_13_method_1_code
def yX9_init : MethodName := ⟨RX9, "<init>", "(ILAnyKeyTown$Sum;)V"⟩
def dkwX9_init_0 : List UInt8 := [42, 183, 0, 1, 42, 27, 181, 0, 7, 42, 44, 181, 0, 13, 177]
abbrev dktX9_init_0 : List UInt8 := dkwX9_init_0 ++ []
theorem dksX9_init_0 : cX9_init.data.toList.drop 0 = dktX9_init_0 := by decide +kernel
theorem dX9_init_0 : decode cX9_init 0 = .ok (.aload_n 0, 1) := dk_42 (dk_at dksX9_init_0 0 rfl rfl)
theorem dX9_init_1 : decode cX9_init 1 = .ok (.invokespecial 1, 3) := dk_183 0 1 (dk_at dksX9_init_0 1 rfl rfl)
theorem dX9_init_4 : decode cX9_init 4 = .ok (.aload_n 0, 1) := dk_42 (dk_at dksX9_init_0 4 rfl rfl)
theorem dX9_init_5 : decode cX9_init 5 = .ok (.iload_n 1, 1) := dk_27 (dk_at dksX9_init_0 5 rfl rfl)
theorem dX9_init_6 : decode cX9_init 6 = .ok (.putfield 7, 3) := dk_181 0 7 (dk_at dksX9_init_0 6 rfl rfl)
theorem dX9_init_9 : decode cX9_init 9 = .ok (.aload_n 0, 1) := dk_42 (dk_at dksX9_init_0 9 rfl rfl)
theorem dX9_init_10 : decode cX9_init 10 = .ok (.aload_n 2, 1) := dk_44 (dk_at dksX9_init_0 10 rfl rfl)
theorem dX9_init_11 : decode cX9_init 11 = .ok (.putfield 13, 3) := dk_181 0 13 (dk_at dksX9_init_0 11 rfl rfl)
theorem dX9_init_14 : decode cX9_init 14 = .ok (.return_, 1) := dk_177 (dk_at dksX9_init_0 14 rfl rfl)
abbrev cX9_worth : ByteArray := prog_13_method_3_code
def yX9_worth : MethodName := ⟨RX9, "worth", "(LAnyKeyTown$Asked;)I"⟩
def dkwX9_worth_1 : List UInt8 := [180, 0, 13, 43, 182, 0, 23, 43, 184, 0, 31, 61, 45, 180, 0, 27, 78, 167, 255, 229, 28, 172]
abbrev dktX9_worth_1 : List UInt8 := dkwX9_worth_1 ++ []
def dkwX9_worth_0 : List UInt8 := [42, 180, 0, 13, 43, 182, 0, 23, 61, 42, 180, 0, 27, 78, 45, 198, 0, 29, 45, 180, 0, 7, 28, 45]
abbrev dktX9_worth_0 : List UInt8 := dkwX9_worth_0 ++ dktX9_worth_1
theorem dksX9_worth_0 : cX9_worth.data.toList.drop 0 = dktX9_worth_0 := by decide +kernel
theorem dksX9_worth_1 : cX9_worth.data.toList.drop 24 = dktX9_worth_1 := dk_seg dksX9_worth_0 24 rfl rfl
theorem dX9_worth_0 : decode cX9_worth 0 = .ok (.aload_n 0, 1) := dk_42 (dk_at dksX9_worth_0 0 rfl rfl)
theorem dX9_worth_1 : decode cX9_worth 1 = .ok (.getfield 13, 3) := dk_180 0 13 (dk_at dksX9_worth_0 1 rfl rfl)
theorem dX9_worth_4 : decode cX9_worth 4 = .ok (.aload_n 1, 1) := dk_43 (dk_at dksX9_worth_0 4 rfl rfl)
theorem dX9_worth_5 : decode cX9_worth 5 = .ok (.invokevirtual 23, 3) := dk_182 0 23 (dk_at dksX9_worth_0 5 rfl rfl)
theorem dX9_worth_8 : decode cX9_worth 8 = .ok (.istore_n 2, 1) := dk_61 (dk_at dksX9_worth_0 8 rfl rfl)
theorem dX9_worth_9 : decode cX9_worth 9 = .ok (.aload_n 0, 1) := dk_42 (dk_at dksX9_worth_0 9 rfl rfl)
theorem dX9_worth_10 : decode cX9_worth 10 = .ok (.getfield 27, 3) := dk_180 0 27 (dk_at dksX9_worth_0 10 rfl rfl)
theorem dX9_worth_13 : decode cX9_worth 13 = .ok (.astore_n 3, 1) := dk_78 (dk_at dksX9_worth_0 13 rfl rfl)
theorem dX9_worth_14 : decode cX9_worth 14 = .ok (.aload_n 3, 1) := dk_45 (dk_at dksX9_worth_0 14 rfl rfl)
theorem dX9_worth_15 : decode cX9_worth 15 = .ok (.ifnull 29, 3) := dk_198 0 29 (dk_at dksX9_worth_0 15 rfl rfl)
theorem dX9_worth_18 : decode cX9_worth 18 = .ok (.aload_n 3, 1) := dk_45 (dk_at dksX9_worth_0 18 rfl rfl)
theorem dX9_worth_19 : decode cX9_worth 19 = .ok (.getfield 7, 3) := dk_180 0 7 (dk_at dksX9_worth_0 19 rfl rfl)
theorem dX9_worth_22 : decode cX9_worth 22 = .ok (.iload_n 2, 1) := dk_28 (dk_at dksX9_worth_0 22 rfl rfl)
theorem dX9_worth_23 : decode cX9_worth 23 = .ok (.aload_n 3, 1) := dk_45 (dk_at dksX9_worth_0 23 rfl rfl)
theorem dX9_worth_24 : decode cX9_worth 24 = .ok (.getfield 13, 3) := dk_180 0 13 (dk_at dksX9_worth_1 0 rfl rfl)
theorem dX9_worth_27 : decode cX9_worth 27 = .ok (.aload_n 1, 1) := dk_43 (dk_at dksX9_worth_1 3 rfl rfl)
theorem dX9_worth_28 : decode cX9_worth 28 = .ok (.invokevirtual 23, 3) := dk_182 0 23 (dk_at dksX9_worth_1 4 rfl rfl)
theorem dX9_worth_31 : decode cX9_worth 31 = .ok (.aload_n 1, 1) := dk_43 (dk_at dksX9_worth_1 7 rfl rfl)
theorem dX9_worth_32 : decode cX9_worth 32 = .ok (.invokestatic 31, 3) := dk_184 0 31 (dk_at dksX9_worth_1 8 rfl rfl)
theorem dX9_worth_35 : decode cX9_worth 35 = .ok (.istore_n 2, 1) := dk_61 (dk_at dksX9_worth_1 11 rfl rfl)
theorem dX9_worth_36 : decode cX9_worth 36 = .ok (.aload_n 3, 1) := dk_45 (dk_at dksX9_worth_1 12 rfl rfl)
theorem dX9_worth_37 : decode cX9_worth 37 = .ok (.getfield 27, 3) := dk_180 0 27 (dk_at dksX9_worth_1 13 rfl rfl)
theorem dX9_worth_40 : decode cX9_worth 40 = .ok (.astore_n 3, 1) := dk_78 (dk_at dksX9_worth_1 16 rfl rfl)
theorem dX9_worth_41 : decode cX9_worth 41 = .ok (.goto (-27), 3) := dk_167 255 229 (dk_at dksX9_worth_1 17 rfl rfl)
theorem dX9_worth_44 : decode cX9_worth 44 = .ok (.iload_n 2, 1) := dk_28 (dk_at dksX9_worth_1 20 rfl rfl)
theorem dX9_worth_45 : decode cX9_worth 45 = .ok (.ireturn, 1) := dk_172 (dk_at dksX9_worth_1 21 rfl rfl)
abbrev cX9_worked : ByteArray := prog_13_method_2_code
def yX9_worked : MethodName := ⟨RX9, "worked", "(IIILAnyKeyTown$Asked;)I"⟩
def dkwX9_worked_3 : List UInt8 := [154, 0, 7, 3, 167, 0, 18, 26, 16, 47, 160, 0, 9, 27, 28, 108, 167, 0, 6, 27, 28, 112, 172]
abbrev dktX9_worked_3 : List UInt8 := dkwX9_worked_3 ++ []
def dkwX9_worked_2 : List UInt8 := [27, 28, 96, 172, 27, 28, 100, 172, 27, 28, 104, 172, 28, 154, 0, 8, 45, 4, 181, 0, 17, 28]
abbrev dktX9_worked_2 : List UInt8 := dkwX9_worked_2 ++ dktX9_worked_3
def dkwX9_worked_1 : List UInt8 := [170, 0, 0, 0, 0, 0, 43, 0, 0, 0, 42, 0, 0, 0, 45, 0, 0, 0, 39, 0, 0, 0, 31, 0, 0, 0, 43, 0, 0, 0, 35]
abbrev dktX9_worked_1 : List UInt8 := dkwX9_worked_1 ++ dktX9_worked_2
def dkwX9_worked_0 : List UInt8 := [26]
abbrev dktX9_worked_0 : List UInt8 := dkwX9_worked_0 ++ dktX9_worked_1
theorem dksX9_worked_0 : cX9_worked.data.toList.drop 0 = dktX9_worked_0 := by decide +kernel
theorem dksX9_worked_1 : cX9_worked.data.toList.drop 1 = dktX9_worked_1 := dk_seg dksX9_worked_0 1 rfl rfl
theorem dksX9_worked_2 : cX9_worked.data.toList.drop 32 = dktX9_worked_2 := dk_seg dksX9_worked_1 31 rfl rfl
theorem dksX9_worked_3 : cX9_worked.data.toList.drop 54 = dktX9_worked_3 := dk_seg dksX9_worked_2 22 rfl rfl
theorem dX9_worked_0 : decode cX9_worked 0 = .ok (.iload_n 0, 1) := dk_26 (dk_at dksX9_worked_0 0 rfl rfl)
theorem dX9_worked_1 : decode cX9_worked 1 = .ok (.tableswitch 43 42 45 #[39, 31, 43, 35], 31) := by decide +kernel
theorem dX9_worked_32 : decode cX9_worked 32 = .ok (.iload_n 1, 1) := dk_27 (dk_at dksX9_worked_2 0 rfl rfl)
theorem dX9_worked_33 : decode cX9_worked 33 = .ok (.iload_n 2, 1) := dk_28 (dk_at dksX9_worked_2 1 rfl rfl)
theorem dX9_worked_34 : decode cX9_worked 34 = .ok (.iadd, 1) := dk_96 (dk_at dksX9_worked_2 2 rfl rfl)
theorem dX9_worked_35 : decode cX9_worked 35 = .ok (.ireturn, 1) := dk_172 (dk_at dksX9_worked_2 3 rfl rfl)
theorem dX9_worked_36 : decode cX9_worked 36 = .ok (.iload_n 1, 1) := dk_27 (dk_at dksX9_worked_2 4 rfl rfl)
theorem dX9_worked_37 : decode cX9_worked 37 = .ok (.iload_n 2, 1) := dk_28 (dk_at dksX9_worked_2 5 rfl rfl)
theorem dX9_worked_38 : decode cX9_worked 38 = .ok (.isub, 1) := dk_100 (dk_at dksX9_worked_2 6 rfl rfl)
theorem dX9_worked_39 : decode cX9_worked 39 = .ok (.ireturn, 1) := dk_172 (dk_at dksX9_worked_2 7 rfl rfl)
theorem dX9_worked_40 : decode cX9_worked 40 = .ok (.iload_n 1, 1) := dk_27 (dk_at dksX9_worked_2 8 rfl rfl)
theorem dX9_worked_41 : decode cX9_worked 41 = .ok (.iload_n 2, 1) := dk_28 (dk_at dksX9_worked_2 9 rfl rfl)
theorem dX9_worked_42 : decode cX9_worked 42 = .ok (.imul, 1) := dk_104 (dk_at dksX9_worked_2 10 rfl rfl)
theorem dX9_worked_43 : decode cX9_worked 43 = .ok (.ireturn, 1) := dk_172 (dk_at dksX9_worked_2 11 rfl rfl)
theorem dX9_worked_44 : decode cX9_worked 44 = .ok (.iload_n 2, 1) := dk_28 (dk_at dksX9_worked_2 12 rfl rfl)
theorem dX9_worked_45 : decode cX9_worked 45 = .ok (.ifCond .ne 8, 3) := dk_154 0 8 (dk_at dksX9_worked_2 13 rfl rfl)
theorem dX9_worked_48 : decode cX9_worked 48 = .ok (.aload_n 3, 1) := dk_45 (dk_at dksX9_worked_2 16 rfl rfl)
theorem dX9_worked_49 : decode cX9_worked 49 = .ok (.iconst 1, 1) := dk_4 (dk_at dksX9_worked_2 17 rfl rfl)
theorem dX9_worked_50 : decode cX9_worked 50 = .ok (.putfield 17, 3) := dk_181 0 17 (dk_at dksX9_worked_2 18 rfl rfl)
theorem dX9_worked_53 : decode cX9_worked 53 = .ok (.iload_n 2, 1) := dk_28 (dk_at dksX9_worked_2 21 rfl rfl)
theorem dX9_worked_54 : decode cX9_worked 54 = .ok (.ifCond .ne 7, 3) := dk_154 0 7 (dk_at dksX9_worked_3 0 rfl rfl)
theorem dX9_worked_57 : decode cX9_worked 57 = .ok (.iconst 0, 1) := dk_3 (dk_at dksX9_worked_3 3 rfl rfl)
theorem dX9_worked_58 : decode cX9_worked 58 = .ok (.goto 18, 3) := dk_167 0 18 (dk_at dksX9_worked_3 4 rfl rfl)
theorem dX9_worked_61 : decode cX9_worked 61 = .ok (.iload_n 0, 1) := dk_26 (dk_at dksX9_worked_3 7 rfl rfl)
theorem dX9_worked_62 : decode cX9_worked 62 = .ok (.bipush 47, 2) := dk_16 47 (dk_at dksX9_worked_3 8 rfl rfl)
theorem dX9_worked_64 : decode cX9_worked 64 = .ok (.if_icmp .ne 9, 3) := dk_160 0 9 (dk_at dksX9_worked_3 10 rfl rfl)
theorem dX9_worked_67 : decode cX9_worked 67 = .ok (.iload_n 1, 1) := dk_27 (dk_at dksX9_worked_3 13 rfl rfl)
theorem dX9_worked_68 : decode cX9_worked 68 = .ok (.iload_n 2, 1) := dk_28 (dk_at dksX9_worked_3 14 rfl rfl)
theorem dX9_worked_69 : decode cX9_worked 69 = .ok (.idiv, 1) := dk_108 (dk_at dksX9_worked_3 15 rfl rfl)
theorem dX9_worked_70 : decode cX9_worked 70 = .ok (.goto 6, 3) := dk_167 0 6 (dk_at dksX9_worked_3 16 rfl rfl)
theorem dX9_worked_73 : decode cX9_worked 73 = .ok (.iload_n 1, 1) := dk_27 (dk_at dksX9_worked_3 19 rfl rfl)
theorem dX9_worked_74 : decode cX9_worked 74 = .ok (.iload_n 2, 1) := dk_28 (dk_at dksX9_worked_3 20 rfl rfl)
theorem dX9_worked_75 : decode cX9_worked 75 = .ok (.irem, 1) := dk_112 (dk_at dksX9_worked_3 21 rfl rfl)
theorem dX9_worked_76 : decode cX9_worked 76 = .ok (.ireturn, 1) := dk_172 (dk_at dksX9_worked_3 22 rfl rfl)
theorem q116 : (Jvm.Cond.initialized "AnyKeyTown$Row") ∈ lw_all := lw_g (lw_at lw_m1 16 rfl) rfl
theorem q188 : (Jvm.Cond.fieldLinkNest "AnyKeyTown$Row" (17 : Nat) "AnyKeyTown$Asked" "isRefused" "Z" "AnyKeyTown") ∈ lw_tbl := lw_at lw_m1 88 rfl
theorem q514 : (Jvm.Cond.instantiable "AnyKeyTown$Row" (3 : Nat)) ∈ lw_all := lw_g (lw_at lw_m2 174 rfl) rfl
theorem q564 : (Jvm.Cond.instanceMethod ({ cls := "AnyKeyTown$Row", name := "<init>", desc := "(ILAnyKeyTown$Sum;)V" } : Jvm.MethodName)) ∈ lw_all := lw_g (lw_at lw_m2 224 rfl) rfl
theorem q565 : (Jvm.Cond.code ({ cls := "AnyKeyTown$Row", name := "<init>", desc := "(ILAnyKeyTown$Sum;)V" } : Jvm.MethodName) prog_13_method_1_code (3 : Nat) (Option.none : Option Jvm.ClassFile.FieldType)) ∈ lw_all := lw_g (lw_at lw_m2 225 rfl) rfl
theorem q566 : (Jvm.Cond.methodLinkNest "AnyKeyTown$Row" (1 : Nat) ({ cls := "AnyKeyTown$Sum", name := "<init>", desc := "()V" } : Jvm.MethodName) "AnyKeyTown") ∈ lw_tbl := lw_at lw_m2 226 rfl
theorem q567 : (Jvm.Cond.fieldLink "AnyKeyTown$Row" (7 : Nat) "AnyKeyTown$Row" "sign" "I") ∈ lw_all := lw_g (lw_at lw_m2 227 rfl) rfl
theorem q568 : (Jvm.Cond.fieldLink "AnyKeyTown$Row" (13 : Nat) "AnyKeyTown$Row" "part" "LAnyKeyTown$Sum;") ∈ lw_all := lw_g (lw_at lw_m2 228 rfl) rfl
theorem q569 : (Jvm.Cond.fieldLink "AnyKeyTown$Row" (27 : Nat) "AnyKeyTown$Row" "next" "LAnyKeyTown$Row;") ∈ lw_all := lw_g (lw_at lw_m2 229 rfl) rfl
theorem q571 : (Jvm.Cond.laysFinal "AnyKeyTown$Row" "AnyKeyTown$Row" "sign" "I") ∈ lw_all := lw_g (lw_at lw_m2 231 rfl) rfl
theorem q572 : (Jvm.Cond.soleField "AnyKeyTown$Row" "sign") ∈ lw_all := lw_g (lw_at lw_m2 232 rfl) rfl
theorem q573 : (Jvm.Cond.laysFinal "AnyKeyTown$Row" "AnyKeyTown$Row" "part" "LAnyKeyTown$Sum;") ∈ lw_all := lw_g (lw_at lw_m2 233 rfl) rfl
theorem q574 : (Jvm.Cond.soleField "AnyKeyTown$Row" "part") ∈ lw_all := lw_g (lw_at lw_m2 234 rfl) rfl
theorem q575 : (Jvm.Cond.lays "AnyKeyTown$Row" "AnyKeyTown$Row" "next" "LAnyKeyTown$Row;") ∈ lw_all := lw_g (lw_at lw_m2 235 rfl) rfl
theorem q576 : (Jvm.Cond.soleField "AnyKeyTown$Row" "next") ∈ lw_all := lw_g (lw_at lw_m2 236 rfl) rfl
theorem q577 : (Jvm.Cond.superclass "AnyKeyTown$Row" "AnyKeyTown$Sum") ∈ lw_all := lw_g (lw_at lw_m2 237 rfl) rfl
theorem q895 : (Jvm.Cond.selects "AnyKeyTown$Row" ({ cls := "AnyKeyTown$Sum", name := "worth", desc := "(LAnyKeyTown$Asked;)I" } : Jvm.MethodName) ({ cls := "AnyKeyTown$Row", name := "worth", desc := "(LAnyKeyTown$Asked;)I" } : Jvm.MethodName)) ∈ lw_all := lw_g (lw_at lw_m4 75 rfl) rfl
theorem q896 : (Jvm.Cond.instanceMethod ({ cls := "AnyKeyTown$Row", name := "worth", desc := "(LAnyKeyTown$Asked;)I" } : Jvm.MethodName)) ∈ lw_all := lw_g (lw_at lw_m4 76 rfl) rfl
theorem q897 : (Jvm.Cond.code ({ cls := "AnyKeyTown$Row", name := "worth", desc := "(LAnyKeyTown$Asked;)I" } : Jvm.MethodName) prog_13_method_3_code (4 : Nat) (Option.some Jvm.ClassFile.FieldType.int)) ∈ lw_all := lw_g (lw_at lw_m4 77 rfl) rfl
theorem q898 : (Jvm.Cond.methodLink "AnyKeyTown$Row" (23 : Nat) ({ cls := "AnyKeyTown$Sum", name := "worth", desc := "(LAnyKeyTown$Asked;)I" } : Jvm.MethodName)) ∈ lw_all := lw_g (lw_at lw_m4 78 rfl) rfl
theorem q899 : (Jvm.Cond.methodLink "AnyKeyTown$Row" (31 : Nat) ({ cls := "AnyKeyTown$Row", name := "worked", desc := "(IIILAnyKeyTown$Asked;)I" } : Jvm.MethodName)) ∈ lw_all := lw_g (lw_at lw_m4 79 rfl) rfl
theorem q900 : (Jvm.Cond.static ({ cls := "AnyKeyTown$Row", name := "worked", desc := "(IIILAnyKeyTown$Asked;)I" } : Jvm.MethodName)) ∈ lw_all := lw_g (lw_at lw_m4 80 rfl) rfl
theorem q901 : (Jvm.Cond.code ({ cls := "AnyKeyTown$Row", name := "worked", desc := "(IIILAnyKeyTown$Asked;)I" } : Jvm.MethodName) prog_13_method_2_code (4 : Nat) (Option.some Jvm.ClassFile.FieldType.int)) ∈ lw_all := lw_g (lw_at lw_m4 81 rfl) rfl
theorem q937 : (Jvm.Cond.selects "AnyKeyTown$Row" ({ cls := "AnyKeyTown$Sum", name := "told", desc := "(LAnyKeyTown$Asked;)I" } : Jvm.MethodName) ({ cls := "AnyKeyTown$Sum", name := "told", desc := "(LAnyKeyTown$Asked;)I" } : Jvm.MethodName)) ∈ lw_all := lw_g (lw_at lw_m4 117 rfl) rfl
theorem q1749 : (Jvm.Cond.castable "AnyKeyTown$Row" "AnyKeyTown$Sum") ∈ lw_tbl := lw_at lw_m7 209 rfl
theorem in_X9 : ∀ w ∈ wsX90, w ∈ lw_all := lw_in wsX90 [571, 573, 575] (by decide +kernel) (by decide +kernel)
/-! AnyKeyTown$Number -/
set_option maxRecDepth 100000
def RX10 : String := "AnyKeyTown$Number"
def TX10 : u_T := fun k => match k with
  | _ => ("AnyKeyTown$Number", "n", "I", true)
def tyX10 : Nat → FieldType := fun k => match k with
  | _ => .int
abbrev wsX100 : List Cond := u_ws RX10 TX10 1
theorem nmX10 : ∀ a, a < 1 → ∀ b, b < 1 → a ≠ b → (TX10 a).2.1 ≠ (TX10 b).2.1 := by decide +kernel
theorem tyX10_ok : ∀ k, k < 1 → parseFieldDescriptor (TX10 k).2.2.1 = some (tyX10 k) := by decide +kernel
abbrev cX10_init : ByteArray := prog_10_method_1_code
def yX10_init : MethodName := ⟨RX10, "<init>", "(I)V"⟩
def dkwX10_init_0 : List UInt8 := [42, 183, 0, 1, 42, 27, 181, 0, 7, 177]
abbrev dktX10_init_0 : List UInt8 := dkwX10_init_0 ++ []
theorem dksX10_init_0 : cX10_init.data.toList.drop 0 = dktX10_init_0 := by decide +kernel
theorem dX10_init_0 : decode cX10_init 0 = .ok (.aload_n 0, 1) := dk_42 (dk_at dksX10_init_0 0 rfl rfl)
theorem dX10_init_1 : decode cX10_init 1 = .ok (.invokespecial 1, 3) := dk_183 0 1 (dk_at dksX10_init_0 1 rfl rfl)
theorem dX10_init_4 : decode cX10_init 4 = .ok (.aload_n 0, 1) := dk_42 (dk_at dksX10_init_0 4 rfl rfl)
theorem dX10_init_5 : decode cX10_init 5 = .ok (.iload_n 1, 1) := dk_27 (dk_at dksX10_init_0 5 rfl rfl)
theorem dX10_init_6 : decode cX10_init 6 = .ok (.putfield 7, 3) := dk_181 0 7 (dk_at dksX10_init_0 6 rfl rfl)
theorem dX10_init_9 : decode cX10_init 9 = .ok (.return_, 1) := dk_177 (dk_at dksX10_init_0 9 rfl rfl)
abbrev cX10_worth : ByteArray := prog_10_method_2_code
def yX10_worth : MethodName := ⟨RX10, "worth", "(LAnyKeyTown$Asked;)I"⟩
theorem dX10_worth_0 : decode cX10_worth 0 = .ok (.aload_n 0, 1) := by decide +kernel
theorem dX10_worth_1 : decode cX10_worth 1 = .ok (.getfield 7, 3) := by decide +kernel
theorem dX10_worth_4 : decode cX10_worth 4 = .ok (.ireturn, 1) := by decide +kernel
theorem q117 : (Jvm.Cond.initialized "AnyKeyTown$Number") ∈ lw_all := lw_g (lw_at lw_m1 17 rfl) rfl
theorem q536 : (Jvm.Cond.instantiable "AnyKeyTown$Number" (1 : Nat)) ∈ lw_all := lw_g (lw_at lw_m2 196 rfl) rfl
theorem q542 : (Jvm.Cond.instanceMethod ({ cls := "AnyKeyTown$Number", name := "<init>", desc := "(I)V" } : Jvm.MethodName)) ∈ lw_all := lw_g (lw_at lw_m2 202 rfl) rfl
theorem q543 : (Jvm.Cond.code ({ cls := "AnyKeyTown$Number", name := "<init>", desc := "(I)V" } : Jvm.MethodName) prog_10_method_1_code (2 : Nat) (Option.none : Option Jvm.ClassFile.FieldType)) ∈ lw_all := lw_g (lw_at lw_m2 203 rfl) rfl
theorem q544 : (Jvm.Cond.methodLinkNest "AnyKeyTown$Number" (1 : Nat) ({ cls := "AnyKeyTown$Sum", name := "<init>", desc := "()V" } : Jvm.MethodName) "AnyKeyTown") ∈ lw_tbl := lw_at lw_m2 204 rfl
theorem q548 : (Jvm.Cond.fieldLink "AnyKeyTown$Number" (7 : Nat) "AnyKeyTown$Number" "n" "I") ∈ lw_all := lw_g (lw_at lw_m2 208 rfl) rfl
theorem q549 : (Jvm.Cond.laysFinal "AnyKeyTown$Number" "AnyKeyTown$Number" "n" "I") ∈ lw_all := lw_g (lw_at lw_m2 209 rfl) rfl
theorem q550 : (Jvm.Cond.soleField "AnyKeyTown$Number" "n") ∈ lw_all := lw_g (lw_at lw_m2 210 rfl) rfl
theorem q551 : (Jvm.Cond.superclass "AnyKeyTown$Number" "AnyKeyTown$Sum") ∈ lw_all := lw_g (lw_at lw_m2 211 rfl) rfl
theorem q892 : (Jvm.Cond.selects "AnyKeyTown$Number" ({ cls := "AnyKeyTown$Sum", name := "worth", desc := "(LAnyKeyTown$Asked;)I" } : Jvm.MethodName) ({ cls := "AnyKeyTown$Number", name := "worth", desc := "(LAnyKeyTown$Asked;)I" } : Jvm.MethodName)) ∈ lw_all := lw_g (lw_at lw_m4 72 rfl) rfl
theorem q893 : (Jvm.Cond.instanceMethod ({ cls := "AnyKeyTown$Number", name := "worth", desc := "(LAnyKeyTown$Asked;)I" } : Jvm.MethodName)) ∈ lw_all := lw_g (lw_at lw_m4 73 rfl) rfl
theorem q894 : (Jvm.Cond.code ({ cls := "AnyKeyTown$Number", name := "worth", desc := "(LAnyKeyTown$Asked;)I" } : Jvm.MethodName) prog_10_method_2_code (2 : Nat) (Option.some Jvm.ClassFile.FieldType.int)) ∈ lw_all := lw_g (lw_at lw_m4 74 rfl) rfl
theorem q936 : (Jvm.Cond.selects "AnyKeyTown$Number" ({ cls := "AnyKeyTown$Sum", name := "told", desc := "(LAnyKeyTown$Asked;)I" } : Jvm.MethodName) ({ cls := "AnyKeyTown$Sum", name := "told", desc := "(LAnyKeyTown$Asked;)I" } : Jvm.MethodName)) ∈ lw_all := lw_g (lw_at lw_m4 116 rfl) rfl
theorem q1750 : (Jvm.Cond.castable "AnyKeyTown$Number" "AnyKeyTown$Sum") ∈ lw_tbl := lw_at lw_m7 210 rfl
theorem in_X10 : ∀ w ∈ wsX100, w ∈ lw_all := lw_in wsX100 [549] (by decide +kernel) (by decide +kernel)
/-! AnyKeyTown$Letter -/
set_option maxRecDepth 100000
def RX11 : String := "AnyKeyTown$Letter"
def TX11 : u_T := fun k => match k with
  | _ => ("AnyKeyTown$Letter", "letter", "I", true)
def tyX11 : Nat → FieldType := fun k => match k with
  | _ => .int
abbrev wsX110 : List Cond := u_ws RX11 TX11 1
theorem nmX11 : ∀ a, a < 1 → ∀ b, b < 1 → a ≠ b → (TX11 a).2.1 ≠ (TX11 b).2.1 := by decide +kernel
theorem tyX11_ok : ∀ k, k < 1 → parseFieldDescriptor (TX11 k).2.2.1 = some (tyX11 k) := by decide +kernel
abbrev cX11_init : ByteArray := prog_7_method_1_code
def yX11_init : MethodName := ⟨RX11, "<init>", "(I)V"⟩
def dkwX11_init_0 : List UInt8 := [42, 183, 0, 1, 42, 27, 181, 0, 7, 177]
abbrev dktX11_init_0 : List UInt8 := dkwX11_init_0 ++ []
theorem dksX11_init_0 : cX11_init.data.toList.drop 0 = dktX11_init_0 := by decide +kernel
theorem dX11_init_0 : decode cX11_init 0 = .ok (.aload_n 0, 1) := dk_42 (dk_at dksX11_init_0 0 rfl rfl)
theorem dX11_init_1 : decode cX11_init 1 = .ok (.invokespecial 1, 3) := dk_183 0 1 (dk_at dksX11_init_0 1 rfl rfl)
theorem dX11_init_4 : decode cX11_init 4 = .ok (.aload_n 0, 1) := dk_42 (dk_at dksX11_init_0 4 rfl rfl)
theorem dX11_init_5 : decode cX11_init 5 = .ok (.iload_n 1, 1) := dk_27 (dk_at dksX11_init_0 5 rfl rfl)
theorem dX11_init_6 : decode cX11_init 6 = .ok (.putfield 7, 3) := dk_181 0 7 (dk_at dksX11_init_0 6 rfl rfl)
theorem dX11_init_9 : decode cX11_init 9 = .ok (.return_, 1) := dk_177 (dk_at dksX11_init_0 9 rfl rfl)
abbrev cX11_worth : ByteArray := prog_7_method_2_code
def yX11_worth : MethodName := ⟨RX11, "worth", "(LAnyKeyTown$Asked;)I"⟩
def dkwX11_worth_0 : List UInt8 := [43, 42, 180, 0, 7, 182, 0, 13, 172]
abbrev dktX11_worth_0 : List UInt8 := dkwX11_worth_0 ++ []
theorem dksX11_worth_0 : cX11_worth.data.toList.drop 0 = dktX11_worth_0 := by decide +kernel
theorem dX11_worth_0 : decode cX11_worth 0 = .ok (.aload_n 1, 1) := dk_43 (dk_at dksX11_worth_0 0 rfl rfl)
theorem dX11_worth_1 : decode cX11_worth 1 = .ok (.aload_n 0, 1) := dk_42 (dk_at dksX11_worth_0 1 rfl rfl)
theorem dX11_worth_2 : decode cX11_worth 2 = .ok (.getfield 7, 3) := dk_180 0 7 (dk_at dksX11_worth_0 2 rfl rfl)
theorem dX11_worth_5 : decode cX11_worth 5 = .ok (.invokevirtual 13, 3) := dk_182 0 13 (dk_at dksX11_worth_0 5 rfl rfl)
theorem dX11_worth_8 : decode cX11_worth 8 = .ok (.ireturn, 1) := dk_172 (dk_at dksX11_worth_0 8 rfl rfl)
theorem q118 : (Jvm.Cond.initialized "AnyKeyTown$Letter") ∈ lw_all := lw_g (lw_at lw_m1 18 rfl) rfl
theorem q554 : (Jvm.Cond.instantiable "AnyKeyTown$Letter" (1 : Nat)) ∈ lw_all := lw_g (lw_at lw_m2 214 rfl) rfl
theorem q556 : (Jvm.Cond.instanceMethod ({ cls := "AnyKeyTown$Letter", name := "<init>", desc := "(I)V" } : Jvm.MethodName)) ∈ lw_all := lw_g (lw_at lw_m2 216 rfl) rfl
theorem q557 : (Jvm.Cond.code ({ cls := "AnyKeyTown$Letter", name := "<init>", desc := "(I)V" } : Jvm.MethodName) prog_7_method_1_code (2 : Nat) (Option.none : Option Jvm.ClassFile.FieldType)) ∈ lw_all := lw_g (lw_at lw_m2 217 rfl) rfl
theorem q558 : (Jvm.Cond.methodLinkNest "AnyKeyTown$Letter" (1 : Nat) ({ cls := "AnyKeyTown$Sum", name := "<init>", desc := "()V" } : Jvm.MethodName) "AnyKeyTown") ∈ lw_tbl := lw_at lw_m2 218 rfl
theorem q559 : (Jvm.Cond.fieldLink "AnyKeyTown$Letter" (7 : Nat) "AnyKeyTown$Letter" "letter" "I") ∈ lw_all := lw_g (lw_at lw_m2 219 rfl) rfl
theorem q560 : (Jvm.Cond.laysFinal "AnyKeyTown$Letter" "AnyKeyTown$Letter" "letter" "I") ∈ lw_all := lw_g (lw_at lw_m2 220 rfl) rfl
theorem q561 : (Jvm.Cond.soleField "AnyKeyTown$Letter" "letter") ∈ lw_all := lw_g (lw_at lw_m2 221 rfl) rfl
theorem q562 : (Jvm.Cond.superclass "AnyKeyTown$Letter" "AnyKeyTown$Sum") ∈ lw_all := lw_g (lw_at lw_m2 222 rfl) rfl
theorem q883 : (Jvm.Cond.selects "AnyKeyTown$Letter" ({ cls := "AnyKeyTown$Sum", name := "worth", desc := "(LAnyKeyTown$Asked;)I" } : Jvm.MethodName) ({ cls := "AnyKeyTown$Letter", name := "worth", desc := "(LAnyKeyTown$Asked;)I" } : Jvm.MethodName)) ∈ lw_all := lw_g (lw_at lw_m4 63 rfl) rfl
theorem q884 : (Jvm.Cond.instanceMethod ({ cls := "AnyKeyTown$Letter", name := "worth", desc := "(LAnyKeyTown$Asked;)I" } : Jvm.MethodName)) ∈ lw_all := lw_g (lw_at lw_m4 64 rfl) rfl
theorem q885 : (Jvm.Cond.code ({ cls := "AnyKeyTown$Letter", name := "worth", desc := "(LAnyKeyTown$Asked;)I" } : Jvm.MethodName) prog_7_method_2_code (2 : Nat) (Option.some Jvm.ClassFile.FieldType.int)) ∈ lw_all := lw_g (lw_at lw_m4 65 rfl) rfl
theorem q886 : (Jvm.Cond.methodLink "AnyKeyTown$Letter" (13 : Nat) ({ cls := "AnyKeyTown$Asked", name := "value", desc := "(I)I" } : Jvm.MethodName)) ∈ lw_all := lw_g (lw_at lw_m4 66 rfl) rfl
theorem q935 : (Jvm.Cond.selects "AnyKeyTown$Letter" ({ cls := "AnyKeyTown$Sum", name := "told", desc := "(LAnyKeyTown$Asked;)I" } : Jvm.MethodName) ({ cls := "AnyKeyTown$Sum", name := "told", desc := "(LAnyKeyTown$Asked;)I" } : Jvm.MethodName)) ∈ lw_all := lw_g (lw_at lw_m4 115 rfl) rfl
theorem q1751 : (Jvm.Cond.castable "AnyKeyTown$Letter" "AnyKeyTown$Sum") ∈ lw_tbl := lw_at lw_m7 211 rfl
theorem in_X11 : ∀ w ∈ wsX110, w ∈ lw_all := lw_in wsX110 [560] (by decide +kernel) (by decide +kernel)
/-! AnyKeyTown$Condition -/
set_option maxRecDepth 100000
def RX12 : String := "AnyKeyTown$Condition"
abbrev cX12_init : ByteArray := prog_4_method_1_code
def yX12_init : MethodName := ⟨RX12, "<init>", "()V"⟩
theorem dX12_init_0 : decode cX12_init 0 = .ok (.aload_n 0, 1) := by decide +kernel
theorem dX12_init_1 : decode cX12_init 1 = .ok (.invokespecial 1, 3) := by decide +kernel
theorem dX12_init_4 : decode cX12_init 4 = .ok (.return_, 1) := by decide +kernel
theorem q119 : (Jvm.Cond.initialized "AnyKeyTown$Condition") ∈ lw_all := lw_g (lw_at lw_m1 19 rfl) rfl
theorem q598 : (Jvm.Cond.instanceMethod ({ cls := "AnyKeyTown$Condition", name := "<init>", desc := "()V" } : Jvm.MethodName)) ∈ lw_all := lw_g (lw_at lw_m3 18 rfl) rfl
theorem q599 : (Jvm.Cond.code ({ cls := "AnyKeyTown$Condition", name := "<init>", desc := "()V" } : Jvm.MethodName) prog_4_method_1_code (1 : Nat) (Option.none : Option Jvm.ClassFile.FieldType)) ∈ lw_all := lw_g (lw_at lw_m3 19 rfl) rfl
theorem q600 : (Jvm.Cond.methodLink "AnyKeyTown$Condition" (1 : Nat) ({ cls := "java/lang/Object", name := "<init>", desc := "()V" } : Jvm.MethodName)) ∈ lw_all := lw_g (lw_at lw_m3 20 rfl) rfl
theorem q875 : (Jvm.Cond.declares ({ cls := "AnyKeyTown$Condition", name := "holds", desc := "(LAnyKeyTown$Asked;)I" } : Jvm.MethodName)) ∈ lw_tbl := lw_at lw_m4 55 rfl
theorem q876 : (Jvm.Cond.sameMethod "AnyKeyTown$Condition" "AnyKeyTown$Condition" "holds" "(LAnyKeyTown$Asked;)I") ∈ lw_all := lw_g (lw_at lw_m4 56 rfl) rfl
/-! AnyKeyTown$Some -/
set_option maxRecDepth 100000
def RX13 : String := "AnyKeyTown$Some"
def TX13 : u_T := fun k => match k with
  | 0 => ("AnyKeyTown$Some", "part", "LAnyKeyTown$Condition;", true)
  | 1 => ("AnyKeyTown$Some", "decides", "I", true)
  | _ => ("AnyKeyTown$Some", "next", "LAnyKeyTown$Some;", false)
def tyX13 : Nat → FieldType := fun k => match k with
  | 0 => .object "AnyKeyTown$Condition"
  | 1 => .int
  | _ => .object "AnyKeyTown$Some"
abbrev wsX130 : List Cond := u_ws RX13 TX13 3
theorem nmX13 : ∀ a, a < 3 → ∀ b, b < 3 → a ≠ b → (TX13 a).2.1 ≠ (TX13 b).2.1 := by decide +kernel
theorem tyX13_ok : ∀ k, k < 3 → parseFieldDescriptor (TX13 k).2.2.1 = some (tyX13 k) := by decide +kernel
abbrev cX13_init : ByteArray := prog_15_method_1_code
def yX13_init : MethodName := ⟨RX13, "<init>", "(LAnyKeyTown$Condition;I)V"⟩
def dkwX13_init_0 : List UInt8 := [42, 183, 0, 1, 42, 43, 181, 0, 7, 42, 28, 181, 0, 13, 177]
abbrev dktX13_init_0 : List UInt8 := dkwX13_init_0 ++ []
theorem dksX13_init_0 : cX13_init.data.toList.drop 0 = dktX13_init_0 := by decide +kernel
theorem dX13_init_0 : decode cX13_init 0 = .ok (.aload_n 0, 1) := dk_42 (dk_at dksX13_init_0 0 rfl rfl)
theorem dX13_init_1 : decode cX13_init 1 = .ok (.invokespecial 1, 3) := dk_183 0 1 (dk_at dksX13_init_0 1 rfl rfl)
theorem dX13_init_4 : decode cX13_init 4 = .ok (.aload_n 0, 1) := dk_42 (dk_at dksX13_init_0 4 rfl rfl)
theorem dX13_init_5 : decode cX13_init 5 = .ok (.aload_n 1, 1) := dk_43 (dk_at dksX13_init_0 5 rfl rfl)
theorem dX13_init_6 : decode cX13_init 6 = .ok (.putfield 7, 3) := dk_181 0 7 (dk_at dksX13_init_0 6 rfl rfl)
theorem dX13_init_9 : decode cX13_init 9 = .ok (.aload_n 0, 1) := dk_42 (dk_at dksX13_init_0 9 rfl rfl)
theorem dX13_init_10 : decode cX13_init 10 = .ok (.iload_n 2, 1) := dk_28 (dk_at dksX13_init_0 10 rfl rfl)
theorem dX13_init_11 : decode cX13_init 11 = .ok (.putfield 13, 3) := dk_181 0 13 (dk_at dksX13_init_0 11 rfl rfl)
theorem dX13_init_14 : decode cX13_init 14 = .ok (.return_, 1) := dk_177 (dk_at dksX13_init_0 14 rfl rfl)
abbrev cX13_holds : ByteArray := prog_15_method_2_code
def yX13_holds : MethodName := ⟨RX13, "holds", "(LAnyKeyTown$Asked;)I"⟩
def dkwX13_holds_1 : List UInt8 := [180, 0, 13, 160, 0, 5, 29, 172, 44, 180, 0, 21, 77, 167, 255, 223, 4, 42, 180, 0, 13, 100, 172]
abbrev dktX13_holds_1 : List UInt8 := dkwX13_holds_1 ++ []
def dkwX13_holds_0 : List UInt8 := [42, 77, 44, 198, 0, 35, 44, 180, 0, 7, 43, 182, 0, 17, 62, 29, 5, 159, 0, 11, 29, 42]
abbrev dktX13_holds_0 : List UInt8 := dkwX13_holds_0 ++ dktX13_holds_1
theorem dksX13_holds_0 : cX13_holds.data.toList.drop 0 = dktX13_holds_0 := by decide +kernel
theorem dksX13_holds_1 : cX13_holds.data.toList.drop 22 = dktX13_holds_1 := dk_seg dksX13_holds_0 22 rfl rfl
theorem dX13_holds_0 : decode cX13_holds 0 = .ok (.aload_n 0, 1) := dk_42 (dk_at dksX13_holds_0 0 rfl rfl)
theorem dX13_holds_1 : decode cX13_holds 1 = .ok (.astore_n 2, 1) := dk_77 (dk_at dksX13_holds_0 1 rfl rfl)
theorem dX13_holds_2 : decode cX13_holds 2 = .ok (.aload_n 2, 1) := dk_44 (dk_at dksX13_holds_0 2 rfl rfl)
theorem dX13_holds_3 : decode cX13_holds 3 = .ok (.ifnull 35, 3) := dk_198 0 35 (dk_at dksX13_holds_0 3 rfl rfl)
theorem dX13_holds_6 : decode cX13_holds 6 = .ok (.aload_n 2, 1) := dk_44 (dk_at dksX13_holds_0 6 rfl rfl)
theorem dX13_holds_7 : decode cX13_holds 7 = .ok (.getfield 7, 3) := dk_180 0 7 (dk_at dksX13_holds_0 7 rfl rfl)
theorem dX13_holds_10 : decode cX13_holds 10 = .ok (.aload_n 1, 1) := dk_43 (dk_at dksX13_holds_0 10 rfl rfl)
theorem dX13_holds_11 : decode cX13_holds 11 = .ok (.invokevirtual 17, 3) := dk_182 0 17 (dk_at dksX13_holds_0 11 rfl rfl)
theorem dX13_holds_14 : decode cX13_holds 14 = .ok (.istore_n 3, 1) := dk_62 (dk_at dksX13_holds_0 14 rfl rfl)
theorem dX13_holds_15 : decode cX13_holds 15 = .ok (.iload_n 3, 1) := dk_29 (dk_at dksX13_holds_0 15 rfl rfl)
theorem dX13_holds_16 : decode cX13_holds 16 = .ok (.iconst 2, 1) := dk_5 (dk_at dksX13_holds_0 16 rfl rfl)
theorem dX13_holds_17 : decode cX13_holds 17 = .ok (.if_icmp .eq 11, 3) := dk_159 0 11 (dk_at dksX13_holds_0 17 rfl rfl)
theorem dX13_holds_20 : decode cX13_holds 20 = .ok (.iload_n 3, 1) := dk_29 (dk_at dksX13_holds_0 20 rfl rfl)
theorem dX13_holds_21 : decode cX13_holds 21 = .ok (.aload_n 0, 1) := dk_42 (dk_at dksX13_holds_0 21 rfl rfl)
theorem dX13_holds_22 : decode cX13_holds 22 = .ok (.getfield 13, 3) := dk_180 0 13 (dk_at dksX13_holds_1 0 rfl rfl)
theorem dX13_holds_25 : decode cX13_holds 25 = .ok (.if_icmp .ne 5, 3) := dk_160 0 5 (dk_at dksX13_holds_1 3 rfl rfl)
theorem dX13_holds_28 : decode cX13_holds 28 = .ok (.iload_n 3, 1) := dk_29 (dk_at dksX13_holds_1 6 rfl rfl)
theorem dX13_holds_29 : decode cX13_holds 29 = .ok (.ireturn, 1) := dk_172 (dk_at dksX13_holds_1 7 rfl rfl)
theorem dX13_holds_30 : decode cX13_holds 30 = .ok (.aload_n 2, 1) := dk_44 (dk_at dksX13_holds_1 8 rfl rfl)
theorem dX13_holds_31 : decode cX13_holds 31 = .ok (.getfield 21, 3) := dk_180 0 21 (dk_at dksX13_holds_1 9 rfl rfl)
theorem dX13_holds_34 : decode cX13_holds 34 = .ok (.astore_n 2, 1) := dk_77 (dk_at dksX13_holds_1 12 rfl rfl)
theorem dX13_holds_35 : decode cX13_holds 35 = .ok (.goto (-33), 3) := dk_167 255 223 (dk_at dksX13_holds_1 13 rfl rfl)
theorem dX13_holds_38 : decode cX13_holds 38 = .ok (.iconst 1, 1) := dk_4 (dk_at dksX13_holds_1 16 rfl rfl)
theorem dX13_holds_39 : decode cX13_holds 39 = .ok (.aload_n 0, 1) := dk_42 (dk_at dksX13_holds_1 17 rfl rfl)
theorem dX13_holds_40 : decode cX13_holds 40 = .ok (.getfield 13, 3) := dk_180 0 13 (dk_at dksX13_holds_1 18 rfl rfl)
theorem dX13_holds_43 : decode cX13_holds 43 = .ok (.isub, 1) := dk_100 (dk_at dksX13_holds_1 21 rfl rfl)
theorem dX13_holds_44 : decode cX13_holds 44 = .ok (.ireturn, 1) := dk_172 (dk_at dksX13_holds_1 22 rfl rfl)
theorem q120 : (Jvm.Cond.initialized "AnyKeyTown$Some") ∈ lw_all := lw_g (lw_at lw_m1 20 rfl) rfl
theorem q583 : (Jvm.Cond.instantiable "AnyKeyTown$Some" (3 : Nat)) ∈ lw_all := lw_g (lw_at lw_m3 3 rfl) rfl
theorem q622 : (Jvm.Cond.instanceMethod ({ cls := "AnyKeyTown$Some", name := "<init>", desc := "(LAnyKeyTown$Condition;I)V" } : Jvm.MethodName)) ∈ lw_all := lw_g (lw_at lw_m3 42 rfl) rfl
theorem q623 : (Jvm.Cond.code ({ cls := "AnyKeyTown$Some", name := "<init>", desc := "(LAnyKeyTown$Condition;I)V" } : Jvm.MethodName) prog_15_method_1_code (3 : Nat) (Option.none : Option Jvm.ClassFile.FieldType)) ∈ lw_all := lw_g (lw_at lw_m3 43 rfl) rfl
theorem q624 : (Jvm.Cond.methodLinkNest "AnyKeyTown$Some" (1 : Nat) ({ cls := "AnyKeyTown$Condition", name := "<init>", desc := "()V" } : Jvm.MethodName) "AnyKeyTown") ∈ lw_tbl := lw_at lw_m3 44 rfl
theorem q625 : (Jvm.Cond.fieldLink "AnyKeyTown$Some" (7 : Nat) "AnyKeyTown$Some" "part" "LAnyKeyTown$Condition;") ∈ lw_all := lw_g (lw_at lw_m3 45 rfl) rfl
theorem q626 : (Jvm.Cond.fieldLink "AnyKeyTown$Some" (13 : Nat) "AnyKeyTown$Some" "decides" "I") ∈ lw_all := lw_g (lw_at lw_m3 46 rfl) rfl
theorem q627 : (Jvm.Cond.fieldLink "AnyKeyTown$Some" (21 : Nat) "AnyKeyTown$Some" "next" "LAnyKeyTown$Some;") ∈ lw_all := lw_g (lw_at lw_m3 47 rfl) rfl
theorem q629 : (Jvm.Cond.laysFinal "AnyKeyTown$Some" "AnyKeyTown$Some" "part" "LAnyKeyTown$Condition;") ∈ lw_all := lw_g (lw_at lw_m3 49 rfl) rfl
theorem q630 : (Jvm.Cond.soleField "AnyKeyTown$Some" "part") ∈ lw_all := lw_g (lw_at lw_m3 50 rfl) rfl
theorem q631 : (Jvm.Cond.laysFinal "AnyKeyTown$Some" "AnyKeyTown$Some" "decides" "I") ∈ lw_all := lw_g (lw_at lw_m3 51 rfl) rfl
theorem q632 : (Jvm.Cond.soleField "AnyKeyTown$Some" "decides") ∈ lw_all := lw_g (lw_at lw_m3 52 rfl) rfl
theorem q633 : (Jvm.Cond.lays "AnyKeyTown$Some" "AnyKeyTown$Some" "next" "LAnyKeyTown$Some;") ∈ lw_all := lw_g (lw_at lw_m3 53 rfl) rfl
theorem q634 : (Jvm.Cond.soleField "AnyKeyTown$Some" "next") ∈ lw_all := lw_g (lw_at lw_m3 54 rfl) rfl
theorem q635 : (Jvm.Cond.superclass "AnyKeyTown$Some" "AnyKeyTown$Condition") ∈ lw_all := lw_g (lw_at lw_m3 55 rfl) rfl
theorem q906 : (Jvm.Cond.instanceMethod ({ cls := "AnyKeyTown$Some", name := "holds", desc := "(LAnyKeyTown$Asked;)I" } : Jvm.MethodName)) ∈ lw_all := lw_g (lw_at lw_m4 86 rfl) rfl
theorem q907 : (Jvm.Cond.code ({ cls := "AnyKeyTown$Some", name := "holds", desc := "(LAnyKeyTown$Asked;)I" } : Jvm.MethodName) prog_15_method_2_code (4 : Nat) (Option.some Jvm.ClassFile.FieldType.int)) ∈ lw_all := lw_g (lw_at lw_m4 87 rfl) rfl
theorem q908 : (Jvm.Cond.methodLink "AnyKeyTown$Some" (17 : Nat) ({ cls := "AnyKeyTown$Condition", name := "holds", desc := "(LAnyKeyTown$Asked;)I" } : Jvm.MethodName)) ∈ lw_all := lw_g (lw_at lw_m4 88 rfl) rfl
theorem q909 : (Jvm.Cond.selects "AnyKeyTown$Some" ({ cls := "AnyKeyTown$Condition", name := "holds", desc := "(LAnyKeyTown$Asked;)I" } : Jvm.MethodName) ({ cls := "AnyKeyTown$Some", name := "holds", desc := "(LAnyKeyTown$Asked;)I" } : Jvm.MethodName)) ∈ lw_all := lw_g (lw_at lw_m4 89 rfl) rfl
theorem q1752 : (Jvm.Cond.castable "AnyKeyTown$Some" "AnyKeyTown$Condition") ∈ lw_tbl := lw_at lw_m7 212 rfl
theorem in_X13 : ∀ w ∈ wsX130, w ∈ lw_all := lw_in wsX130 [629, 631, 633] (by decide +kernel) (by decide +kernel)
/-! AnyKeyTown$Not -/
set_option maxRecDepth 100000
def RX14 : String := "AnyKeyTown$Not"
def TX14 : u_T := fun k => match k with
  | _ => ("AnyKeyTown$Not", "x", "LAnyKeyTown$Condition;", true)
def tyX14 : Nat → FieldType := fun k => match k with
  | _ => .object "AnyKeyTown$Condition"
abbrev wsX140 : List Cond := u_ws RX14 TX14 1
theorem nmX14 : ∀ a, a < 1 → ∀ b, b < 1 → a ≠ b → (TX14 a).2.1 ≠ (TX14 b).2.1 := by decide +kernel
theorem tyX14_ok : ∀ k, k < 1 → parseFieldDescriptor (TX14 k).2.2.1 = some (tyX14 k) := by decide +kernel
abbrev cX14_init : ByteArray := prog_9_method_1_code
def yX14_init : MethodName := ⟨RX14, "<init>", "(LAnyKeyTown$Condition;)V"⟩
def dkwX14_init_0 : List UInt8 := [42, 183, 0, 1, 42, 43, 181, 0, 7, 177]
abbrev dktX14_init_0 : List UInt8 := dkwX14_init_0 ++ []
theorem dksX14_init_0 : cX14_init.data.toList.drop 0 = dktX14_init_0 := by decide +kernel
theorem dX14_init_0 : decode cX14_init 0 = .ok (.aload_n 0, 1) := dk_42 (dk_at dksX14_init_0 0 rfl rfl)
theorem dX14_init_1 : decode cX14_init 1 = .ok (.invokespecial 1, 3) := dk_183 0 1 (dk_at dksX14_init_0 1 rfl rfl)
theorem dX14_init_4 : decode cX14_init 4 = .ok (.aload_n 0, 1) := dk_42 (dk_at dksX14_init_0 4 rfl rfl)
theorem dX14_init_5 : decode cX14_init 5 = .ok (.aload_n 1, 1) := dk_43 (dk_at dksX14_init_0 5 rfl rfl)
theorem dX14_init_6 : decode cX14_init 6 = .ok (.putfield 7, 3) := dk_181 0 7 (dk_at dksX14_init_0 6 rfl rfl)
theorem dX14_init_9 : decode cX14_init 9 = .ok (.return_, 1) := dk_177 (dk_at dksX14_init_0 9 rfl rfl)
abbrev cX14_holds : ByteArray := prog_9_method_2_code
def yX14_holds : MethodName := ⟨RX14, "holds", "(LAnyKeyTown$Asked;)I"⟩
def dkwX14_holds_0 : List UInt8 := [42, 180, 0, 7, 43, 182, 0, 13, 61, 28, 5, 160, 0, 7, 5, 167, 0, 6, 4, 28, 100, 172]
abbrev dktX14_holds_0 : List UInt8 := dkwX14_holds_0 ++ []
theorem dksX14_holds_0 : cX14_holds.data.toList.drop 0 = dktX14_holds_0 := by decide +kernel
theorem dX14_holds_0 : decode cX14_holds 0 = .ok (.aload_n 0, 1) := dk_42 (dk_at dksX14_holds_0 0 rfl rfl)
theorem dX14_holds_1 : decode cX14_holds 1 = .ok (.getfield 7, 3) := dk_180 0 7 (dk_at dksX14_holds_0 1 rfl rfl)
theorem dX14_holds_4 : decode cX14_holds 4 = .ok (.aload_n 1, 1) := dk_43 (dk_at dksX14_holds_0 4 rfl rfl)
theorem dX14_holds_5 : decode cX14_holds 5 = .ok (.invokevirtual 13, 3) := dk_182 0 13 (dk_at dksX14_holds_0 5 rfl rfl)
theorem dX14_holds_8 : decode cX14_holds 8 = .ok (.istore_n 2, 1) := dk_61 (dk_at dksX14_holds_0 8 rfl rfl)
theorem dX14_holds_9 : decode cX14_holds 9 = .ok (.iload_n 2, 1) := dk_28 (dk_at dksX14_holds_0 9 rfl rfl)
theorem dX14_holds_10 : decode cX14_holds 10 = .ok (.iconst 2, 1) := dk_5 (dk_at dksX14_holds_0 10 rfl rfl)
theorem dX14_holds_11 : decode cX14_holds 11 = .ok (.if_icmp .ne 7, 3) := dk_160 0 7 (dk_at dksX14_holds_0 11 rfl rfl)
theorem dX14_holds_14 : decode cX14_holds 14 = .ok (.iconst 2, 1) := dk_5 (dk_at dksX14_holds_0 14 rfl rfl)
theorem dX14_holds_15 : decode cX14_holds 15 = .ok (.goto 6, 3) := dk_167 0 6 (dk_at dksX14_holds_0 15 rfl rfl)
theorem dX14_holds_18 : decode cX14_holds 18 = .ok (.iconst 1, 1) := dk_4 (dk_at dksX14_holds_0 18 rfl rfl)
theorem dX14_holds_19 : decode cX14_holds 19 = .ok (.iload_n 2, 1) := dk_28 (dk_at dksX14_holds_0 19 rfl rfl)
theorem dX14_holds_20 : decode cX14_holds 20 = .ok (.isub, 1) := dk_100 (dk_at dksX14_holds_0 20 rfl rfl)
theorem dX14_holds_21 : decode cX14_holds 21 = .ok (.ireturn, 1) := dk_172 (dk_at dksX14_holds_0 21 rfl rfl)
theorem q121 : (Jvm.Cond.initialized "AnyKeyTown$Not") ∈ lw_all := lw_g (lw_at lw_m1 21 rfl) rfl
theorem q593 : (Jvm.Cond.instantiable "AnyKeyTown$Not" (1 : Nat)) ∈ lw_all := lw_g (lw_at lw_m3 13 rfl) rfl
theorem q595 : (Jvm.Cond.instanceMethod ({ cls := "AnyKeyTown$Not", name := "<init>", desc := "(LAnyKeyTown$Condition;)V" } : Jvm.MethodName)) ∈ lw_all := lw_g (lw_at lw_m3 15 rfl) rfl
theorem q596 : (Jvm.Cond.code ({ cls := "AnyKeyTown$Not", name := "<init>", desc := "(LAnyKeyTown$Condition;)V" } : Jvm.MethodName) prog_9_method_1_code (2 : Nat) (Option.none : Option Jvm.ClassFile.FieldType)) ∈ lw_all := lw_g (lw_at lw_m3 16 rfl) rfl
theorem q597 : (Jvm.Cond.methodLinkNest "AnyKeyTown$Not" (1 : Nat) ({ cls := "AnyKeyTown$Condition", name := "<init>", desc := "()V" } : Jvm.MethodName) "AnyKeyTown") ∈ lw_tbl := lw_at lw_m3 17 rfl
theorem q601 : (Jvm.Cond.fieldLink "AnyKeyTown$Not" (7 : Nat) "AnyKeyTown$Not" "x" "LAnyKeyTown$Condition;") ∈ lw_all := lw_g (lw_at lw_m3 21 rfl) rfl
theorem q602 : (Jvm.Cond.laysFinal "AnyKeyTown$Not" "AnyKeyTown$Not" "x" "LAnyKeyTown$Condition;") ∈ lw_all := lw_g (lw_at lw_m3 22 rfl) rfl
theorem q603 : (Jvm.Cond.soleField "AnyKeyTown$Not" "x") ∈ lw_all := lw_g (lw_at lw_m3 23 rfl) rfl
theorem q604 : (Jvm.Cond.superclass "AnyKeyTown$Not" "AnyKeyTown$Condition") ∈ lw_all := lw_g (lw_at lw_m3 24 rfl) rfl
theorem q902 : (Jvm.Cond.selects "AnyKeyTown$Not" ({ cls := "AnyKeyTown$Condition", name := "holds", desc := "(LAnyKeyTown$Asked;)I" } : Jvm.MethodName) ({ cls := "AnyKeyTown$Not", name := "holds", desc := "(LAnyKeyTown$Asked;)I" } : Jvm.MethodName)) ∈ lw_all := lw_g (lw_at lw_m4 82 rfl) rfl
theorem q903 : (Jvm.Cond.instanceMethod ({ cls := "AnyKeyTown$Not", name := "holds", desc := "(LAnyKeyTown$Asked;)I" } : Jvm.MethodName)) ∈ lw_all := lw_g (lw_at lw_m4 83 rfl) rfl
theorem q904 : (Jvm.Cond.code ({ cls := "AnyKeyTown$Not", name := "holds", desc := "(LAnyKeyTown$Asked;)I" } : Jvm.MethodName) prog_9_method_2_code (3 : Nat) (Option.some Jvm.ClassFile.FieldType.int)) ∈ lw_all := lw_g (lw_at lw_m4 84 rfl) rfl
theorem q905 : (Jvm.Cond.methodLink "AnyKeyTown$Not" (13 : Nat) ({ cls := "AnyKeyTown$Condition", name := "holds", desc := "(LAnyKeyTown$Asked;)I" } : Jvm.MethodName)) ∈ lw_all := lw_g (lw_at lw_m4 85 rfl) rfl
theorem q1753 : (Jvm.Cond.castable "AnyKeyTown$Not" "AnyKeyTown$Condition") ∈ lw_tbl := lw_at lw_m7 213 rfl
theorem in_X14 : ∀ w ∈ wsX140, w ∈ lw_all := lw_in wsX140 [602] (by decide +kernel) (by decide +kernel)
/-! AnyKeyTown$Compared -/
set_option maxRecDepth 100000
def RX15 : String := "AnyKeyTown$Compared"
def TX15 : u_T := fun k => match k with
  | 0 => ("AnyKeyTown$Compared", "x", "LAnyKeyTown$Sum;", true)
  | 1 => ("AnyKeyTown$Compared", "y", "LAnyKeyTown$Sum;", true)
  | _ => ("AnyKeyTown$Compared", "sign", "I", true)
def tyX15 : Nat → FieldType := fun k => match k with
  | 0 => .object "AnyKeyTown$Sum"
  | 1 => .object "AnyKeyTown$Sum"
  | _ => .int
abbrev wsX150 : List Cond := u_ws RX15 TX15 3
theorem nmX15 : ∀ a, a < 3 → ∀ b, b < 3 → a ≠ b → (TX15 a).2.1 ≠ (TX15 b).2.1 := by decide +kernel
theorem tyX15_ok : ∀ k, k < 3 → parseFieldDescriptor (TX15 k).2.2.1 = some (tyX15 k) := by decide +kernel
abbrev cX15_init : ByteArray := prog_3_method_1_code
def yX15_init : MethodName := ⟨RX15, "<init>", "(LAnyKeyTown$Sum;ILAnyKeyTown$Sum;)V"⟩
def dkwX15_init_0 : List UInt8 := [42, 183, 0, 1, 42, 43, 181, 0, 7, 42, 28, 181, 0, 13, 42, 45, 181, 0, 17, 177]
abbrev dktX15_init_0 : List UInt8 := dkwX15_init_0 ++ []
theorem dksX15_init_0 : cX15_init.data.toList.drop 0 = dktX15_init_0 := by decide +kernel
theorem dX15_init_0 : decode cX15_init 0 = .ok (.aload_n 0, 1) := dk_42 (dk_at dksX15_init_0 0 rfl rfl)
theorem dX15_init_1 : decode cX15_init 1 = .ok (.invokespecial 1, 3) := dk_183 0 1 (dk_at dksX15_init_0 1 rfl rfl)
theorem dX15_init_4 : decode cX15_init 4 = .ok (.aload_n 0, 1) := dk_42 (dk_at dksX15_init_0 4 rfl rfl)
theorem dX15_init_5 : decode cX15_init 5 = .ok (.aload_n 1, 1) := dk_43 (dk_at dksX15_init_0 5 rfl rfl)
theorem dX15_init_6 : decode cX15_init 6 = .ok (.putfield 7, 3) := dk_181 0 7 (dk_at dksX15_init_0 6 rfl rfl)
theorem dX15_init_9 : decode cX15_init 9 = .ok (.aload_n 0, 1) := dk_42 (dk_at dksX15_init_0 9 rfl rfl)
theorem dX15_init_10 : decode cX15_init 10 = .ok (.iload_n 2, 1) := dk_28 (dk_at dksX15_init_0 10 rfl rfl)
theorem dX15_init_11 : decode cX15_init 11 = .ok (.putfield 13, 3) := dk_181 0 13 (dk_at dksX15_init_0 11 rfl rfl)
theorem dX15_init_14 : decode cX15_init 14 = .ok (.aload_n 0, 1) := dk_42 (dk_at dksX15_init_0 14 rfl rfl)
theorem dX15_init_15 : decode cX15_init 15 = .ok (.aload_n 3, 1) := dk_45 (dk_at dksX15_init_0 15 rfl rfl)
theorem dX15_init_16 : decode cX15_init 16 = .ok (.putfield 17, 3) := dk_181 0 17 (dk_at dksX15_init_0 16 rfl rfl)
theorem dX15_init_19 : decode cX15_init 19 = .ok (.return_, 1) := dk_177 (dk_at dksX15_init_0 19 rfl rfl)
abbrev cX15_holds : ByteArray := prog_3_method_2_code
def yX15_holds : MethodName := ⟨RX15, "holds", "(LAnyKeyTown$Asked;)I"⟩
def dkwX15_holds_4 : List UInt8 := [153, 0, 7, 4, 167, 0, 4, 3, 172]
abbrev dktX15_holds_4 : List UInt8 := dkwX15_holds_4 ++ []
def dkwX15_holds_3 : List UInt8 := [160, 0, 7, 4, 167, 0, 4, 3, 54, 4, 43, 180, 0, 20, 153, 0, 7, 5, 167, 0, 13, 21, 4]
abbrev dktX15_holds_3 : List UInt8 := dkwX15_holds_3 ++ dktX15_holds_4
def dkwX15_holds_2 : List UInt8 := [180, 0, 13, 16, 62, 160, 0, 16, 28, 29, 164, 0, 7, 4, 167, 0, 17, 3, 167, 0, 13, 28, 29]
abbrev dktX15_holds_2 : List UInt8 := dkwX15_holds_2 ++ dktX15_holds_3
def dkwX15_holds_1 : List UInt8 := [180, 0, 13, 16, 60, 160, 0, 16, 28, 29, 162, 0, 7, 4, 167, 0, 39, 3, 167, 0, 35, 42]
abbrev dktX15_holds_1 : List UInt8 := dkwX15_holds_1 ++ dktX15_holds_2
def dkwX15_holds_0 : List UInt8 := [43, 3, 181, 0, 20, 42, 180, 0, 7, 43, 182, 0, 26, 61, 42, 180, 0, 17, 43, 182, 0, 26, 62, 42]
abbrev dktX15_holds_0 : List UInt8 := dkwX15_holds_0 ++ dktX15_holds_1
theorem dksX15_holds_0 : cX15_holds.data.toList.drop 0 = dktX15_holds_0 := by decide +kernel
theorem dksX15_holds_1 : cX15_holds.data.toList.drop 24 = dktX15_holds_1 := dk_seg dksX15_holds_0 24 rfl rfl
theorem dksX15_holds_2 : cX15_holds.data.toList.drop 46 = dktX15_holds_2 := dk_seg dksX15_holds_1 22 rfl rfl
theorem dksX15_holds_3 : cX15_holds.data.toList.drop 69 = dktX15_holds_3 := dk_seg dksX15_holds_2 23 rfl rfl
theorem dksX15_holds_4 : cX15_holds.data.toList.drop 92 = dktX15_holds_4 := dk_seg dksX15_holds_3 23 rfl rfl
theorem dX15_holds_0 : decode cX15_holds 0 = .ok (.aload_n 1, 1) := dk_43 (dk_at dksX15_holds_0 0 rfl rfl)
theorem dX15_holds_1 : decode cX15_holds 1 = .ok (.iconst 0, 1) := dk_3 (dk_at dksX15_holds_0 1 rfl rfl)
theorem dX15_holds_2 : decode cX15_holds 2 = .ok (.putfield 20, 3) := dk_181 0 20 (dk_at dksX15_holds_0 2 rfl rfl)
theorem dX15_holds_5 : decode cX15_holds 5 = .ok (.aload_n 0, 1) := dk_42 (dk_at dksX15_holds_0 5 rfl rfl)
theorem dX15_holds_6 : decode cX15_holds 6 = .ok (.getfield 7, 3) := dk_180 0 7 (dk_at dksX15_holds_0 6 rfl rfl)
theorem dX15_holds_9 : decode cX15_holds 9 = .ok (.aload_n 1, 1) := dk_43 (dk_at dksX15_holds_0 9 rfl rfl)
theorem dX15_holds_10 : decode cX15_holds 10 = .ok (.invokevirtual 26, 3) := dk_182 0 26 (dk_at dksX15_holds_0 10 rfl rfl)
theorem dX15_holds_13 : decode cX15_holds 13 = .ok (.istore_n 2, 1) := dk_61 (dk_at dksX15_holds_0 13 rfl rfl)
theorem dX15_holds_14 : decode cX15_holds 14 = .ok (.aload_n 0, 1) := dk_42 (dk_at dksX15_holds_0 14 rfl rfl)
theorem dX15_holds_15 : decode cX15_holds 15 = .ok (.getfield 17, 3) := dk_180 0 17 (dk_at dksX15_holds_0 15 rfl rfl)
theorem dX15_holds_18 : decode cX15_holds 18 = .ok (.aload_n 1, 1) := dk_43 (dk_at dksX15_holds_0 18 rfl rfl)
theorem dX15_holds_19 : decode cX15_holds 19 = .ok (.invokevirtual 26, 3) := dk_182 0 26 (dk_at dksX15_holds_0 19 rfl rfl)
theorem dX15_holds_22 : decode cX15_holds 22 = .ok (.istore_n 3, 1) := dk_62 (dk_at dksX15_holds_0 22 rfl rfl)
theorem dX15_holds_23 : decode cX15_holds 23 = .ok (.aload_n 0, 1) := dk_42 (dk_at dksX15_holds_0 23 rfl rfl)
theorem dX15_holds_24 : decode cX15_holds 24 = .ok (.getfield 13, 3) := dk_180 0 13 (dk_at dksX15_holds_1 0 rfl rfl)
theorem dX15_holds_27 : decode cX15_holds 27 = .ok (.bipush 60, 2) := dk_16 60 (dk_at dksX15_holds_1 3 rfl rfl)
theorem dX15_holds_29 : decode cX15_holds 29 = .ok (.if_icmp .ne 16, 3) := dk_160 0 16 (dk_at dksX15_holds_1 5 rfl rfl)
theorem dX15_holds_32 : decode cX15_holds 32 = .ok (.iload_n 2, 1) := dk_28 (dk_at dksX15_holds_1 8 rfl rfl)
theorem dX15_holds_33 : decode cX15_holds 33 = .ok (.iload_n 3, 1) := dk_29 (dk_at dksX15_holds_1 9 rfl rfl)
theorem dX15_holds_34 : decode cX15_holds 34 = .ok (.if_icmp .ge 7, 3) := dk_162 0 7 (dk_at dksX15_holds_1 10 rfl rfl)
theorem dX15_holds_37 : decode cX15_holds 37 = .ok (.iconst 1, 1) := dk_4 (dk_at dksX15_holds_1 13 rfl rfl)
theorem dX15_holds_38 : decode cX15_holds 38 = .ok (.goto 39, 3) := dk_167 0 39 (dk_at dksX15_holds_1 14 rfl rfl)
theorem dX15_holds_41 : decode cX15_holds 41 = .ok (.iconst 0, 1) := dk_3 (dk_at dksX15_holds_1 17 rfl rfl)
theorem dX15_holds_42 : decode cX15_holds 42 = .ok (.goto 35, 3) := dk_167 0 35 (dk_at dksX15_holds_1 18 rfl rfl)
theorem dX15_holds_45 : decode cX15_holds 45 = .ok (.aload_n 0, 1) := dk_42 (dk_at dksX15_holds_1 21 rfl rfl)
theorem dX15_holds_46 : decode cX15_holds 46 = .ok (.getfield 13, 3) := dk_180 0 13 (dk_at dksX15_holds_2 0 rfl rfl)
theorem dX15_holds_49 : decode cX15_holds 49 = .ok (.bipush 62, 2) := dk_16 62 (dk_at dksX15_holds_2 3 rfl rfl)
theorem dX15_holds_51 : decode cX15_holds 51 = .ok (.if_icmp .ne 16, 3) := dk_160 0 16 (dk_at dksX15_holds_2 5 rfl rfl)
theorem dX15_holds_54 : decode cX15_holds 54 = .ok (.iload_n 2, 1) := dk_28 (dk_at dksX15_holds_2 8 rfl rfl)
theorem dX15_holds_55 : decode cX15_holds 55 = .ok (.iload_n 3, 1) := dk_29 (dk_at dksX15_holds_2 9 rfl rfl)
theorem dX15_holds_56 : decode cX15_holds 56 = .ok (.if_icmp .le 7, 3) := dk_164 0 7 (dk_at dksX15_holds_2 10 rfl rfl)
theorem dX15_holds_59 : decode cX15_holds 59 = .ok (.iconst 1, 1) := dk_4 (dk_at dksX15_holds_2 13 rfl rfl)
theorem dX15_holds_60 : decode cX15_holds 60 = .ok (.goto 17, 3) := dk_167 0 17 (dk_at dksX15_holds_2 14 rfl rfl)
theorem dX15_holds_63 : decode cX15_holds 63 = .ok (.iconst 0, 1) := dk_3 (dk_at dksX15_holds_2 17 rfl rfl)
theorem dX15_holds_64 : decode cX15_holds 64 = .ok (.goto 13, 3) := dk_167 0 13 (dk_at dksX15_holds_2 18 rfl rfl)
theorem dX15_holds_67 : decode cX15_holds 67 = .ok (.iload_n 2, 1) := dk_28 (dk_at dksX15_holds_2 21 rfl rfl)
theorem dX15_holds_68 : decode cX15_holds 68 = .ok (.iload_n 3, 1) := dk_29 (dk_at dksX15_holds_2 22 rfl rfl)
theorem dX15_holds_69 : decode cX15_holds 69 = .ok (.if_icmp .ne 7, 3) := dk_160 0 7 (dk_at dksX15_holds_3 0 rfl rfl)
theorem dX15_holds_72 : decode cX15_holds 72 = .ok (.iconst 1, 1) := dk_4 (dk_at dksX15_holds_3 3 rfl rfl)
theorem dX15_holds_73 : decode cX15_holds 73 = .ok (.goto 4, 3) := dk_167 0 4 (dk_at dksX15_holds_3 4 rfl rfl)
theorem dX15_holds_76 : decode cX15_holds 76 = .ok (.iconst 0, 1) := dk_3 (dk_at dksX15_holds_3 7 rfl rfl)
theorem dX15_holds_77 : decode cX15_holds 77 = .ok (.istore 4, 2) := dk_54 4 (dk_at dksX15_holds_3 8 rfl rfl)
theorem dX15_holds_79 : decode cX15_holds 79 = .ok (.aload_n 1, 1) := dk_43 (dk_at dksX15_holds_3 10 rfl rfl)
theorem dX15_holds_80 : decode cX15_holds 80 = .ok (.getfield 20, 3) := dk_180 0 20 (dk_at dksX15_holds_3 11 rfl rfl)
theorem dX15_holds_83 : decode cX15_holds 83 = .ok (.ifCond .eq 7, 3) := dk_153 0 7 (dk_at dksX15_holds_3 14 rfl rfl)
theorem dX15_holds_86 : decode cX15_holds 86 = .ok (.iconst 2, 1) := dk_5 (dk_at dksX15_holds_3 17 rfl rfl)
theorem dX15_holds_87 : decode cX15_holds 87 = .ok (.goto 13, 3) := dk_167 0 13 (dk_at dksX15_holds_3 18 rfl rfl)
theorem dX15_holds_90 : decode cX15_holds 90 = .ok (.iload 4, 2) := dk_21 4 (dk_at dksX15_holds_3 21 rfl rfl)
theorem dX15_holds_92 : decode cX15_holds 92 = .ok (.ifCond .eq 7, 3) := dk_153 0 7 (dk_at dksX15_holds_4 0 rfl rfl)
theorem dX15_holds_95 : decode cX15_holds 95 = .ok (.iconst 1, 1) := dk_4 (dk_at dksX15_holds_4 3 rfl rfl)
theorem dX15_holds_96 : decode cX15_holds 96 = .ok (.goto 4, 3) := dk_167 0 4 (dk_at dksX15_holds_4 4 rfl rfl)
theorem dX15_holds_99 : decode cX15_holds 99 = .ok (.iconst 0, 1) := dk_3 (dk_at dksX15_holds_4 7 rfl rfl)
theorem dX15_holds_100 : decode cX15_holds 100 = .ok (.ireturn, 1) := dk_172 (dk_at dksX15_holds_4 8 rfl rfl)
theorem q122 : (Jvm.Cond.initialized "AnyKeyTown$Compared") ∈ lw_all := lw_g (lw_at lw_m1 22 rfl) rfl
theorem q187 : (Jvm.Cond.fieldLinkNest "AnyKeyTown$Compared" (20 : Nat) "AnyKeyTown$Asked" "isRefused" "Z" "AnyKeyTown") ∈ lw_tbl := lw_at lw_m1 87 rfl
theorem q606 : (Jvm.Cond.instantiable "AnyKeyTown$Compared" (3 : Nat)) ∈ lw_all := lw_g (lw_at lw_m3 26 rfl) rfl
theorem q608 : (Jvm.Cond.instanceMethod ({ cls := "AnyKeyTown$Compared", name := "<init>", desc := "(LAnyKeyTown$Sum;ILAnyKeyTown$Sum;)V" } : Jvm.MethodName)) ∈ lw_all := lw_g (lw_at lw_m3 28 rfl) rfl
theorem q609 : (Jvm.Cond.code ({ cls := "AnyKeyTown$Compared", name := "<init>", desc := "(LAnyKeyTown$Sum;ILAnyKeyTown$Sum;)V" } : Jvm.MethodName) prog_3_method_1_code (4 : Nat) (Option.none : Option Jvm.ClassFile.FieldType)) ∈ lw_all := lw_g (lw_at lw_m3 29 rfl) rfl
theorem q610 : (Jvm.Cond.methodLinkNest "AnyKeyTown$Compared" (1 : Nat) ({ cls := "AnyKeyTown$Condition", name := "<init>", desc := "()V" } : Jvm.MethodName) "AnyKeyTown") ∈ lw_tbl := lw_at lw_m3 30 rfl
theorem q611 : (Jvm.Cond.fieldLink "AnyKeyTown$Compared" (7 : Nat) "AnyKeyTown$Compared" "x" "LAnyKeyTown$Sum;") ∈ lw_all := lw_g (lw_at lw_m3 31 rfl) rfl
theorem q612 : (Jvm.Cond.fieldLink "AnyKeyTown$Compared" (17 : Nat) "AnyKeyTown$Compared" "y" "LAnyKeyTown$Sum;") ∈ lw_all := lw_g (lw_at lw_m3 32 rfl) rfl
theorem q613 : (Jvm.Cond.fieldLink "AnyKeyTown$Compared" (13 : Nat) "AnyKeyTown$Compared" "sign" "I") ∈ lw_all := lw_g (lw_at lw_m3 33 rfl) rfl
theorem q614 : (Jvm.Cond.laysFinal "AnyKeyTown$Compared" "AnyKeyTown$Compared" "x" "LAnyKeyTown$Sum;") ∈ lw_all := lw_g (lw_at lw_m3 34 rfl) rfl
theorem q615 : (Jvm.Cond.soleField "AnyKeyTown$Compared" "x") ∈ lw_all := lw_g (lw_at lw_m3 35 rfl) rfl
theorem q616 : (Jvm.Cond.laysFinal "AnyKeyTown$Compared" "AnyKeyTown$Compared" "y" "LAnyKeyTown$Sum;") ∈ lw_all := lw_g (lw_at lw_m3 36 rfl) rfl
theorem q617 : (Jvm.Cond.soleField "AnyKeyTown$Compared" "y") ∈ lw_all := lw_g (lw_at lw_m3 37 rfl) rfl
theorem q618 : (Jvm.Cond.laysFinal "AnyKeyTown$Compared" "AnyKeyTown$Compared" "sign" "I") ∈ lw_all := lw_g (lw_at lw_m3 38 rfl) rfl
theorem q619 : (Jvm.Cond.soleField "AnyKeyTown$Compared" "sign") ∈ lw_all := lw_g (lw_at lw_m3 39 rfl) rfl
theorem q620 : (Jvm.Cond.superclass "AnyKeyTown$Compared" "AnyKeyTown$Condition") ∈ lw_all := lw_g (lw_at lw_m3 40 rfl) rfl
theorem q877 : (Jvm.Cond.selects "AnyKeyTown$Compared" ({ cls := "AnyKeyTown$Condition", name := "holds", desc := "(LAnyKeyTown$Asked;)I" } : Jvm.MethodName) ({ cls := "AnyKeyTown$Compared", name := "holds", desc := "(LAnyKeyTown$Asked;)I" } : Jvm.MethodName)) ∈ lw_all := lw_g (lw_at lw_m4 57 rfl) rfl
theorem q878 : (Jvm.Cond.instanceMethod ({ cls := "AnyKeyTown$Compared", name := "holds", desc := "(LAnyKeyTown$Asked;)I" } : Jvm.MethodName)) ∈ lw_all := lw_g (lw_at lw_m4 58 rfl) rfl
theorem q879 : (Jvm.Cond.code ({ cls := "AnyKeyTown$Compared", name := "holds", desc := "(LAnyKeyTown$Asked;)I" } : Jvm.MethodName) prog_3_method_2_code (5 : Nat) (Option.some Jvm.ClassFile.FieldType.int)) ∈ lw_all := lw_g (lw_at lw_m4 59 rfl) rfl
theorem q880 : (Jvm.Cond.methodLink "AnyKeyTown$Compared" (26 : Nat) ({ cls := "AnyKeyTown$Sum", name := "worth", desc := "(LAnyKeyTown$Asked;)I" } : Jvm.MethodName)) ∈ lw_all := lw_g (lw_at lw_m4 60 rfl) rfl
theorem q1754 : (Jvm.Cond.castable "AnyKeyTown$Compared" "AnyKeyTown$Condition") ∈ lw_tbl := lw_at lw_m7 214 rfl
theorem in_X15 : ∀ w ∈ wsX150, w ∈ lw_all := lw_in wsX150 [614, 616, 618] (by decide +kernel) (by decide +kernel)
/-! AnyKeyTown$Scribe -/
set_option maxRecDepth 100000
def RX16 : String := "AnyKeyTown$Scribe"
abbrev cX16_init : ByteArray := prog_14_method_1_code
def yX16_init : MethodName := ⟨RX16, "<init>", "(LAnyKeyTown;I)V"⟩
def dkwX16_init_0 : List UInt8 := [42, 43, 181, 0, 3, 42, 183, 0, 9, 42, 28, 181, 0, 15, 177]
abbrev dktX16_init_0 : List UInt8 := dkwX16_init_0 ++ []
theorem dksX16_init_0 : cX16_init.data.toList.drop 0 = dktX16_init_0 := by decide +kernel
theorem dX16_init_0 : decode cX16_init 0 = .ok (.aload_n 0, 1) := dk_42 (dk_at dksX16_init_0 0 rfl rfl)
theorem dX16_init_1 : decode cX16_init 1 = .ok (.aload_n 1, 1) := dk_43 (dk_at dksX16_init_0 1 rfl rfl)
theorem dX16_init_2 : decode cX16_init 2 = .ok (.putfield 3, 3) := dk_181 0 3 (dk_at dksX16_init_0 2 rfl rfl)
theorem dX16_init_5 : decode cX16_init 5 = .ok (.aload_n 0, 1) := dk_42 (dk_at dksX16_init_0 5 rfl rfl)
theorem dX16_init_6 : decode cX16_init 6 = .ok (.invokespecial 9, 3) := dk_183 0 9 (dk_at dksX16_init_0 6 rfl rfl)
theorem dX16_init_9 : decode cX16_init 9 = .ok (.aload_n 0, 1) := dk_42 (dk_at dksX16_init_0 9 rfl rfl)
theorem dX16_init_10 : decode cX16_init 10 = .ok (.iload_n 2, 1) := dk_28 (dk_at dksX16_init_0 10 rfl rfl)
theorem dX16_init_11 : decode cX16_init 11 = .ok (.putfield 15, 3) := dk_181 0 15 (dk_at dksX16_init_0 11 rfl rfl)
theorem dX16_init_14 : decode cX16_init 14 = .ok (.return_, 1) := dk_177 (dk_at dksX16_init_0 14 rfl rfl)
abbrev cX16_place : ByteArray := prog_14_method_3_code
def yX16_place : MethodName := ⟨RX16, "place", "()I"⟩
theorem dX16_place_0 : decode cX16_place 0 = .ok (.aload_n 0, 1) := by decide +kernel
theorem dX16_place_1 : decode cX16_place 1 = .ok (.getfield 19, 3) := by decide +kernel
theorem dX16_place_4 : decode cX16_place 4 = .ok (.ireturn, 1) := by decide +kernel
abbrev cX16_person : ByteArray := prog_14_method_10_code
def yX16_person : MethodName := ⟨RX16, "person", "()I"⟩
def dkwX16_person_1 : List UInt8 := [42, 4, 42, 180, 0, 19, 182, 0, 44, 42, 89, 180, 0, 19, 4, 96, 181, 0, 19, 27, 172]
abbrev dktX16_person_1 : List UInt8 := dkwX16_person_1 ++ []
def dkwX16_person_0 : List UInt8 := [42, 182, 0, 36, 16, 97, 100, 60, 42, 182, 0, 32, 153, 0, 21, 27, 16, 16, 184, 0, 40, 154, 0, 12]
abbrev dktX16_person_0 : List UInt8 := dkwX16_person_0 ++ dktX16_person_1
theorem dksX16_person_0 : cX16_person.data.toList.drop 0 = dktX16_person_0 := by decide +kernel
theorem dksX16_person_1 : cX16_person.data.toList.drop 24 = dktX16_person_1 := dk_seg dksX16_person_0 24 rfl rfl
theorem dX16_person_0 : decode cX16_person 0 = .ok (.aload_n 0, 1) := dk_42 (dk_at dksX16_person_0 0 rfl rfl)
theorem dX16_person_1 : decode cX16_person 1 = .ok (.invokevirtual 36, 3) := dk_182 0 36 (dk_at dksX16_person_0 1 rfl rfl)
theorem dX16_person_4 : decode cX16_person 4 = .ok (.bipush 97, 2) := dk_16 97 (dk_at dksX16_person_0 4 rfl rfl)
theorem dX16_person_6 : decode cX16_person 6 = .ok (.isub, 1) := dk_100 (dk_at dksX16_person_0 6 rfl rfl)
theorem dX16_person_7 : decode cX16_person 7 = .ok (.istore_n 1, 1) := dk_60 (dk_at dksX16_person_0 7 rfl rfl)
theorem dX16_person_8 : decode cX16_person 8 = .ok (.aload_n 0, 1) := dk_42 (dk_at dksX16_person_0 8 rfl rfl)
theorem dX16_person_9 : decode cX16_person 9 = .ok (.invokevirtual 32, 3) := dk_182 0 32 (dk_at dksX16_person_0 9 rfl rfl)
theorem dX16_person_12 : decode cX16_person 12 = .ok (.ifCond .eq 21, 3) := dk_153 0 21 (dk_at dksX16_person_0 12 rfl rfl)
theorem dX16_person_15 : decode cX16_person 15 = .ok (.iload_n 1, 1) := dk_27 (dk_at dksX16_person_0 15 rfl rfl)
theorem dX16_person_16 : decode cX16_person 16 = .ok (.bipush 16, 2) := dk_16 16 (dk_at dksX16_person_0 16 rfl rfl)
theorem dX16_person_18 : decode cX16_person 18 = .ok (.invokestatic 40, 3) := dk_184 0 40 (dk_at dksX16_person_0 18 rfl rfl)
theorem dX16_person_21 : decode cX16_person 21 = .ok (.ifCond .ne 12, 3) := dk_154 0 12 (dk_at dksX16_person_0 21 rfl rfl)
theorem dX16_person_24 : decode cX16_person 24 = .ok (.aload_n 0, 1) := dk_42 (dk_at dksX16_person_1 0 rfl rfl)
theorem dX16_person_25 : decode cX16_person 25 = .ok (.iconst 1, 1) := dk_4 (dk_at dksX16_person_1 1 rfl rfl)
theorem dX16_person_26 : decode cX16_person 26 = .ok (.aload_n 0, 1) := dk_42 (dk_at dksX16_person_1 2 rfl rfl)
theorem dX16_person_27 : decode cX16_person 27 = .ok (.getfield 19, 3) := dk_180 0 19 (dk_at dksX16_person_1 3 rfl rfl)
theorem dX16_person_30 : decode cX16_person 30 = .ok (.invokevirtual 44, 3) := dk_182 0 44 (dk_at dksX16_person_1 6 rfl rfl)
theorem dX16_person_33 : decode cX16_person 33 = .ok (.aload_n 0, 1) := dk_42 (dk_at dksX16_person_1 9 rfl rfl)
theorem dX16_person_34 : decode cX16_person 34 = .ok (.dup, 1) := dk_89 (dk_at dksX16_person_1 10 rfl rfl)
theorem dX16_person_35 : decode cX16_person 35 = .ok (.getfield 19, 3) := dk_180 0 19 (dk_at dksX16_person_1 11 rfl rfl)
theorem dX16_person_38 : decode cX16_person 38 = .ok (.iconst 1, 1) := dk_4 (dk_at dksX16_person_1 14 rfl rfl)
theorem dX16_person_39 : decode cX16_person 39 = .ok (.iadd, 1) := dk_96 (dk_at dksX16_person_1 15 rfl rfl)
theorem dX16_person_40 : decode cX16_person 40 = .ok (.putfield 19, 3) := dk_181 0 19 (dk_at dksX16_person_1 16 rfl rfl)
theorem dX16_person_43 : decode cX16_person 43 = .ok (.iload_n 1, 1) := dk_27 (dk_at dksX16_person_1 19 rfl rfl)
theorem dX16_person_44 : decode cX16_person 44 = .ok (.ireturn, 1) := dk_172 (dk_at dksX16_person_1 20 rfl rfl)
abbrev cX16_here : ByteArray := prog_14_method_2_code
def yX16_here : MethodName := ⟨RX16, "here", "()I"⟩
def dkwX16_here_1 : List UInt8 := [17, 0, 255, 126, 167, 0, 4, 3, 172]
abbrev dktX16_here_1 : List UInt8 := dkwX16_here_1 ++ []
def dkwX16_here_0 : List UInt8 := [42, 180, 0, 19, 42, 180, 0, 15, 162, 0, 22, 42, 180, 0, 3, 180, 0, 22, 42, 180, 0, 19, 51]
abbrev dktX16_here_0 : List UInt8 := dkwX16_here_0 ++ dktX16_here_1
theorem dksX16_here_0 : cX16_here.data.toList.drop 0 = dktX16_here_0 := by decide +kernel
theorem dksX16_here_1 : cX16_here.data.toList.drop 23 = dktX16_here_1 := dk_seg dksX16_here_0 23 rfl rfl
theorem dX16_here_0 : decode cX16_here 0 = .ok (.aload_n 0, 1) := dk_42 (dk_at dksX16_here_0 0 rfl rfl)
theorem dX16_here_1 : decode cX16_here 1 = .ok (.getfield 19, 3) := dk_180 0 19 (dk_at dksX16_here_0 1 rfl rfl)
theorem dX16_here_4 : decode cX16_here 4 = .ok (.aload_n 0, 1) := dk_42 (dk_at dksX16_here_0 4 rfl rfl)
theorem dX16_here_5 : decode cX16_here 5 = .ok (.getfield 15, 3) := dk_180 0 15 (dk_at dksX16_here_0 5 rfl rfl)
theorem dX16_here_8 : decode cX16_here 8 = .ok (.if_icmp .ge 22, 3) := dk_162 0 22 (dk_at dksX16_here_0 8 rfl rfl)
theorem dX16_here_11 : decode cX16_here 11 = .ok (.aload_n 0, 1) := dk_42 (dk_at dksX16_here_0 11 rfl rfl)
theorem dX16_here_12 : decode cX16_here 12 = .ok (.getfield 3, 3) := dk_180 0 3 (dk_at dksX16_here_0 12 rfl rfl)
theorem dX16_here_15 : decode cX16_here 15 = .ok (.getfield 22, 3) := dk_180 0 22 (dk_at dksX16_here_0 15 rfl rfl)
theorem dX16_here_18 : decode cX16_here 18 = .ok (.aload_n 0, 1) := dk_42 (dk_at dksX16_here_0 18 rfl rfl)
theorem dX16_here_19 : decode cX16_here 19 = .ok (.getfield 19, 3) := dk_180 0 19 (dk_at dksX16_here_0 19 rfl rfl)
theorem dX16_here_22 : decode cX16_here 22 = .ok (.baload, 1) := dk_51 (dk_at dksX16_here_0 22 rfl rfl)
theorem dX16_here_23 : decode cX16_here 23 = .ok (.sipush 255, 3) := dk_17 0 255 (dk_at dksX16_here_1 0 rfl rfl)
theorem dX16_here_26 : decode cX16_here 26 = .ok (.iand, 1) := dk_126 (dk_at dksX16_here_1 3 rfl rfl)
theorem dX16_here_27 : decode cX16_here 27 = .ok (.goto 4, 3) := dk_167 0 4 (dk_at dksX16_here_1 4 rfl rfl)
theorem dX16_here_30 : decode cX16_here 30 = .ok (.iconst 0, 1) := dk_3 (dk_at dksX16_here_1 7 rfl rfl)
theorem dX16_here_31 : decode cX16_here 31 = .ok (.ireturn, 1) := dk_172 (dk_at dksX16_here_1 8 rfl rfl)
abbrev cX16_isGood : ByteArray := prog_14_method_7_code
def yX16_isGood : MethodName := ⟨RX16, "isGood", "()Z"⟩
def dkwX16_isGood_0 : List UInt8 := [42, 180, 0, 26, 154, 0, 7, 4, 167, 0, 4, 3, 172]
abbrev dktX16_isGood_0 : List UInt8 := dkwX16_isGood_0 ++ []
theorem dksX16_isGood_0 : cX16_isGood.data.toList.drop 0 = dktX16_isGood_0 := by decide +kernel
theorem dX16_isGood_0 : decode cX16_isGood 0 = .ok (.aload_n 0, 1) := dk_42 (dk_at dksX16_isGood_0 0 rfl rfl)
theorem dX16_isGood_1 : decode cX16_isGood 1 = .ok (.getfield 26, 3) := dk_180 0 26 (dk_at dksX16_isGood_0 1 rfl rfl)
theorem dX16_isGood_4 : decode cX16_isGood 4 = .ok (.ifCond .ne 7, 3) := dk_154 0 7 (dk_at dksX16_isGood_0 4 rfl rfl)
theorem dX16_isGood_7 : decode cX16_isGood 7 = .ok (.iconst 1, 1) := dk_4 (dk_at dksX16_isGood_0 7 rfl rfl)
theorem dX16_isGood_8 : decode cX16_isGood 8 = .ok (.goto 4, 3) := dk_167 0 4 (dk_at dksX16_isGood_0 8 rfl rfl)
theorem dX16_isGood_11 : decode cX16_isGood 11 = .ok (.iconst 0, 1) := dk_3 (dk_at dksX16_isGood_0 11 rfl rfl)
theorem dX16_isGood_12 : decode cX16_isGood 12 = .ok (.ireturn, 1) := dk_172 (dk_at dksX16_isGood_0 12 rfl rfl)
abbrev cX16_bad : ByteArray := prog_14_method_6_code
def yX16_bad : MethodName := ⟨RX16, "bad", "(II)V"⟩
def dkwX16_bad_0 : List UInt8 := [42, 180, 0, 26, 158, 0, 4, 177, 42, 27, 181, 0, 26, 42, 28, 181, 0, 29, 177]
abbrev dktX16_bad_0 : List UInt8 := dkwX16_bad_0 ++ []
theorem dksX16_bad_0 : cX16_bad.data.toList.drop 0 = dktX16_bad_0 := by decide +kernel
theorem dX16_bad_0 : decode cX16_bad 0 = .ok (.aload_n 0, 1) := dk_42 (dk_at dksX16_bad_0 0 rfl rfl)
theorem dX16_bad_1 : decode cX16_bad 1 = .ok (.getfield 26, 3) := dk_180 0 26 (dk_at dksX16_bad_0 1 rfl rfl)
theorem dX16_bad_4 : decode cX16_bad 4 = .ok (.ifCond .le 4, 3) := dk_158 0 4 (dk_at dksX16_bad_0 4 rfl rfl)
theorem dX16_bad_7 : decode cX16_bad 7 = .ok (.return_, 1) := dk_177 (dk_at dksX16_bad_0 7 rfl rfl)
theorem dX16_bad_8 : decode cX16_bad 8 = .ok (.aload_n 0, 1) := dk_42 (dk_at dksX16_bad_0 8 rfl rfl)
theorem dX16_bad_9 : decode cX16_bad 9 = .ok (.iload_n 1, 1) := dk_27 (dk_at dksX16_bad_0 9 rfl rfl)
theorem dX16_bad_10 : decode cX16_bad 10 = .ok (.putfield 26, 3) := dk_181 0 26 (dk_at dksX16_bad_0 10 rfl rfl)
theorem dX16_bad_13 : decode cX16_bad 13 = .ok (.aload_n 0, 1) := dk_42 (dk_at dksX16_bad_0 13 rfl rfl)
theorem dX16_bad_14 : decode cX16_bad 14 = .ok (.iload_n 2, 1) := dk_28 (dk_at dksX16_bad_0 14 rfl rfl)
theorem dX16_bad_15 : decode cX16_bad 15 = .ok (.putfield 29, 3) := dk_181 0 29 (dk_at dksX16_bad_0 15 rfl rfl)
theorem dX16_bad_18 : decode cX16_bad 18 = .ok (.return_, 1) := dk_177 (dk_at dksX16_bad_0 18 rfl rfl)
abbrev cX16_goesOn : ByteArray := prog_14_method_4_code
def yX16_goesOn : MethodName := ⟨RX16, "goesOn", "()V"⟩
def dkwX16_goesOn_0 : List UInt8 := [42, 89, 180, 0, 19, 4, 96, 181, 0, 19, 177]
abbrev dktX16_goesOn_0 : List UInt8 := dkwX16_goesOn_0 ++ []
theorem dksX16_goesOn_0 : cX16_goesOn.data.toList.drop 0 = dktX16_goesOn_0 := by decide +kernel
theorem dX16_goesOn_0 : decode cX16_goesOn 0 = .ok (.aload_n 0, 1) := dk_42 (dk_at dksX16_goesOn_0 0 rfl rfl)
theorem dX16_goesOn_1 : decode cX16_goesOn 1 = .ok (.dup, 1) := dk_89 (dk_at dksX16_goesOn_0 1 rfl rfl)
theorem dX16_goesOn_2 : decode cX16_goesOn 2 = .ok (.getfield 19, 3) := dk_180 0 19 (dk_at dksX16_goesOn_0 2 rfl rfl)
theorem dX16_goesOn_5 : decode cX16_goesOn 5 = .ok (.iconst 1, 1) := dk_4 (dk_at dksX16_goesOn_0 5 rfl rfl)
theorem dX16_goesOn_6 : decode cX16_goesOn 6 = .ok (.iadd, 1) := dk_96 (dk_at dksX16_goesOn_0 6 rfl rfl)
theorem dX16_goesOn_7 : decode cX16_goesOn 7 = .ok (.putfield 19, 3) := dk_181 0 19 (dk_at dksX16_goesOn_0 7 rfl rfl)
theorem dX16_goesOn_10 : decode cX16_goesOn 10 = .ok (.return_, 1) := dk_177 (dk_at dksX16_goesOn_0 10 rfl rfl)
abbrev cX16_sees : ByteArray := prog_14_method_9_code
def yX16_sees : MethodName := ⟨RX16, "sees", "(II)Z"⟩
def dkwX16_sees_0 : List UInt8 := [42, 182, 0, 36, 27, 161, 0, 15, 42, 182, 0, 36, 28, 163, 0, 7, 4, 167, 0, 4, 3, 172]
abbrev dktX16_sees_0 : List UInt8 := dkwX16_sees_0 ++ []
theorem dksX16_sees_0 : cX16_sees.data.toList.drop 0 = dktX16_sees_0 := by decide +kernel
theorem dX16_sees_0 : decode cX16_sees 0 = .ok (.aload_n 0, 1) := dk_42 (dk_at dksX16_sees_0 0 rfl rfl)
theorem dX16_sees_1 : decode cX16_sees 1 = .ok (.invokevirtual 36, 3) := dk_182 0 36 (dk_at dksX16_sees_0 1 rfl rfl)
theorem dX16_sees_4 : decode cX16_sees 4 = .ok (.iload_n 1, 1) := dk_27 (dk_at dksX16_sees_0 4 rfl rfl)
theorem dX16_sees_5 : decode cX16_sees 5 = .ok (.if_icmp .lt 15, 3) := dk_161 0 15 (dk_at dksX16_sees_0 5 rfl rfl)
theorem dX16_sees_8 : decode cX16_sees 8 = .ok (.aload_n 0, 1) := dk_42 (dk_at dksX16_sees_0 8 rfl rfl)
theorem dX16_sees_9 : decode cX16_sees 9 = .ok (.invokevirtual 36, 3) := dk_182 0 36 (dk_at dksX16_sees_0 9 rfl rfl)
theorem dX16_sees_12 : decode cX16_sees 12 = .ok (.iload_n 2, 1) := dk_28 (dk_at dksX16_sees_0 12 rfl rfl)
theorem dX16_sees_13 : decode cX16_sees 13 = .ok (.if_icmp .gt 7, 3) := dk_163 0 7 (dk_at dksX16_sees_0 13 rfl rfl)
theorem dX16_sees_16 : decode cX16_sees 16 = .ok (.iconst 1, 1) := dk_4 (dk_at dksX16_sees_0 16 rfl rfl)
theorem dX16_sees_17 : decode cX16_sees 17 = .ok (.goto 4, 3) := dk_167 0 4 (dk_at dksX16_sees_0 17 rfl rfl)
theorem dX16_sees_20 : decode cX16_sees 20 = .ok (.iconst 0, 1) := dk_3 (dk_at dksX16_sees_0 20 rfl rfl)
theorem dX16_sees_21 : decode cX16_sees 21 = .ok (.ireturn, 1) := dk_172 (dk_at dksX16_sees_0 21 rfl rfl)
abbrev cX16_isEnd : ByteArray := prog_14_method_5_code
def yX16_isEnd : MethodName := ⟨RX16, "isEnd", "()Z"⟩
def dkwX16_isEnd_0 : List UInt8 := [42, 180, 0, 19, 42, 180, 0, 15, 161, 0, 7, 4, 167, 0, 4, 3, 172]
abbrev dktX16_isEnd_0 : List UInt8 := dkwX16_isEnd_0 ++ []
theorem dksX16_isEnd_0 : cX16_isEnd.data.toList.drop 0 = dktX16_isEnd_0 := by decide +kernel
theorem dX16_isEnd_0 : decode cX16_isEnd 0 = .ok (.aload_n 0, 1) := dk_42 (dk_at dksX16_isEnd_0 0 rfl rfl)
theorem dX16_isEnd_1 : decode cX16_isEnd 1 = .ok (.getfield 19, 3) := dk_180 0 19 (dk_at dksX16_isEnd_0 1 rfl rfl)
theorem dX16_isEnd_4 : decode cX16_isEnd 4 = .ok (.aload_n 0, 1) := dk_42 (dk_at dksX16_isEnd_0 4 rfl rfl)
theorem dX16_isEnd_5 : decode cX16_isEnd 5 = .ok (.getfield 15, 3) := dk_180 0 15 (dk_at dksX16_isEnd_0 5 rfl rfl)
theorem dX16_isEnd_8 : decode cX16_isEnd 8 = .ok (.if_icmp .lt 7, 3) := dk_161 0 7 (dk_at dksX16_isEnd_0 8 rfl rfl)
theorem dX16_isEnd_11 : decode cX16_isEnd 11 = .ok (.iconst 1, 1) := dk_4 (dk_at dksX16_isEnd_0 11 rfl rfl)
theorem dX16_isEnd_12 : decode cX16_isEnd 12 = .ok (.goto 4, 3) := dk_167 0 4 (dk_at dksX16_isEnd_0 12 rfl rfl)
theorem dX16_isEnd_15 : decode cX16_isEnd 15 = .ok (.iconst 0, 1) := dk_3 (dk_at dksX16_isEnd_0 15 rfl rfl)
theorem dX16_isEnd_16 : decode cX16_isEnd 16 = .ok (.ireturn, 1) := dk_172 (dk_at dksX16_isEnd_0 16 rfl rfl)
abbrev cX16_answer : ByteArray := prog_14_method_8_code
def yX16_answer : MethodName := ⟨RX16, "answer", "(I)I"⟩
def dkwX16_answer_1 : List UInt8 := [172]
abbrev dktX16_answer_1 : List UInt8 := dkwX16_answer_1 ++ []
def dkwX16_answer_0 : List UInt8 := [42, 182, 0, 32, 153, 0, 7, 27, 167, 0, 16, 17, 252, 24, 42, 180, 0, 26, 104, 42, 180, 0, 29, 100]
abbrev dktX16_answer_0 : List UInt8 := dkwX16_answer_0 ++ dktX16_answer_1
theorem dksX16_answer_0 : cX16_answer.data.toList.drop 0 = dktX16_answer_0 := by decide +kernel
theorem dksX16_answer_1 : cX16_answer.data.toList.drop 24 = dktX16_answer_1 := dk_seg dksX16_answer_0 24 rfl rfl
theorem dX16_answer_0 : decode cX16_answer 0 = .ok (.aload_n 0, 1) := dk_42 (dk_at dksX16_answer_0 0 rfl rfl)
theorem dX16_answer_1 : decode cX16_answer 1 = .ok (.invokevirtual 32, 3) := dk_182 0 32 (dk_at dksX16_answer_0 1 rfl rfl)
theorem dX16_answer_4 : decode cX16_answer 4 = .ok (.ifCond .eq 7, 3) := dk_153 0 7 (dk_at dksX16_answer_0 4 rfl rfl)
theorem dX16_answer_7 : decode cX16_answer 7 = .ok (.iload_n 1, 1) := dk_27 (dk_at dksX16_answer_0 7 rfl rfl)
theorem dX16_answer_8 : decode cX16_answer 8 = .ok (.goto 16, 3) := dk_167 0 16 (dk_at dksX16_answer_0 8 rfl rfl)
theorem dX16_answer_11 : decode cX16_answer 11 = .ok (.sipush (-1000), 3) := dk_17 252 24 (dk_at dksX16_answer_0 11 rfl rfl)
theorem dX16_answer_14 : decode cX16_answer 14 = .ok (.aload_n 0, 1) := dk_42 (dk_at dksX16_answer_0 14 rfl rfl)
theorem dX16_answer_15 : decode cX16_answer 15 = .ok (.getfield 26, 3) := dk_180 0 26 (dk_at dksX16_answer_0 15 rfl rfl)
theorem dX16_answer_18 : decode cX16_answer 18 = .ok (.imul, 1) := dk_104 (dk_at dksX16_answer_0 18 rfl rfl)
theorem dX16_answer_19 : decode cX16_answer 19 = .ok (.aload_n 0, 1) := dk_42 (dk_at dksX16_answer_0 19 rfl rfl)
theorem dX16_answer_20 : decode cX16_answer 20 = .ok (.getfield 29, 3) := dk_180 0 29 (dk_at dksX16_answer_0 20 rfl rfl)
theorem dX16_answer_23 : decode cX16_answer 23 = .ok (.isub, 1) := dk_100 (dk_at dksX16_answer_0 23 rfl rfl)
theorem dX16_answer_24 : decode cX16_answer 24 = .ok (.ireturn, 1) := dk_172 (dk_at dksX16_answer_1 0 rfl rfl)
theorem q123 : (Jvm.Cond.initialized "AnyKeyTown$Scribe") ∈ lw_all := lw_g (lw_at lw_m1 23 rfl) rfl
theorem q301 : (Jvm.Cond.fieldLinkNest "AnyKeyTown$Scribe" (22 : Nat) "AnyKeyTown" "tape" "[B" "AnyKeyTown") ∈ lw_tbl := lw_at lw_m1 201 rfl
theorem q646 : (Jvm.Cond.instanceMethod ({ cls := "AnyKeyTown$Scribe", name := "<init>", desc := "(LAnyKeyTown;I)V" } : Jvm.MethodName)) ∈ lw_all := lw_g (lw_at lw_m3 66 rfl) rfl
theorem q647 : (Jvm.Cond.code ({ cls := "AnyKeyTown$Scribe", name := "<init>", desc := "(LAnyKeyTown;I)V" } : Jvm.MethodName) prog_14_method_1_code (3 : Nat) (Option.none : Option Jvm.ClassFile.FieldType)) ∈ lw_all := lw_g (lw_at lw_m3 67 rfl) rfl
theorem q648 : (Jvm.Cond.methodLink "AnyKeyTown$Scribe" (9 : Nat) ({ cls := "java/lang/Object", name := "<init>", desc := "()V" } : Jvm.MethodName)) ∈ lw_all := lw_g (lw_at lw_m3 68 rfl) rfl
theorem q655 : (Jvm.Cond.fieldLink "AnyKeyTown$Scribe" (15 : Nat) "AnyKeyTown$Scribe" "n" "I") ∈ lw_all := lw_g (lw_at lw_m3 75 rfl) rfl
theorem q656 : (Jvm.Cond.fieldLink "AnyKeyTown$Scribe" (19 : Nat) "AnyKeyTown$Scribe" "at" "I") ∈ lw_all := lw_g (lw_at lw_m3 76 rfl) rfl
theorem q657 : (Jvm.Cond.fieldLink "AnyKeyTown$Scribe" (26 : Nat) "AnyKeyTown$Scribe" "fault" "I") ∈ lw_all := lw_g (lw_at lw_m3 77 rfl) rfl
theorem q658 : (Jvm.Cond.fieldLink "AnyKeyTown$Scribe" (29 : Nat) "AnyKeyTown$Scribe" "place" "I") ∈ lw_all := lw_g (lw_at lw_m3 78 rfl) rfl
theorem q659 : (Jvm.Cond.fieldLink "AnyKeyTown$Scribe" (3 : Nat) "AnyKeyTown$Scribe" "this$0" "LAnyKeyTown;") ∈ lw_all := lw_g (lw_at lw_m3 79 rfl) rfl
theorem q665 : (Jvm.Cond.soleField "AnyKeyTown$Scribe" "n") ∈ lw_all := lw_g (lw_at lw_m3 85 rfl) rfl
theorem q667 : (Jvm.Cond.soleField "AnyKeyTown$Scribe" "at") ∈ lw_all := lw_g (lw_at lw_m3 87 rfl) rfl
theorem q669 : (Jvm.Cond.soleField "AnyKeyTown$Scribe" "fault") ∈ lw_all := lw_g (lw_at lw_m3 89 rfl) rfl
theorem q671 : (Jvm.Cond.soleField "AnyKeyTown$Scribe" "place") ∈ lw_all := lw_g (lw_at lw_m3 91 rfl) rfl
theorem q673 : (Jvm.Cond.soleField "AnyKeyTown$Scribe" "this$0") ∈ lw_all := lw_g (lw_at lw_m3 93 rfl) rfl
theorem q685 : (Jvm.Cond.declares ({ cls := "AnyKeyTown$Scribe", name := "place", desc := "()I" } : Jvm.MethodName)) ∈ lw_tbl := lw_at lw_m3 105 rfl
theorem q687 : (Jvm.Cond.instanceMethod ({ cls := "AnyKeyTown$Scribe", name := "place", desc := "()I" } : Jvm.MethodName)) ∈ lw_all := lw_g (lw_at lw_m3 107 rfl) rfl
theorem q688 : (Jvm.Cond.code ({ cls := "AnyKeyTown$Scribe", name := "place", desc := "()I" } : Jvm.MethodName) prog_14_method_3_code (1 : Nat) (Option.some Jvm.ClassFile.FieldType.int)) ∈ lw_all := lw_g (lw_at lw_m3 108 rfl) rfl
theorem q691 : (Jvm.Cond.declares ({ cls := "AnyKeyTown$Scribe", name := "person", desc := "()I" } : Jvm.MethodName)) ∈ lw_tbl := lw_at lw_m3 111 rfl
theorem q693 : (Jvm.Cond.instanceMethod ({ cls := "AnyKeyTown$Scribe", name := "person", desc := "()I" } : Jvm.MethodName)) ∈ lw_all := lw_g (lw_at lw_m3 113 rfl) rfl
theorem q694 : (Jvm.Cond.code ({ cls := "AnyKeyTown$Scribe", name := "person", desc := "()I" } : Jvm.MethodName) prog_14_method_10_code (2 : Nat) (Option.some Jvm.ClassFile.FieldType.int)) ∈ lw_all := lw_g (lw_at lw_m3 114 rfl) rfl
theorem q695 : (Jvm.Cond.methodLink "AnyKeyTown$Scribe" (36 : Nat) ({ cls := "AnyKeyTown$Scribe", name := "here", desc := "()I" } : Jvm.MethodName)) ∈ lw_all := lw_g (lw_at lw_m3 115 rfl) rfl
theorem q696 : (Jvm.Cond.instanceMethod ({ cls := "AnyKeyTown$Scribe", name := "here", desc := "()I" } : Jvm.MethodName)) ∈ lw_all := lw_g (lw_at lw_m3 116 rfl) rfl
theorem q697 : (Jvm.Cond.sameMethod "AnyKeyTown$Scribe" "AnyKeyTown$Scribe" "here" "()I") ∈ lw_all := lw_g (lw_at lw_m3 117 rfl) rfl
theorem q700 : (Jvm.Cond.code ({ cls := "AnyKeyTown$Scribe", name := "here", desc := "()I" } : Jvm.MethodName) prog_14_method_2_code (1 : Nat) (Option.some Jvm.ClassFile.FieldType.int)) ∈ lw_all := lw_g (lw_at lw_m3 120 rfl) rfl
theorem q701 : (Jvm.Cond.methodLink "AnyKeyTown$Scribe" (32 : Nat) ({ cls := "AnyKeyTown$Scribe", name := "isGood", desc := "()Z" } : Jvm.MethodName)) ∈ lw_all := lw_g (lw_at lw_m3 121 rfl) rfl
theorem q702 : (Jvm.Cond.instanceMethod ({ cls := "AnyKeyTown$Scribe", name := "isGood", desc := "()Z" } : Jvm.MethodName)) ∈ lw_all := lw_g (lw_at lw_m3 122 rfl) rfl
theorem q703 : (Jvm.Cond.sameMethod "AnyKeyTown$Scribe" "AnyKeyTown$Scribe" "isGood" "()Z") ∈ lw_all := lw_g (lw_at lw_m3 123 rfl) rfl
theorem q706 : (Jvm.Cond.code ({ cls := "AnyKeyTown$Scribe", name := "isGood", desc := "()Z" } : Jvm.MethodName) prog_14_method_7_code (1 : Nat) (Option.some Jvm.ClassFile.FieldType.boolean)) ∈ lw_all := lw_g (lw_at lw_m3 126 rfl) rfl
theorem q707 : (Jvm.Cond.methodLinkNest "AnyKeyTown$Scribe" (40 : Nat) ({ cls := "AnyKeyTown", name := "in", desc := "(II)Z" } : Jvm.MethodName) "AnyKeyTown") ∈ lw_tbl := lw_at lw_m3 127 rfl
theorem q710 : (Jvm.Cond.methodLink "AnyKeyTown$Scribe" (44 : Nat) ({ cls := "AnyKeyTown$Scribe", name := "bad", desc := "(II)V" } : Jvm.MethodName)) ∈ lw_all := lw_g (lw_at lw_m3 130 rfl) rfl
theorem q711 : (Jvm.Cond.instanceMethod ({ cls := "AnyKeyTown$Scribe", name := "bad", desc := "(II)V" } : Jvm.MethodName)) ∈ lw_all := lw_g (lw_at lw_m3 131 rfl) rfl
theorem q712 : (Jvm.Cond.sameMethod "AnyKeyTown$Scribe" "AnyKeyTown$Scribe" "bad" "(II)V") ∈ lw_all := lw_g (lw_at lw_m3 132 rfl) rfl
theorem q715 : (Jvm.Cond.code ({ cls := "AnyKeyTown$Scribe", name := "bad", desc := "(II)V" } : Jvm.MethodName) prog_14_method_6_code (3 : Nat) (Option.none : Option Jvm.ClassFile.FieldType)) ∈ lw_all := lw_g (lw_at lw_m3 135 rfl) rfl
theorem q718 : (Jvm.Cond.declares ({ cls := "AnyKeyTown$Scribe", name := "isGood", desc := "()Z" } : Jvm.MethodName)) ∈ lw_tbl := lw_at lw_m3 138 rfl
theorem q722 : (Jvm.Cond.declares ({ cls := "AnyKeyTown$Scribe", name := "bad", desc := "(II)V" } : Jvm.MethodName)) ∈ lw_tbl := lw_at lw_m3 142 rfl
theorem q726 : (Jvm.Cond.declares ({ cls := "AnyKeyTown$Scribe", name := "here", desc := "()I" } : Jvm.MethodName)) ∈ lw_tbl := lw_at lw_m3 146 rfl
theorem q736 : (Jvm.Cond.declares ({ cls := "AnyKeyTown$Scribe", name := "goesOn", desc := "()V" } : Jvm.MethodName)) ∈ lw_tbl := lw_at lw_m3 156 rfl
theorem q738 : (Jvm.Cond.instanceMethod ({ cls := "AnyKeyTown$Scribe", name := "goesOn", desc := "()V" } : Jvm.MethodName)) ∈ lw_all := lw_g (lw_at lw_m3 158 rfl) rfl
theorem q739 : (Jvm.Cond.code ({ cls := "AnyKeyTown$Scribe", name := "goesOn", desc := "()V" } : Jvm.MethodName) prog_14_method_4_code (1 : Nat) (Option.none : Option Jvm.ClassFile.FieldType)) ∈ lw_all := lw_g (lw_at lw_m3 159 rfl) rfl
theorem q746 : (Jvm.Cond.declares ({ cls := "AnyKeyTown$Scribe", name := "sees", desc := "(II)Z" } : Jvm.MethodName)) ∈ lw_tbl := lw_at lw_m3 166 rfl
theorem q748 : (Jvm.Cond.instanceMethod ({ cls := "AnyKeyTown$Scribe", name := "sees", desc := "(II)Z" } : Jvm.MethodName)) ∈ lw_all := lw_g (lw_at lw_m3 168 rfl) rfl
theorem q749 : (Jvm.Cond.code ({ cls := "AnyKeyTown$Scribe", name := "sees", desc := "(II)Z" } : Jvm.MethodName) prog_14_method_9_code (3 : Nat) (Option.some Jvm.ClassFile.FieldType.boolean)) ∈ lw_all := lw_g (lw_at lw_m3 169 rfl) rfl
theorem q760 : (Jvm.Cond.declares ({ cls := "AnyKeyTown$Scribe", name := "isEnd", desc := "()Z" } : Jvm.MethodName)) ∈ lw_tbl := lw_at lw_m3 180 rfl
theorem q762 : (Jvm.Cond.instanceMethod ({ cls := "AnyKeyTown$Scribe", name := "isEnd", desc := "()Z" } : Jvm.MethodName)) ∈ lw_all := lw_g (lw_at lw_m3 182 rfl) rfl
theorem q763 : (Jvm.Cond.code ({ cls := "AnyKeyTown$Scribe", name := "isEnd", desc := "()Z" } : Jvm.MethodName) prog_14_method_5_code (1 : Nat) (Option.some Jvm.ClassFile.FieldType.boolean)) ∈ lw_all := lw_g (lw_at lw_m3 183 rfl) rfl
theorem q766 : (Jvm.Cond.declares ({ cls := "AnyKeyTown$Scribe", name := "answer", desc := "(I)I" } : Jvm.MethodName)) ∈ lw_tbl := lw_at lw_m3 186 rfl
theorem q768 : (Jvm.Cond.instanceMethod ({ cls := "AnyKeyTown$Scribe", name := "answer", desc := "(I)I" } : Jvm.MethodName)) ∈ lw_all := lw_g (lw_at lw_m3 188 rfl) rfl
theorem q769 : (Jvm.Cond.code ({ cls := "AnyKeyTown$Scribe", name := "answer", desc := "(I)I" } : Jvm.MethodName) prog_14_method_8_code (2 : Nat) (Option.some Jvm.ClassFile.FieldType.int)) ∈ lw_all := lw_g (lw_at lw_m3 189 rfl) rfl
/-! AnyKeyTown$Constable -/
set_option maxRecDepth 100000
def RX17 : String := "AnyKeyTown$Constable"
def TX17 : u_T := fun k => match k with
  | 0 => ("AnyKeyTown$Scribe", "n", "I", true)
  | 1 => ("AnyKeyTown$Scribe", "at", "I", false)
  | 2 => ("AnyKeyTown$Scribe", "fault", "I", false)
  | 3 => ("AnyKeyTown$Scribe", "place", "I", false)
  | 4 => ("AnyKeyTown$Scribe", "this$0", "LAnyKeyTown;", true)
  | 5 => ("AnyKeyTown$Constable", "lines", "I", false)
  | _ => ("AnyKeyTown$Constable", "this$0", "LAnyKeyTown;", true)
def tyX17 : Nat → FieldType := fun k => match k with
  | 0 => .int
  | 1 => .int
  | 2 => .int
  | 3 => .int
  | 4 => .object "AnyKeyTown"
  | 5 => .int
  | _ => .object "AnyKeyTown"
abbrev wsX170 : List Cond := u_ws RX17 TX17 7
-- two fields of one name: no nmX17
theorem tyX17_ok : ∀ k, k < 7 → parseFieldDescriptor (TX17 k).2.2.1 = some (tyX17 k) := by decide +kernel
abbrev cX17_init : ByteArray := prog_5_method_1_code
def yX17_init : MethodName := ⟨RX17, "<init>", "(LAnyKeyTown;I)V"⟩
def dkwX17_init_0 : List UInt8 := [42, 43, 181, 0, 3, 42, 43, 28, 183, 0, 9, 43, 180, 0, 15, 43, 180, 0, 19, 182, 0, 22, 177]
abbrev dktX17_init_0 : List UInt8 := dkwX17_init_0 ++ []
theorem dksX17_init_0 : cX17_init.data.toList.drop 0 = dktX17_init_0 := by decide +kernel
theorem dX17_init_0 : decode cX17_init 0 = .ok (.aload_n 0, 1) := dk_42 (dk_at dksX17_init_0 0 rfl rfl)
theorem dX17_init_1 : decode cX17_init 1 = .ok (.aload_n 1, 1) := dk_43 (dk_at dksX17_init_0 1 rfl rfl)
theorem dX17_init_2 : decode cX17_init 2 = .ok (.putfield 3, 3) := dk_181 0 3 (dk_at dksX17_init_0 2 rfl rfl)
theorem dX17_init_5 : decode cX17_init 5 = .ok (.aload_n 0, 1) := dk_42 (dk_at dksX17_init_0 5 rfl rfl)
theorem dX17_init_6 : decode cX17_init 6 = .ok (.aload_n 1, 1) := dk_43 (dk_at dksX17_init_0 6 rfl rfl)
theorem dX17_init_7 : decode cX17_init 7 = .ok (.iload_n 2, 1) := dk_28 (dk_at dksX17_init_0 7 rfl rfl)
theorem dX17_init_8 : decode cX17_init 8 = .ok (.invokespecial 9, 3) := dk_183 0 9 (dk_at dksX17_init_0 8 rfl rfl)
theorem dX17_init_11 : decode cX17_init 11 = .ok (.aload_n 1, 1) := dk_43 (dk_at dksX17_init_0 11 rfl rfl)
theorem dX17_init_12 : decode cX17_init 12 = .ok (.getfield 15, 3) := dk_180 0 15 (dk_at dksX17_init_0 12 rfl rfl)
theorem dX17_init_15 : decode cX17_init 15 = .ok (.aload_n 1, 1) := dk_43 (dk_at dksX17_init_0 15 rfl rfl)
theorem dX17_init_16 : decode cX17_init 16 = .ok (.getfield 19, 3) := dk_180 0 19 (dk_at dksX17_init_0 16 rfl rfl)
theorem dX17_init_19 : decode cX17_init 19 = .ok (.invokevirtual 22, 3) := dk_182 0 22 (dk_at dksX17_init_0 19 rfl rfl)
theorem dX17_init_22 : decode cX17_init 22 = .ok (.return_, 1) := dk_177 (dk_at dksX17_init_0 22 rfl rfl)
abbrev cX17_read : ByteArray := prog_5_method_5_code
def yX17_read : MethodName := ⟨RX17, "read", "()I"⟩
def dkwX17_read_2 : List UInt8 := [182, 0, 92, 167, 255, 209, 42, 42, 180, 0, 73, 182, 0, 98, 172]
abbrev dktX17_read_2 : List UInt8 := dkwX17_read_2 ++ []
def dkwX17_read_1 : List UInt8 := [159, 0, 12, 42, 4, 42, 182, 0, 28, 182, 0, 36, 42, 182, 0, 47, 42, 182, 0, 40, 153, 255, 216, 42]
abbrev dktX17_read_1 : List UInt8 := dkwX17_read_1 ++ dktX17_read_2
def dkwX17_read_0 : List UInt8 := [42, 182, 0, 92, 42, 182, 0, 40, 153, 0, 46, 42, 182, 0, 95, 154, 0, 39, 42, 182, 0, 44, 16, 59]
abbrev dktX17_read_0 : List UInt8 := dkwX17_read_0 ++ dktX17_read_1
theorem dksX17_read_0 : cX17_read.data.toList.drop 0 = dktX17_read_0 := by decide +kernel
theorem dksX17_read_1 : cX17_read.data.toList.drop 24 = dktX17_read_1 := dk_seg dksX17_read_0 24 rfl rfl
theorem dksX17_read_2 : cX17_read.data.toList.drop 48 = dktX17_read_2 := dk_seg dksX17_read_1 24 rfl rfl
theorem dX17_read_0 : decode cX17_read 0 = .ok (.aload_n 0, 1) := dk_42 (dk_at dksX17_read_0 0 rfl rfl)
theorem dX17_read_1 : decode cX17_read 1 = .ok (.invokevirtual 92, 3) := dk_182 0 92 (dk_at dksX17_read_0 1 rfl rfl)
theorem dX17_read_4 : decode cX17_read 4 = .ok (.aload_n 0, 1) := dk_42 (dk_at dksX17_read_0 4 rfl rfl)
theorem dX17_read_5 : decode cX17_read 5 = .ok (.invokevirtual 40, 3) := dk_182 0 40 (dk_at dksX17_read_0 5 rfl rfl)
theorem dX17_read_8 : decode cX17_read 8 = .ok (.ifCond .eq 46, 3) := dk_153 0 46 (dk_at dksX17_read_0 8 rfl rfl)
theorem dX17_read_11 : decode cX17_read 11 = .ok (.aload_n 0, 1) := dk_42 (dk_at dksX17_read_0 11 rfl rfl)
theorem dX17_read_12 : decode cX17_read 12 = .ok (.invokevirtual 95, 3) := dk_182 0 95 (dk_at dksX17_read_0 12 rfl rfl)
theorem dX17_read_15 : decode cX17_read 15 = .ok (.ifCond .ne 39, 3) := dk_154 0 39 (dk_at dksX17_read_0 15 rfl rfl)
theorem dX17_read_18 : decode cX17_read 18 = .ok (.aload_n 0, 1) := dk_42 (dk_at dksX17_read_0 18 rfl rfl)
theorem dX17_read_19 : decode cX17_read 19 = .ok (.invokevirtual 44, 3) := dk_182 0 44 (dk_at dksX17_read_0 19 rfl rfl)
theorem dX17_read_22 : decode cX17_read 22 = .ok (.bipush 59, 2) := dk_16 59 (dk_at dksX17_read_0 22 rfl rfl)
theorem dX17_read_24 : decode cX17_read 24 = .ok (.if_icmp .eq 12, 3) := dk_159 0 12 (dk_at dksX17_read_1 0 rfl rfl)
theorem dX17_read_27 : decode cX17_read 27 = .ok (.aload_n 0, 1) := dk_42 (dk_at dksX17_read_1 3 rfl rfl)
theorem dX17_read_28 : decode cX17_read 28 = .ok (.iconst 1, 1) := dk_4 (dk_at dksX17_read_1 4 rfl rfl)
theorem dX17_read_29 : decode cX17_read 29 = .ok (.aload_n 0, 1) := dk_42 (dk_at dksX17_read_1 5 rfl rfl)
theorem dX17_read_30 : decode cX17_read 30 = .ok (.invokevirtual 28, 3) := dk_182 0 28 (dk_at dksX17_read_1 6 rfl rfl)
theorem dX17_read_33 : decode cX17_read 33 = .ok (.invokevirtual 36, 3) := dk_182 0 36 (dk_at dksX17_read_1 9 rfl rfl)
theorem dX17_read_36 : decode cX17_read 36 = .ok (.aload_n 0, 1) := dk_42 (dk_at dksX17_read_1 12 rfl rfl)
theorem dX17_read_37 : decode cX17_read 37 = .ok (.invokevirtual 47, 3) := dk_182 0 47 (dk_at dksX17_read_1 13 rfl rfl)
theorem dX17_read_40 : decode cX17_read 40 = .ok (.aload_n 0, 1) := dk_42 (dk_at dksX17_read_1 16 rfl rfl)
theorem dX17_read_41 : decode cX17_read 41 = .ok (.invokevirtual 40, 3) := dk_182 0 40 (dk_at dksX17_read_1 17 rfl rfl)
theorem dX17_read_44 : decode cX17_read 44 = .ok (.ifCond .eq (-40), 3) := dk_153 255 216 (dk_at dksX17_read_1 20 rfl rfl)
theorem dX17_read_47 : decode cX17_read 47 = .ok (.aload_n 0, 1) := dk_42 (dk_at dksX17_read_1 23 rfl rfl)
theorem dX17_read_48 : decode cX17_read 48 = .ok (.invokevirtual 92, 3) := dk_182 0 92 (dk_at dksX17_read_2 0 rfl rfl)
theorem dX17_read_51 : decode cX17_read 51 = .ok (.goto (-47), 3) := dk_167 255 209 (dk_at dksX17_read_2 3 rfl rfl)
theorem dX17_read_54 : decode cX17_read 54 = .ok (.aload_n 0, 1) := dk_42 (dk_at dksX17_read_2 6 rfl rfl)
theorem dX17_read_55 : decode cX17_read 55 = .ok (.aload_n 0, 1) := dk_42 (dk_at dksX17_read_2 7 rfl rfl)
theorem dX17_read_56 : decode cX17_read 56 = .ok (.getfield 73, 3) := dk_180 0 73 (dk_at dksX17_read_2 8 rfl rfl)
theorem dX17_read_59 : decode cX17_read 59 = .ok (.invokevirtual 98, 3) := dk_182 0 98 (dk_at dksX17_read_2 11 rfl rfl)
theorem dX17_read_62 : decode cX17_read 62 = .ok (.ireturn, 1) := dk_172 (dk_at dksX17_read_2 14 rfl rfl)
abbrev cX17_line : ByteArray := prog_5_method_4_code
def yX17_line : MethodName := ⟨RX17, "line", "()V"⟩
def dkwX17_line_9 : List UInt8 := [181, 0, 51, 167, 0, 19, 42, 28, 29, 16, 42, 160, 0, 7, 4, 167, 0, 4, 3, 182, 0, 88, 177]
abbrev dktX17_line_9 : List UInt8 := dkwX17_line_9 ++ []
def dkwX17_line_8 : List UInt8 := [126, 181, 0, 51, 167, 0, 40, 42, 180, 0, 3, 180, 0, 15, 89, 180, 0, 51, 4, 28, 120, 128]
abbrev dktX17_line_8 : List UInt8 := dkwX17_line_8 ++ dktX17_line_9
def dkwX17_line_7 : List UInt8 := [42, 28, 182, 0, 84, 167, 0, 63, 42, 180, 0, 3, 180, 0, 15, 89, 180, 0, 51, 4, 28, 120, 2, 130]
abbrev dktX17_line_7 : List UInt8 := dkwX17_line_7 ++ dktX17_line_8
def dkwX17_line_6 : List UInt8 := [171, 0, 0, 0, 85, 0, 0, 0, 3, 0, 0, 0, 35, 0, 0, 0, 41, 0, 0, 0, 61, 0, 0, 0, 64, 0, 0, 0, 64, 0, 0, 0, 33]
abbrev dktX17_line_6 : List UInt8 := dkwX17_line_6 ++ dktX17_line_7
def dkwX17_line_5 : List UInt8 := [182, 0, 40, 154, 0, 4, 177, 29]
abbrev dktX17_line_5 : List UInt8 := dkwX17_line_5 ++ dktX17_line_6
def dkwX17_line_4 : List UInt8 := [180, 0, 15, 28, 182, 0, 55, 154, 0, 10, 42, 16, 7, 27, 182, 0, 36, 42, 182, 0, 47, 42]
abbrev dktX17_line_4 : List UInt8 := dkwX17_line_4 ++ dktX17_line_5
def dkwX17_line_3 : List UInt8 := [182, 0, 28, 182, 0, 36, 42, 182, 0, 40, 153, 0, 30, 29, 16, 64, 159, 0, 24, 42, 180, 0, 3]
abbrev dktX17_line_3 : List UInt8 := dkwX17_line_3 ++ dktX17_line_4
def dkwX17_line_2 : List UInt8 := [42, 182, 0, 40, 153, 0, 25, 29, 153, 0, 12, 18, 76, 29, 182, 0, 78, 156, 0, 12, 42, 4, 42]
abbrev dktX17_line_2 : List UInt8 := dkwX17_line_2 ++ dktX17_line_3
def dkwX17_line_1 : List UInt8 := [160, 0, 9, 42, 7, 27, 182, 0, 36, 42, 89, 180, 0, 73, 4, 96, 181, 0, 73, 42, 182, 0, 44, 62]
abbrev dktX17_line_1 : List UInt8 := dkwX17_line_1 ++ dktX17_line_2
def dkwX17_line_0 : List UInt8 := [42, 182, 0, 28, 60, 42, 182, 0, 66, 61, 42, 182, 0, 40, 153, 0, 18, 42, 180, 0, 73, 16, 24]
abbrev dktX17_line_0 : List UInt8 := dkwX17_line_0 ++ dktX17_line_1
theorem dksX17_line_0 : cX17_line.data.toList.drop 0 = dktX17_line_0 := by decide +kernel
theorem dksX17_line_1 : cX17_line.data.toList.drop 23 = dktX17_line_1 := dk_seg dksX17_line_0 23 rfl rfl
theorem dksX17_line_2 : cX17_line.data.toList.drop 47 = dktX17_line_2 := dk_seg dksX17_line_1 24 rfl rfl
theorem dksX17_line_3 : cX17_line.data.toList.drop 70 = dktX17_line_3 := dk_seg dksX17_line_2 23 rfl rfl
theorem dksX17_line_4 : cX17_line.data.toList.drop 93 = dktX17_line_4 := dk_seg dksX17_line_3 23 rfl rfl
theorem dksX17_line_5 : cX17_line.data.toList.drop 115 = dktX17_line_5 := dk_seg dksX17_line_4 22 rfl rfl
theorem dksX17_line_6 : cX17_line.data.toList.drop 123 = dktX17_line_6 := dk_seg dksX17_line_5 8 rfl rfl
theorem dksX17_line_7 : cX17_line.data.toList.drop 156 = dktX17_line_7 := dk_seg dksX17_line_6 33 rfl rfl
theorem dksX17_line_8 : cX17_line.data.toList.drop 180 = dktX17_line_8 := dk_seg dksX17_line_7 24 rfl rfl
theorem dksX17_line_9 : cX17_line.data.toList.drop 202 = dktX17_line_9 := dk_seg dksX17_line_8 22 rfl rfl
theorem dX17_line_0 : decode cX17_line 0 = .ok (.aload_n 0, 1) := dk_42 (dk_at dksX17_line_0 0 rfl rfl)
theorem dX17_line_1 : decode cX17_line 1 = .ok (.invokevirtual 28, 3) := dk_182 0 28 (dk_at dksX17_line_0 1 rfl rfl)
theorem dX17_line_4 : decode cX17_line 4 = .ok (.istore_n 1, 1) := dk_60 (dk_at dksX17_line_0 4 rfl rfl)
theorem dX17_line_5 : decode cX17_line 5 = .ok (.aload_n 0, 1) := dk_42 (dk_at dksX17_line_0 5 rfl rfl)
theorem dX17_line_6 : decode cX17_line 6 = .ok (.invokevirtual 66, 3) := dk_182 0 66 (dk_at dksX17_line_0 6 rfl rfl)
theorem dX17_line_9 : decode cX17_line 9 = .ok (.istore_n 2, 1) := dk_61 (dk_at dksX17_line_0 9 rfl rfl)
theorem dX17_line_10 : decode cX17_line 10 = .ok (.aload_n 0, 1) := dk_42 (dk_at dksX17_line_0 10 rfl rfl)
theorem dX17_line_11 : decode cX17_line 11 = .ok (.invokevirtual 40, 3) := dk_182 0 40 (dk_at dksX17_line_0 11 rfl rfl)
theorem dX17_line_14 : decode cX17_line 14 = .ok (.ifCond .eq 18, 3) := dk_153 0 18 (dk_at dksX17_line_0 14 rfl rfl)
theorem dX17_line_17 : decode cX17_line 17 = .ok (.aload_n 0, 1) := dk_42 (dk_at dksX17_line_0 17 rfl rfl)
theorem dX17_line_18 : decode cX17_line 18 = .ok (.getfield 73, 3) := dk_180 0 73 (dk_at dksX17_line_0 18 rfl rfl)
theorem dX17_line_21 : decode cX17_line 21 = .ok (.bipush 24, 2) := dk_16 24 (dk_at dksX17_line_0 21 rfl rfl)
theorem dX17_line_23 : decode cX17_line 23 = .ok (.if_icmp .ne 9, 3) := dk_160 0 9 (dk_at dksX17_line_1 0 rfl rfl)
theorem dX17_line_26 : decode cX17_line 26 = .ok (.aload_n 0, 1) := dk_42 (dk_at dksX17_line_1 3 rfl rfl)
theorem dX17_line_27 : decode cX17_line 27 = .ok (.iconst 4, 1) := dk_7 (dk_at dksX17_line_1 4 rfl rfl)
theorem dX17_line_28 : decode cX17_line 28 = .ok (.iload_n 1, 1) := dk_27 (dk_at dksX17_line_1 5 rfl rfl)
theorem dX17_line_29 : decode cX17_line 29 = .ok (.invokevirtual 36, 3) := dk_182 0 36 (dk_at dksX17_line_1 6 rfl rfl)
theorem dX17_line_32 : decode cX17_line 32 = .ok (.aload_n 0, 1) := dk_42 (dk_at dksX17_line_1 9 rfl rfl)
theorem dX17_line_33 : decode cX17_line 33 = .ok (.dup, 1) := dk_89 (dk_at dksX17_line_1 10 rfl rfl)
theorem dX17_line_34 : decode cX17_line 34 = .ok (.getfield 73, 3) := dk_180 0 73 (dk_at dksX17_line_1 11 rfl rfl)
theorem dX17_line_37 : decode cX17_line 37 = .ok (.iconst 1, 1) := dk_4 (dk_at dksX17_line_1 14 rfl rfl)
theorem dX17_line_38 : decode cX17_line 38 = .ok (.iadd, 1) := dk_96 (dk_at dksX17_line_1 15 rfl rfl)
theorem dX17_line_39 : decode cX17_line 39 = .ok (.putfield 73, 3) := dk_181 0 73 (dk_at dksX17_line_1 16 rfl rfl)
theorem dX17_line_42 : decode cX17_line 42 = .ok (.aload_n 0, 1) := dk_42 (dk_at dksX17_line_1 19 rfl rfl)
theorem dX17_line_43 : decode cX17_line 43 = .ok (.invokevirtual 44, 3) := dk_182 0 44 (dk_at dksX17_line_1 20 rfl rfl)
theorem dX17_line_46 : decode cX17_line 46 = .ok (.istore_n 3, 1) := dk_62 (dk_at dksX17_line_1 23 rfl rfl)
theorem dX17_line_47 : decode cX17_line 47 = .ok (.aload_n 0, 1) := dk_42 (dk_at dksX17_line_2 0 rfl rfl)
theorem dX17_line_48 : decode cX17_line 48 = .ok (.invokevirtual 40, 3) := dk_182 0 40 (dk_at dksX17_line_2 1 rfl rfl)
theorem dX17_line_51 : decode cX17_line 51 = .ok (.ifCond .eq 25, 3) := dk_153 0 25 (dk_at dksX17_line_2 4 rfl rfl)
theorem dX17_line_54 : decode cX17_line 54 = .ok (.iload_n 3, 1) := dk_29 (dk_at dksX17_line_2 7 rfl rfl)
theorem dX17_line_55 : decode cX17_line 55 = .ok (.ifCond .eq 12, 3) := dk_153 0 12 (dk_at dksX17_line_2 8 rfl rfl)
theorem dX17_line_58 : decode cX17_line 58 = .ok (.ldc 76, 2) := dk_18 76 (dk_at dksX17_line_2 11 rfl rfl)
theorem dX17_line_60 : decode cX17_line 60 = .ok (.iload_n 3, 1) := dk_29 (dk_at dksX17_line_2 13 rfl rfl)
theorem dX17_line_61 : decode cX17_line 61 = .ok (.invokevirtual 78, 3) := dk_182 0 78 (dk_at dksX17_line_2 14 rfl rfl)
theorem dX17_line_64 : decode cX17_line 64 = .ok (.ifCond .ge 12, 3) := dk_156 0 12 (dk_at dksX17_line_2 17 rfl rfl)
theorem dX17_line_67 : decode cX17_line 67 = .ok (.aload_n 0, 1) := dk_42 (dk_at dksX17_line_2 20 rfl rfl)
theorem dX17_line_68 : decode cX17_line 68 = .ok (.iconst 1, 1) := dk_4 (dk_at dksX17_line_2 21 rfl rfl)
theorem dX17_line_69 : decode cX17_line 69 = .ok (.aload_n 0, 1) := dk_42 (dk_at dksX17_line_2 22 rfl rfl)
theorem dX17_line_70 : decode cX17_line 70 = .ok (.invokevirtual 28, 3) := dk_182 0 28 (dk_at dksX17_line_3 0 rfl rfl)
theorem dX17_line_73 : decode cX17_line 73 = .ok (.invokevirtual 36, 3) := dk_182 0 36 (dk_at dksX17_line_3 3 rfl rfl)
theorem dX17_line_76 : decode cX17_line 76 = .ok (.aload_n 0, 1) := dk_42 (dk_at dksX17_line_3 6 rfl rfl)
theorem dX17_line_77 : decode cX17_line 77 = .ok (.invokevirtual 40, 3) := dk_182 0 40 (dk_at dksX17_line_3 7 rfl rfl)
theorem dX17_line_80 : decode cX17_line 80 = .ok (.ifCond .eq 30, 3) := dk_153 0 30 (dk_at dksX17_line_3 10 rfl rfl)
theorem dX17_line_83 : decode cX17_line 83 = .ok (.iload_n 3, 1) := dk_29 (dk_at dksX17_line_3 13 rfl rfl)
theorem dX17_line_84 : decode cX17_line 84 = .ok (.bipush 64, 2) := dk_16 64 (dk_at dksX17_line_3 14 rfl rfl)
theorem dX17_line_86 : decode cX17_line 86 = .ok (.if_icmp .eq 24, 3) := dk_159 0 24 (dk_at dksX17_line_3 16 rfl rfl)
theorem dX17_line_89 : decode cX17_line 89 = .ok (.aload_n 0, 1) := dk_42 (dk_at dksX17_line_3 19 rfl rfl)
theorem dX17_line_90 : decode cX17_line 90 = .ok (.getfield 3, 3) := dk_180 0 3 (dk_at dksX17_line_3 20 rfl rfl)
theorem dX17_line_93 : decode cX17_line 93 = .ok (.getfield 15, 3) := dk_180 0 15 (dk_at dksX17_line_4 0 rfl rfl)
theorem dX17_line_96 : decode cX17_line 96 = .ok (.iload_n 2, 1) := dk_28 (dk_at dksX17_line_4 3 rfl rfl)
theorem dX17_line_97 : decode cX17_line 97 = .ok (.invokevirtual 55, 3) := dk_182 0 55 (dk_at dksX17_line_4 4 rfl rfl)
theorem dX17_line_100 : decode cX17_line 100 = .ok (.ifCond .ne 10, 3) := dk_154 0 10 (dk_at dksX17_line_4 7 rfl rfl)
theorem dX17_line_103 : decode cX17_line 103 = .ok (.aload_n 0, 1) := dk_42 (dk_at dksX17_line_4 10 rfl rfl)
theorem dX17_line_104 : decode cX17_line 104 = .ok (.bipush 7, 2) := dk_16 7 (dk_at dksX17_line_4 11 rfl rfl)
theorem dX17_line_106 : decode cX17_line 106 = .ok (.iload_n 1, 1) := dk_27 (dk_at dksX17_line_4 13 rfl rfl)
theorem dX17_line_107 : decode cX17_line 107 = .ok (.invokevirtual 36, 3) := dk_182 0 36 (dk_at dksX17_line_4 14 rfl rfl)
theorem dX17_line_110 : decode cX17_line 110 = .ok (.aload_n 0, 1) := dk_42 (dk_at dksX17_line_4 17 rfl rfl)
theorem dX17_line_111 : decode cX17_line 111 = .ok (.invokevirtual 47, 3) := dk_182 0 47 (dk_at dksX17_line_4 18 rfl rfl)
theorem dX17_line_114 : decode cX17_line 114 = .ok (.aload_n 0, 1) := dk_42 (dk_at dksX17_line_4 21 rfl rfl)
theorem dX17_line_115 : decode cX17_line 115 = .ok (.invokevirtual 40, 3) := dk_182 0 40 (dk_at dksX17_line_5 0 rfl rfl)
theorem dX17_line_118 : decode cX17_line 118 = .ok (.ifCond .ne 4, 3) := dk_154 0 4 (dk_at dksX17_line_5 3 rfl rfl)
theorem dX17_line_121 : decode cX17_line 121 = .ok (.return_, 1) := dk_177 (dk_at dksX17_line_5 6 rfl rfl)
theorem dX17_line_122 : decode cX17_line 122 = .ok (.iload_n 3, 1) := dk_29 (dk_at dksX17_line_5 7 rfl rfl)
theorem dX17_line_123 : decode cX17_line 123 = .ok (.lookupswitch 85 #[(35, 41), (61, 64), (64, 33)], 33) := by decide +kernel
theorem dX17_line_156 : decode cX17_line 156 = .ok (.aload_n 0, 1) := dk_42 (dk_at dksX17_line_7 0 rfl rfl)
theorem dX17_line_157 : decode cX17_line 157 = .ok (.iload_n 2, 1) := dk_28 (dk_at dksX17_line_7 1 rfl rfl)
theorem dX17_line_158 : decode cX17_line 158 = .ok (.invokevirtual 84, 3) := dk_182 0 84 (dk_at dksX17_line_7 2 rfl rfl)
theorem dX17_line_161 : decode cX17_line 161 = .ok (.goto 63, 3) := dk_167 0 63 (dk_at dksX17_line_7 5 rfl rfl)
theorem dX17_line_164 : decode cX17_line 164 = .ok (.aload_n 0, 1) := dk_42 (dk_at dksX17_line_7 8 rfl rfl)
theorem dX17_line_165 : decode cX17_line 165 = .ok (.getfield 3, 3) := dk_180 0 3 (dk_at dksX17_line_7 9 rfl rfl)
theorem dX17_line_168 : decode cX17_line 168 = .ok (.getfield 15, 3) := dk_180 0 15 (dk_at dksX17_line_7 12 rfl rfl)
theorem dX17_line_171 : decode cX17_line 171 = .ok (.dup, 1) := dk_89 (dk_at dksX17_line_7 15 rfl rfl)
theorem dX17_line_172 : decode cX17_line 172 = .ok (.getfield 51, 3) := dk_180 0 51 (dk_at dksX17_line_7 16 rfl rfl)
theorem dX17_line_175 : decode cX17_line 175 = .ok (.iconst 1, 1) := dk_4 (dk_at dksX17_line_7 19 rfl rfl)
theorem dX17_line_176 : decode cX17_line 176 = .ok (.iload_n 2, 1) := dk_28 (dk_at dksX17_line_7 20 rfl rfl)
theorem dX17_line_177 : decode cX17_line 177 = .ok (.ishl, 1) := dk_120 (dk_at dksX17_line_7 21 rfl rfl)
theorem dX17_line_178 : decode cX17_line 178 = .ok (.iconst (-1), 1) := dk_2 (dk_at dksX17_line_7 22 rfl rfl)
theorem dX17_line_179 : decode cX17_line 179 = .ok (.ixor, 1) := dk_130 (dk_at dksX17_line_7 23 rfl rfl)
theorem dX17_line_180 : decode cX17_line 180 = .ok (.iand, 1) := dk_126 (dk_at dksX17_line_8 0 rfl rfl)
theorem dX17_line_181 : decode cX17_line 181 = .ok (.putfield 51, 3) := dk_181 0 51 (dk_at dksX17_line_8 1 rfl rfl)
theorem dX17_line_184 : decode cX17_line 184 = .ok (.goto 40, 3) := dk_167 0 40 (dk_at dksX17_line_8 4 rfl rfl)
theorem dX17_line_187 : decode cX17_line 187 = .ok (.aload_n 0, 1) := dk_42 (dk_at dksX17_line_8 7 rfl rfl)
theorem dX17_line_188 : decode cX17_line 188 = .ok (.getfield 3, 3) := dk_180 0 3 (dk_at dksX17_line_8 8 rfl rfl)
theorem dX17_line_191 : decode cX17_line 191 = .ok (.getfield 15, 3) := dk_180 0 15 (dk_at dksX17_line_8 11 rfl rfl)
theorem dX17_line_194 : decode cX17_line 194 = .ok (.dup, 1) := dk_89 (dk_at dksX17_line_8 14 rfl rfl)
theorem dX17_line_195 : decode cX17_line 195 = .ok (.getfield 51, 3) := dk_180 0 51 (dk_at dksX17_line_8 15 rfl rfl)
theorem dX17_line_198 : decode cX17_line 198 = .ok (.iconst 1, 1) := dk_4 (dk_at dksX17_line_8 18 rfl rfl)
theorem dX17_line_199 : decode cX17_line 199 = .ok (.iload_n 2, 1) := dk_28 (dk_at dksX17_line_8 19 rfl rfl)
theorem dX17_line_200 : decode cX17_line 200 = .ok (.ishl, 1) := dk_120 (dk_at dksX17_line_8 20 rfl rfl)
theorem dX17_line_201 : decode cX17_line 201 = .ok (.ior, 1) := dk_128 (dk_at dksX17_line_8 21 rfl rfl)
theorem dX17_line_202 : decode cX17_line 202 = .ok (.putfield 51, 3) := dk_181 0 51 (dk_at dksX17_line_9 0 rfl rfl)
theorem dX17_line_205 : decode cX17_line 205 = .ok (.goto 19, 3) := dk_167 0 19 (dk_at dksX17_line_9 3 rfl rfl)
theorem dX17_line_208 : decode cX17_line 208 = .ok (.aload_n 0, 1) := dk_42 (dk_at dksX17_line_9 6 rfl rfl)
theorem dX17_line_209 : decode cX17_line 209 = .ok (.iload_n 2, 1) := dk_28 (dk_at dksX17_line_9 7 rfl rfl)
theorem dX17_line_210 : decode cX17_line 210 = .ok (.iload_n 3, 1) := dk_29 (dk_at dksX17_line_9 8 rfl rfl)
theorem dX17_line_211 : decode cX17_line 211 = .ok (.bipush 42, 2) := dk_16 42 (dk_at dksX17_line_9 9 rfl rfl)
theorem dX17_line_213 : decode cX17_line 213 = .ok (.if_icmp .ne 7, 3) := dk_160 0 7 (dk_at dksX17_line_9 11 rfl rfl)
theorem dX17_line_216 : decode cX17_line 216 = .ok (.iconst 1, 1) := dk_4 (dk_at dksX17_line_9 14 rfl rfl)
theorem dX17_line_217 : decode cX17_line 217 = .ok (.goto 4, 3) := dk_167 0 4 (dk_at dksX17_line_9 15 rfl rfl)
theorem dX17_line_220 : decode cX17_line 220 = .ok (.iconst 0, 1) := dk_3 (dk_at dksX17_line_9 18 rfl rfl)
theorem dX17_line_221 : decode cX17_line 221 = .ok (.invokevirtual 88, 3) := dk_182 0 88 (dk_at dksX17_line_9 19 rfl rfl)
theorem dX17_line_224 : decode cX17_line 224 = .ok (.return_, 1) := dk_177 (dk_at dksX17_line_9 22 rfl rfl)
abbrev cX17_house : ByteArray := prog_5_method_2_code
def yX17_house : MethodName := ⟨RX17, "house", "(I)V"⟩
def dkwX17_house_6 : List UInt8 := [180, 0, 3, 180, 0, 15, 180, 0, 62, 27, 28, 79, 177]
abbrev dktX17_house_6 : List UInt8 := dkwX17_house_6 ++ []
def dkwX17_house_5 : List UInt8 := [120, 128, 181, 0, 51, 42, 180, 0, 3, 180, 0, 15, 89, 180, 0, 59, 4, 27, 120, 128, 181, 0, 59, 42]
abbrev dktX17_house_5 : List UInt8 := dkwX17_house_5 ++ dktX17_house_6
def dkwX17_house_4 : List UInt8 := [89, 180, 0, 51, 42, 180, 0, 3, 180, 0, 15, 27, 182, 0, 55, 153, 0, 7, 3, 167, 0, 6, 4, 27]
abbrev dktX17_house_4 : List UInt8 := dkwX17_house_4 ++ dktX17_house_5
def dkwX17_house_3 : List UInt8 := [100, 61, 42, 182, 0, 47, 167, 255, 202, 42, 182, 0, 40, 154, 0, 4, 177, 42, 180, 0, 3, 180, 0, 15]
abbrev dktX17_house_3 : List UInt8 := dkwX17_house_3 ++ dktX17_house_4
def dkwX17_house_2 : List UInt8 := [96, 160, 0, 12, 42, 5, 42, 182, 0, 28, 182, 0, 36, 16, 10, 28, 104, 42, 182, 0, 44, 96, 16, 48]
abbrev dktX17_house_2 : List UInt8 := dkwX17_house_2 ++ dktX17_house_3
def dkwX17_house_1 : List UInt8 := [42, 182, 0, 40, 153, 0, 53, 42, 16, 48, 16, 57, 182, 0, 32, 153, 0, 42, 42, 182, 0, 28, 29, 5]
abbrev dktX17_house_1 : List UInt8 := dkwX17_house_1 ++ dktX17_house_2
def dkwX17_house_0 : List UInt8 := [3, 61, 42, 182, 0, 28, 62, 42, 16, 48, 16, 57, 182, 0, 32, 154, 0, 9, 42, 4, 29, 182, 0, 36]
abbrev dktX17_house_0 : List UInt8 := dkwX17_house_0 ++ dktX17_house_1
theorem dksX17_house_0 : cX17_house.data.toList.drop 0 = dktX17_house_0 := by decide +kernel
theorem dksX17_house_1 : cX17_house.data.toList.drop 24 = dktX17_house_1 := dk_seg dksX17_house_0 24 rfl rfl
theorem dksX17_house_2 : cX17_house.data.toList.drop 48 = dktX17_house_2 := dk_seg dksX17_house_1 24 rfl rfl
theorem dksX17_house_3 : cX17_house.data.toList.drop 72 = dktX17_house_3 := dk_seg dksX17_house_2 24 rfl rfl
theorem dksX17_house_4 : cX17_house.data.toList.drop 96 = dktX17_house_4 := dk_seg dksX17_house_3 24 rfl rfl
theorem dksX17_house_5 : cX17_house.data.toList.drop 120 = dktX17_house_5 := dk_seg dksX17_house_4 24 rfl rfl
theorem dksX17_house_6 : cX17_house.data.toList.drop 144 = dktX17_house_6 := dk_seg dksX17_house_5 24 rfl rfl
theorem dX17_house_0 : decode cX17_house 0 = .ok (.iconst 0, 1) := dk_3 (dk_at dksX17_house_0 0 rfl rfl)
theorem dX17_house_1 : decode cX17_house 1 = .ok (.istore_n 2, 1) := dk_61 (dk_at dksX17_house_0 1 rfl rfl)
theorem dX17_house_2 : decode cX17_house 2 = .ok (.aload_n 0, 1) := dk_42 (dk_at dksX17_house_0 2 rfl rfl)
theorem dX17_house_3 : decode cX17_house 3 = .ok (.invokevirtual 28, 3) := dk_182 0 28 (dk_at dksX17_house_0 3 rfl rfl)
theorem dX17_house_6 : decode cX17_house 6 = .ok (.istore_n 3, 1) := dk_62 (dk_at dksX17_house_0 6 rfl rfl)
theorem dX17_house_7 : decode cX17_house 7 = .ok (.aload_n 0, 1) := dk_42 (dk_at dksX17_house_0 7 rfl rfl)
theorem dX17_house_8 : decode cX17_house 8 = .ok (.bipush 48, 2) := dk_16 48 (dk_at dksX17_house_0 8 rfl rfl)
theorem dX17_house_10 : decode cX17_house 10 = .ok (.bipush 57, 2) := dk_16 57 (dk_at dksX17_house_0 10 rfl rfl)
theorem dX17_house_12 : decode cX17_house 12 = .ok (.invokevirtual 32, 3) := dk_182 0 32 (dk_at dksX17_house_0 12 rfl rfl)
theorem dX17_house_15 : decode cX17_house 15 = .ok (.ifCond .ne 9, 3) := dk_154 0 9 (dk_at dksX17_house_0 15 rfl rfl)
theorem dX17_house_18 : decode cX17_house 18 = .ok (.aload_n 0, 1) := dk_42 (dk_at dksX17_house_0 18 rfl rfl)
theorem dX17_house_19 : decode cX17_house 19 = .ok (.iconst 1, 1) := dk_4 (dk_at dksX17_house_0 19 rfl rfl)
theorem dX17_house_20 : decode cX17_house 20 = .ok (.iload_n 3, 1) := dk_29 (dk_at dksX17_house_0 20 rfl rfl)
theorem dX17_house_21 : decode cX17_house 21 = .ok (.invokevirtual 36, 3) := dk_182 0 36 (dk_at dksX17_house_0 21 rfl rfl)
theorem dX17_house_24 : decode cX17_house 24 = .ok (.aload_n 0, 1) := dk_42 (dk_at dksX17_house_1 0 rfl rfl)
theorem dX17_house_25 : decode cX17_house 25 = .ok (.invokevirtual 40, 3) := dk_182 0 40 (dk_at dksX17_house_1 1 rfl rfl)
theorem dX17_house_28 : decode cX17_house 28 = .ok (.ifCond .eq 53, 3) := dk_153 0 53 (dk_at dksX17_house_1 4 rfl rfl)
theorem dX17_house_31 : decode cX17_house 31 = .ok (.aload_n 0, 1) := dk_42 (dk_at dksX17_house_1 7 rfl rfl)
theorem dX17_house_32 : decode cX17_house 32 = .ok (.bipush 48, 2) := dk_16 48 (dk_at dksX17_house_1 8 rfl rfl)
theorem dX17_house_34 : decode cX17_house 34 = .ok (.bipush 57, 2) := dk_16 57 (dk_at dksX17_house_1 10 rfl rfl)
theorem dX17_house_36 : decode cX17_house 36 = .ok (.invokevirtual 32, 3) := dk_182 0 32 (dk_at dksX17_house_1 12 rfl rfl)
theorem dX17_house_39 : decode cX17_house 39 = .ok (.ifCond .eq 42, 3) := dk_153 0 42 (dk_at dksX17_house_1 15 rfl rfl)
theorem dX17_house_42 : decode cX17_house 42 = .ok (.aload_n 0, 1) := dk_42 (dk_at dksX17_house_1 18 rfl rfl)
theorem dX17_house_43 : decode cX17_house 43 = .ok (.invokevirtual 28, 3) := dk_182 0 28 (dk_at dksX17_house_1 19 rfl rfl)
theorem dX17_house_46 : decode cX17_house 46 = .ok (.iload_n 3, 1) := dk_29 (dk_at dksX17_house_1 22 rfl rfl)
theorem dX17_house_47 : decode cX17_house 47 = .ok (.iconst 2, 1) := dk_5 (dk_at dksX17_house_1 23 rfl rfl)
theorem dX17_house_48 : decode cX17_house 48 = .ok (.iadd, 1) := dk_96 (dk_at dksX17_house_2 0 rfl rfl)
theorem dX17_house_49 : decode cX17_house 49 = .ok (.if_icmp .ne 12, 3) := dk_160 0 12 (dk_at dksX17_house_2 1 rfl rfl)
theorem dX17_house_52 : decode cX17_house 52 = .ok (.aload_n 0, 1) := dk_42 (dk_at dksX17_house_2 4 rfl rfl)
theorem dX17_house_53 : decode cX17_house 53 = .ok (.iconst 2, 1) := dk_5 (dk_at dksX17_house_2 5 rfl rfl)
theorem dX17_house_54 : decode cX17_house 54 = .ok (.aload_n 0, 1) := dk_42 (dk_at dksX17_house_2 6 rfl rfl)
theorem dX17_house_55 : decode cX17_house 55 = .ok (.invokevirtual 28, 3) := dk_182 0 28 (dk_at dksX17_house_2 7 rfl rfl)
theorem dX17_house_58 : decode cX17_house 58 = .ok (.invokevirtual 36, 3) := dk_182 0 36 (dk_at dksX17_house_2 10 rfl rfl)
theorem dX17_house_61 : decode cX17_house 61 = .ok (.bipush 10, 2) := dk_16 10 (dk_at dksX17_house_2 13 rfl rfl)
theorem dX17_house_63 : decode cX17_house 63 = .ok (.iload_n 2, 1) := dk_28 (dk_at dksX17_house_2 15 rfl rfl)
theorem dX17_house_64 : decode cX17_house 64 = .ok (.imul, 1) := dk_104 (dk_at dksX17_house_2 16 rfl rfl)
theorem dX17_house_65 : decode cX17_house 65 = .ok (.aload_n 0, 1) := dk_42 (dk_at dksX17_house_2 17 rfl rfl)
theorem dX17_house_66 : decode cX17_house 66 = .ok (.invokevirtual 44, 3) := dk_182 0 44 (dk_at dksX17_house_2 18 rfl rfl)
theorem dX17_house_69 : decode cX17_house 69 = .ok (.iadd, 1) := dk_96 (dk_at dksX17_house_2 21 rfl rfl)
theorem dX17_house_70 : decode cX17_house 70 = .ok (.bipush 48, 2) := dk_16 48 (dk_at dksX17_house_2 22 rfl rfl)
theorem dX17_house_72 : decode cX17_house 72 = .ok (.isub, 1) := dk_100 (dk_at dksX17_house_3 0 rfl rfl)
theorem dX17_house_73 : decode cX17_house 73 = .ok (.istore_n 2, 1) := dk_61 (dk_at dksX17_house_3 1 rfl rfl)
theorem dX17_house_74 : decode cX17_house 74 = .ok (.aload_n 0, 1) := dk_42 (dk_at dksX17_house_3 2 rfl rfl)
theorem dX17_house_75 : decode cX17_house 75 = .ok (.invokevirtual 47, 3) := dk_182 0 47 (dk_at dksX17_house_3 3 rfl rfl)
theorem dX17_house_78 : decode cX17_house 78 = .ok (.goto (-54), 3) := dk_167 255 202 (dk_at dksX17_house_3 6 rfl rfl)
theorem dX17_house_81 : decode cX17_house 81 = .ok (.aload_n 0, 1) := dk_42 (dk_at dksX17_house_3 9 rfl rfl)
theorem dX17_house_82 : decode cX17_house 82 = .ok (.invokevirtual 40, 3) := dk_182 0 40 (dk_at dksX17_house_3 10 rfl rfl)
theorem dX17_house_85 : decode cX17_house 85 = .ok (.ifCond .ne 4, 3) := dk_154 0 4 (dk_at dksX17_house_3 13 rfl rfl)
theorem dX17_house_88 : decode cX17_house 88 = .ok (.return_, 1) := dk_177 (dk_at dksX17_house_3 16 rfl rfl)
theorem dX17_house_89 : decode cX17_house 89 = .ok (.aload_n 0, 1) := dk_42 (dk_at dksX17_house_3 17 rfl rfl)
theorem dX17_house_90 : decode cX17_house 90 = .ok (.getfield 3, 3) := dk_180 0 3 (dk_at dksX17_house_3 18 rfl rfl)
theorem dX17_house_93 : decode cX17_house 93 = .ok (.getfield 15, 3) := dk_180 0 15 (dk_at dksX17_house_3 21 rfl rfl)
theorem dX17_house_96 : decode cX17_house 96 = .ok (.dup, 1) := dk_89 (dk_at dksX17_house_4 0 rfl rfl)
theorem dX17_house_97 : decode cX17_house 97 = .ok (.getfield 51, 3) := dk_180 0 51 (dk_at dksX17_house_4 1 rfl rfl)
theorem dX17_house_100 : decode cX17_house 100 = .ok (.aload_n 0, 1) := dk_42 (dk_at dksX17_house_4 4 rfl rfl)
theorem dX17_house_101 : decode cX17_house 101 = .ok (.getfield 3, 3) := dk_180 0 3 (dk_at dksX17_house_4 5 rfl rfl)
theorem dX17_house_104 : decode cX17_house 104 = .ok (.getfield 15, 3) := dk_180 0 15 (dk_at dksX17_house_4 8 rfl rfl)
theorem dX17_house_107 : decode cX17_house 107 = .ok (.iload_n 1, 1) := dk_27 (dk_at dksX17_house_4 11 rfl rfl)
theorem dX17_house_108 : decode cX17_house 108 = .ok (.invokevirtual 55, 3) := dk_182 0 55 (dk_at dksX17_house_4 12 rfl rfl)
theorem dX17_house_111 : decode cX17_house 111 = .ok (.ifCond .eq 7, 3) := dk_153 0 7 (dk_at dksX17_house_4 15 rfl rfl)
theorem dX17_house_114 : decode cX17_house 114 = .ok (.iconst 0, 1) := dk_3 (dk_at dksX17_house_4 18 rfl rfl)
theorem dX17_house_115 : decode cX17_house 115 = .ok (.goto 6, 3) := dk_167 0 6 (dk_at dksX17_house_4 19 rfl rfl)
theorem dX17_house_118 : decode cX17_house 118 = .ok (.iconst 1, 1) := dk_4 (dk_at dksX17_house_4 22 rfl rfl)
theorem dX17_house_119 : decode cX17_house 119 = .ok (.iload_n 1, 1) := dk_27 (dk_at dksX17_house_4 23 rfl rfl)
theorem dX17_house_120 : decode cX17_house 120 = .ok (.ishl, 1) := dk_120 (dk_at dksX17_house_5 0 rfl rfl)
theorem dX17_house_121 : decode cX17_house 121 = .ok (.ior, 1) := dk_128 (dk_at dksX17_house_5 1 rfl rfl)
theorem dX17_house_122 : decode cX17_house 122 = .ok (.putfield 51, 3) := dk_181 0 51 (dk_at dksX17_house_5 2 rfl rfl)
theorem dX17_house_125 : decode cX17_house 125 = .ok (.aload_n 0, 1) := dk_42 (dk_at dksX17_house_5 5 rfl rfl)
theorem dX17_house_126 : decode cX17_house 126 = .ok (.getfield 3, 3) := dk_180 0 3 (dk_at dksX17_house_5 6 rfl rfl)
theorem dX17_house_129 : decode cX17_house 129 = .ok (.getfield 15, 3) := dk_180 0 15 (dk_at dksX17_house_5 9 rfl rfl)
theorem dX17_house_132 : decode cX17_house 132 = .ok (.dup, 1) := dk_89 (dk_at dksX17_house_5 12 rfl rfl)
theorem dX17_house_133 : decode cX17_house 133 = .ok (.getfield 59, 3) := dk_180 0 59 (dk_at dksX17_house_5 13 rfl rfl)
theorem dX17_house_136 : decode cX17_house 136 = .ok (.iconst 1, 1) := dk_4 (dk_at dksX17_house_5 16 rfl rfl)
theorem dX17_house_137 : decode cX17_house 137 = .ok (.iload_n 1, 1) := dk_27 (dk_at dksX17_house_5 17 rfl rfl)
theorem dX17_house_138 : decode cX17_house 138 = .ok (.ishl, 1) := dk_120 (dk_at dksX17_house_5 18 rfl rfl)
theorem dX17_house_139 : decode cX17_house 139 = .ok (.ior, 1) := dk_128 (dk_at dksX17_house_5 19 rfl rfl)
theorem dX17_house_140 : decode cX17_house 140 = .ok (.putfield 59, 3) := dk_181 0 59 (dk_at dksX17_house_5 20 rfl rfl)
theorem dX17_house_143 : decode cX17_house 143 = .ok (.aload_n 0, 1) := dk_42 (dk_at dksX17_house_5 23 rfl rfl)
theorem dX17_house_144 : decode cX17_house 144 = .ok (.getfield 3, 3) := dk_180 0 3 (dk_at dksX17_house_6 0 rfl rfl)
theorem dX17_house_147 : decode cX17_house 147 = .ok (.getfield 15, 3) := dk_180 0 15 (dk_at dksX17_house_6 3 rfl rfl)
theorem dX17_house_150 : decode cX17_house 150 = .ok (.getfield 62, 3) := dk_180 0 62 (dk_at dksX17_house_6 6 rfl rfl)
theorem dX17_house_153 : decode cX17_house 153 = .ok (.iload_n 1, 1) := dk_27 (dk_at dksX17_house_6 9 rfl rfl)
theorem dX17_house_154 : decode cX17_house 154 = .ok (.iload_n 2, 1) := dk_28 (dk_at dksX17_house_6 10 rfl rfl)
theorem dX17_house_155 : decode cX17_house 155 = .ok (.iastore, 1) := dk_79 (dk_at dksX17_house_6 11 rfl rfl)
theorem dX17_house_156 : decode cX17_house 156 = .ok (.return_, 1) := dk_177 (dk_at dksX17_house_6 12 rfl rfl)
abbrev cX17_quarrel : ByteArray := prog_5_method_3_code
def yX17_quarrel : MethodName := ⟨RX17, "quarrel", "(IZ)V"⟩
def dkwX17_quarrel_3 : List UInt8 := [180, 0, 15, 27, 21, 4, 28, 182, 0, 69, 177]
abbrev dktX17_quarrel_3 : List UInt8 := dkwX17_quarrel_3 ++ []
def dkwX17_quarrel_2 : List UInt8 := [182, 0, 55, 154, 0, 10, 42, 16, 7, 29, 182, 0, 36, 42, 182, 0, 40, 153, 0, 17, 42, 180, 0, 3]
abbrev dktX17_quarrel_2 : List UInt8 := dkwX17_quarrel_2 ++ dktX17_quarrel_3
def dkwX17_quarrel_1 : List UInt8 := [42, 16, 6, 29, 182, 0, 36, 42, 182, 0, 40, 153, 0, 25, 42, 180, 0, 3, 180, 0, 15, 21, 4]
abbrev dktX17_quarrel_1 : List UInt8 := dkwX17_quarrel_1 ++ dktX17_quarrel_2
def dkwX17_quarrel_0 : List UInt8 := [42, 182, 0, 28, 62, 42, 182, 0, 66, 54, 4, 42, 182, 0, 40, 153, 0, 16, 27, 21, 4, 160, 0, 10]
abbrev dktX17_quarrel_0 : List UInt8 := dkwX17_quarrel_0 ++ dktX17_quarrel_1
theorem dksX17_quarrel_0 : cX17_quarrel.data.toList.drop 0 = dktX17_quarrel_0 := by decide +kernel
theorem dksX17_quarrel_1 : cX17_quarrel.data.toList.drop 24 = dktX17_quarrel_1 := dk_seg dksX17_quarrel_0 24 rfl rfl
theorem dksX17_quarrel_2 : cX17_quarrel.data.toList.drop 47 = dktX17_quarrel_2 := dk_seg dksX17_quarrel_1 23 rfl rfl
theorem dksX17_quarrel_3 : cX17_quarrel.data.toList.drop 71 = dktX17_quarrel_3 := dk_seg dksX17_quarrel_2 24 rfl rfl
theorem dX17_quarrel_0 : decode cX17_quarrel 0 = .ok (.aload_n 0, 1) := dk_42 (dk_at dksX17_quarrel_0 0 rfl rfl)
theorem dX17_quarrel_1 : decode cX17_quarrel 1 = .ok (.invokevirtual 28, 3) := dk_182 0 28 (dk_at dksX17_quarrel_0 1 rfl rfl)
theorem dX17_quarrel_4 : decode cX17_quarrel 4 = .ok (.istore_n 3, 1) := dk_62 (dk_at dksX17_quarrel_0 4 rfl rfl)
theorem dX17_quarrel_5 : decode cX17_quarrel 5 = .ok (.aload_n 0, 1) := dk_42 (dk_at dksX17_quarrel_0 5 rfl rfl)
theorem dX17_quarrel_6 : decode cX17_quarrel 6 = .ok (.invokevirtual 66, 3) := dk_182 0 66 (dk_at dksX17_quarrel_0 6 rfl rfl)
theorem dX17_quarrel_9 : decode cX17_quarrel 9 = .ok (.istore 4, 2) := dk_54 4 (dk_at dksX17_quarrel_0 9 rfl rfl)
theorem dX17_quarrel_11 : decode cX17_quarrel 11 = .ok (.aload_n 0, 1) := dk_42 (dk_at dksX17_quarrel_0 11 rfl rfl)
theorem dX17_quarrel_12 : decode cX17_quarrel 12 = .ok (.invokevirtual 40, 3) := dk_182 0 40 (dk_at dksX17_quarrel_0 12 rfl rfl)
theorem dX17_quarrel_15 : decode cX17_quarrel 15 = .ok (.ifCond .eq 16, 3) := dk_153 0 16 (dk_at dksX17_quarrel_0 15 rfl rfl)
theorem dX17_quarrel_18 : decode cX17_quarrel 18 = .ok (.iload_n 1, 1) := dk_27 (dk_at dksX17_quarrel_0 18 rfl rfl)
theorem dX17_quarrel_19 : decode cX17_quarrel 19 = .ok (.iload 4, 2) := dk_21 4 (dk_at dksX17_quarrel_0 19 rfl rfl)
theorem dX17_quarrel_21 : decode cX17_quarrel 21 = .ok (.if_icmp .ne 10, 3) := dk_160 0 10 (dk_at dksX17_quarrel_0 21 rfl rfl)
theorem dX17_quarrel_24 : decode cX17_quarrel 24 = .ok (.aload_n 0, 1) := dk_42 (dk_at dksX17_quarrel_1 0 rfl rfl)
theorem dX17_quarrel_25 : decode cX17_quarrel 25 = .ok (.bipush 6, 2) := dk_16 6 (dk_at dksX17_quarrel_1 1 rfl rfl)
theorem dX17_quarrel_27 : decode cX17_quarrel 27 = .ok (.iload_n 3, 1) := dk_29 (dk_at dksX17_quarrel_1 3 rfl rfl)
theorem dX17_quarrel_28 : decode cX17_quarrel 28 = .ok (.invokevirtual 36, 3) := dk_182 0 36 (dk_at dksX17_quarrel_1 4 rfl rfl)
theorem dX17_quarrel_31 : decode cX17_quarrel 31 = .ok (.aload_n 0, 1) := dk_42 (dk_at dksX17_quarrel_1 7 rfl rfl)
theorem dX17_quarrel_32 : decode cX17_quarrel 32 = .ok (.invokevirtual 40, 3) := dk_182 0 40 (dk_at dksX17_quarrel_1 8 rfl rfl)
theorem dX17_quarrel_35 : decode cX17_quarrel 35 = .ok (.ifCond .eq 25, 3) := dk_153 0 25 (dk_at dksX17_quarrel_1 11 rfl rfl)
theorem dX17_quarrel_38 : decode cX17_quarrel 38 = .ok (.aload_n 0, 1) := dk_42 (dk_at dksX17_quarrel_1 14 rfl rfl)
theorem dX17_quarrel_39 : decode cX17_quarrel 39 = .ok (.getfield 3, 3) := dk_180 0 3 (dk_at dksX17_quarrel_1 15 rfl rfl)
theorem dX17_quarrel_42 : decode cX17_quarrel 42 = .ok (.getfield 15, 3) := dk_180 0 15 (dk_at dksX17_quarrel_1 18 rfl rfl)
theorem dX17_quarrel_45 : decode cX17_quarrel 45 = .ok (.iload 4, 2) := dk_21 4 (dk_at dksX17_quarrel_1 21 rfl rfl)
theorem dX17_quarrel_47 : decode cX17_quarrel 47 = .ok (.invokevirtual 55, 3) := dk_182 0 55 (dk_at dksX17_quarrel_2 0 rfl rfl)
theorem dX17_quarrel_50 : decode cX17_quarrel 50 = .ok (.ifCond .ne 10, 3) := dk_154 0 10 (dk_at dksX17_quarrel_2 3 rfl rfl)
theorem dX17_quarrel_53 : decode cX17_quarrel 53 = .ok (.aload_n 0, 1) := dk_42 (dk_at dksX17_quarrel_2 6 rfl rfl)
theorem dX17_quarrel_54 : decode cX17_quarrel 54 = .ok (.bipush 7, 2) := dk_16 7 (dk_at dksX17_quarrel_2 7 rfl rfl)
theorem dX17_quarrel_56 : decode cX17_quarrel 56 = .ok (.iload_n 3, 1) := dk_29 (dk_at dksX17_quarrel_2 9 rfl rfl)
theorem dX17_quarrel_57 : decode cX17_quarrel 57 = .ok (.invokevirtual 36, 3) := dk_182 0 36 (dk_at dksX17_quarrel_2 10 rfl rfl)
theorem dX17_quarrel_60 : decode cX17_quarrel 60 = .ok (.aload_n 0, 1) := dk_42 (dk_at dksX17_quarrel_2 13 rfl rfl)
theorem dX17_quarrel_61 : decode cX17_quarrel 61 = .ok (.invokevirtual 40, 3) := dk_182 0 40 (dk_at dksX17_quarrel_2 14 rfl rfl)
theorem dX17_quarrel_64 : decode cX17_quarrel 64 = .ok (.ifCond .eq 17, 3) := dk_153 0 17 (dk_at dksX17_quarrel_2 17 rfl rfl)
theorem dX17_quarrel_67 : decode cX17_quarrel 67 = .ok (.aload_n 0, 1) := dk_42 (dk_at dksX17_quarrel_2 20 rfl rfl)
theorem dX17_quarrel_68 : decode cX17_quarrel 68 = .ok (.getfield 3, 3) := dk_180 0 3 (dk_at dksX17_quarrel_2 21 rfl rfl)
theorem dX17_quarrel_71 : decode cX17_quarrel 71 = .ok (.getfield 15, 3) := dk_180 0 15 (dk_at dksX17_quarrel_3 0 rfl rfl)
theorem dX17_quarrel_74 : decode cX17_quarrel 74 = .ok (.iload_n 1, 1) := dk_27 (dk_at dksX17_quarrel_3 3 rfl rfl)
theorem dX17_quarrel_75 : decode cX17_quarrel 75 = .ok (.iload 4, 2) := dk_21 4 (dk_at dksX17_quarrel_3 4 rfl rfl)
theorem dX17_quarrel_77 : decode cX17_quarrel 77 = .ok (.iload_n 2, 1) := dk_28 (dk_at dksX17_quarrel_3 6 rfl rfl)
theorem dX17_quarrel_78 : decode cX17_quarrel 78 = .ok (.invokevirtual 69, 3) := dk_182 0 69 (dk_at dksX17_quarrel_3 7 rfl rfl)
theorem dX17_quarrel_81 : decode cX17_quarrel 81 = .ok (.return_, 1) := dk_177 (dk_at dksX17_quarrel_3 10 rfl rfl)
theorem q124 : (Jvm.Cond.initialized "AnyKeyTown$Constable") ∈ lw_all := lw_g (lw_at lw_m1 24 rfl) rfl
theorem q143 : (Jvm.Cond.fieldLinkNest "AnyKeyTown$Constable" (62 : Nat) "AnyKeyTown$Roll" "houses" "[I" "AnyKeyTown") ∈ lw_tbl := lw_at lw_m1 43 rfl
theorem q150 : (Jvm.Cond.fieldLinkNest "AnyKeyTown$Constable" (59 : Nat) "AnyKeyTown$Roll" "told" "I" "AnyKeyTown") ∈ lw_tbl := lw_at lw_m1 50 rfl
theorem q155 : (Jvm.Cond.fieldLinkNest "AnyKeyTown$Constable" (51 : Nat) "AnyKeyTown$Roll" "locked" "I" "AnyKeyTown") ∈ lw_tbl := lw_at lw_m1 55 rfl
theorem q289 : (Jvm.Cond.fieldLinkNest "AnyKeyTown$Constable" (19 : Nat) "AnyKeyTown" "roll" "LAnyKeyTown$Roll;" "AnyKeyTown") ∈ lw_tbl := lw_at lw_m1 189 rfl
theorem q293 : (Jvm.Cond.fieldLinkNest "AnyKeyTown$Constable" (15 : Nat) "AnyKeyTown" "trial" "LAnyKeyTown$Roll;" "AnyKeyTown") ∈ lw_tbl := lw_at lw_m1 193 rfl
theorem q641 : (Jvm.Cond.instantiable "AnyKeyTown$Constable" (7 : Nat)) ∈ lw_all := lw_g (lw_at lw_m3 61 rfl) rfl
theorem q643 : (Jvm.Cond.instanceMethod ({ cls := "AnyKeyTown$Constable", name := "<init>", desc := "(LAnyKeyTown;I)V" } : Jvm.MethodName)) ∈ lw_all := lw_g (lw_at lw_m3 63 rfl) rfl
theorem q644 : (Jvm.Cond.code ({ cls := "AnyKeyTown$Constable", name := "<init>", desc := "(LAnyKeyTown;I)V" } : Jvm.MethodName) prog_5_method_1_code (3 : Nat) (Option.none : Option Jvm.ClassFile.FieldType)) ∈ lw_all := lw_g (lw_at lw_m3 64 rfl) rfl
theorem q645 : (Jvm.Cond.methodLink "AnyKeyTown$Constable" (9 : Nat) ({ cls := "AnyKeyTown$Scribe", name := "<init>", desc := "(LAnyKeyTown;I)V" } : Jvm.MethodName)) ∈ lw_all := lw_g (lw_at lw_m3 65 rfl) rfl
theorem q649 : (Jvm.Cond.methodLink "AnyKeyTown$Constable" (22 : Nat) ({ cls := "AnyKeyTown$Roll", name := "takes", desc := "(LAnyKeyTown$Roll;)V" } : Jvm.MethodName)) ∈ lw_all := lw_g (lw_at lw_m3 69 rfl) rfl
theorem q653 : (Jvm.Cond.fieldLink "AnyKeyTown$Constable" (73 : Nat) "AnyKeyTown$Constable" "lines" "I") ∈ lw_all := lw_g (lw_at lw_m3 73 rfl) rfl
theorem q654 : (Jvm.Cond.fieldLink "AnyKeyTown$Constable" (3 : Nat) "AnyKeyTown$Constable" "this$0" "LAnyKeyTown;") ∈ lw_all := lw_g (lw_at lw_m3 74 rfl) rfl
theorem q660 : (Jvm.Cond.lays "AnyKeyTown$Constable" "AnyKeyTown$Constable" "lines" "I") ∈ lw_all := lw_g (lw_at lw_m3 80 rfl) rfl
theorem q661 : (Jvm.Cond.soleField "AnyKeyTown$Constable" "lines") ∈ lw_all := lw_g (lw_at lw_m3 81 rfl) rfl
theorem q662 : (Jvm.Cond.laysFinal "AnyKeyTown$Constable" "AnyKeyTown$Constable" "this$0" "LAnyKeyTown;") ∈ lw_all := lw_g (lw_at lw_m3 82 rfl) rfl
theorem q663 : (Jvm.Cond.soleField "AnyKeyTown$Constable" "this$0") ∈ lw_all := lw_g (lw_at lw_m3 83 rfl) rfl
theorem q664 : (Jvm.Cond.laysFinal "AnyKeyTown$Constable" "AnyKeyTown$Scribe" "n" "I") ∈ lw_all := lw_g (lw_at lw_m3 84 rfl) rfl
theorem q666 : (Jvm.Cond.lays "AnyKeyTown$Constable" "AnyKeyTown$Scribe" "at" "I") ∈ lw_all := lw_g (lw_at lw_m3 86 rfl) rfl
theorem q668 : (Jvm.Cond.lays "AnyKeyTown$Constable" "AnyKeyTown$Scribe" "fault" "I") ∈ lw_all := lw_g (lw_at lw_m3 88 rfl) rfl
theorem q670 : (Jvm.Cond.lays "AnyKeyTown$Constable" "AnyKeyTown$Scribe" "place" "I") ∈ lw_all := lw_g (lw_at lw_m3 90 rfl) rfl
theorem q672 : (Jvm.Cond.laysFinal "AnyKeyTown$Constable" "AnyKeyTown$Scribe" "this$0" "LAnyKeyTown;") ∈ lw_all := lw_g (lw_at lw_m3 92 rfl) rfl
theorem q674 : (Jvm.Cond.superclass "AnyKeyTown$Constable" "AnyKeyTown$Scribe") ∈ lw_all := lw_g (lw_at lw_m3 94 rfl) rfl
theorem q676 : (Jvm.Cond.instanceMethod ({ cls := "AnyKeyTown$Constable", name := "read", desc := "()I" } : Jvm.MethodName)) ∈ lw_all := lw_g (lw_at lw_m3 96 rfl) rfl
theorem q677 : (Jvm.Cond.selects "AnyKeyTown$Constable" ({ cls := "AnyKeyTown$Constable", name := "read", desc := "()I" } : Jvm.MethodName) ({ cls := "AnyKeyTown$Constable", name := "read", desc := "()I" } : Jvm.MethodName)) ∈ lw_all := lw_g (lw_at lw_m3 97 rfl) rfl
theorem q678 : (Jvm.Cond.code ({ cls := "AnyKeyTown$Constable", name := "read", desc := "()I" } : Jvm.MethodName) prog_5_method_5_code (1 : Nat) (Option.some Jvm.ClassFile.FieldType.int)) ∈ lw_all := lw_g (lw_at lw_m3 98 rfl) rfl
theorem q679 : (Jvm.Cond.methodLink "AnyKeyTown$Constable" (92 : Nat) ({ cls := "AnyKeyTown$Constable", name := "line", desc := "()V" } : Jvm.MethodName)) ∈ lw_all := lw_g (lw_at lw_m3 99 rfl) rfl
theorem q680 : (Jvm.Cond.privateMethod ({ cls := "AnyKeyTown$Constable", name := "line", desc := "()V" } : Jvm.MethodName)) ∈ lw_tbl := lw_at lw_m3 100 rfl
theorem q681 : (Jvm.Cond.instanceMethod ({ cls := "AnyKeyTown$Constable", name := "line", desc := "()V" } : Jvm.MethodName)) ∈ lw_all := lw_g (lw_at lw_m3 101 rfl) rfl
theorem q682 : (Jvm.Cond.code ({ cls := "AnyKeyTown$Constable", name := "line", desc := "()V" } : Jvm.MethodName) prog_5_method_4_code (4 : Nat) (Option.none : Option Jvm.ClassFile.FieldType)) ∈ lw_all := lw_g (lw_at lw_m3 102 rfl) rfl
theorem q683 : (Jvm.Cond.methodLink "AnyKeyTown$Constable" (28 : Nat) ({ cls := "AnyKeyTown$Constable", name := "place", desc := "()I" } : Jvm.MethodName)) ∈ lw_all := lw_g (lw_at lw_m3 103 rfl) rfl
theorem q684 : (Jvm.Cond.sameMethod "AnyKeyTown$Constable" "AnyKeyTown$Scribe" "place" "()I") ∈ lw_all := lw_g (lw_at lw_m3 104 rfl) rfl
theorem q686 : (Jvm.Cond.selects "AnyKeyTown$Constable" ({ cls := "AnyKeyTown$Constable", name := "place", desc := "()I" } : Jvm.MethodName) ({ cls := "AnyKeyTown$Scribe", name := "place", desc := "()I" } : Jvm.MethodName)) ∈ lw_all := lw_g (lw_at lw_m3 106 rfl) rfl
theorem q689 : (Jvm.Cond.methodLink "AnyKeyTown$Constable" (66 : Nat) ({ cls := "AnyKeyTown$Constable", name := "person", desc := "()I" } : Jvm.MethodName)) ∈ lw_all := lw_g (lw_at lw_m3 109 rfl) rfl
theorem q690 : (Jvm.Cond.sameMethod "AnyKeyTown$Constable" "AnyKeyTown$Scribe" "person" "()I") ∈ lw_all := lw_g (lw_at lw_m3 110 rfl) rfl
theorem q692 : (Jvm.Cond.selects "AnyKeyTown$Constable" ({ cls := "AnyKeyTown$Constable", name := "person", desc := "()I" } : Jvm.MethodName) ({ cls := "AnyKeyTown$Scribe", name := "person", desc := "()I" } : Jvm.MethodName)) ∈ lw_all := lw_g (lw_at lw_m3 112 rfl) rfl
theorem q698 : (Jvm.Cond.selects "AnyKeyTown$Constable" ({ cls := "AnyKeyTown$Scribe", name := "here", desc := "()I" } : Jvm.MethodName) ({ cls := "AnyKeyTown$Scribe", name := "here", desc := "()I" } : Jvm.MethodName)) ∈ lw_all := lw_g (lw_at lw_m3 118 rfl) rfl
theorem q704 : (Jvm.Cond.selects "AnyKeyTown$Constable" ({ cls := "AnyKeyTown$Scribe", name := "isGood", desc := "()Z" } : Jvm.MethodName) ({ cls := "AnyKeyTown$Scribe", name := "isGood", desc := "()Z" } : Jvm.MethodName)) ∈ lw_all := lw_g (lw_at lw_m3 124 rfl) rfl
theorem q713 : (Jvm.Cond.selects "AnyKeyTown$Constable" ({ cls := "AnyKeyTown$Scribe", name := "bad", desc := "(II)V" } : Jvm.MethodName) ({ cls := "AnyKeyTown$Scribe", name := "bad", desc := "(II)V" } : Jvm.MethodName)) ∈ lw_all := lw_g (lw_at lw_m3 133 rfl) rfl
theorem q716 : (Jvm.Cond.methodLink "AnyKeyTown$Constable" (40 : Nat) ({ cls := "AnyKeyTown$Constable", name := "isGood", desc := "()Z" } : Jvm.MethodName)) ∈ lw_all := lw_g (lw_at lw_m3 136 rfl) rfl
theorem q717 : (Jvm.Cond.sameMethod "AnyKeyTown$Constable" "AnyKeyTown$Scribe" "isGood" "()Z") ∈ lw_all := lw_g (lw_at lw_m3 137 rfl) rfl
theorem q719 : (Jvm.Cond.selects "AnyKeyTown$Constable" ({ cls := "AnyKeyTown$Constable", name := "isGood", desc := "()Z" } : Jvm.MethodName) ({ cls := "AnyKeyTown$Scribe", name := "isGood", desc := "()Z" } : Jvm.MethodName)) ∈ lw_all := lw_g (lw_at lw_m3 139 rfl) rfl
theorem q720 : (Jvm.Cond.methodLink "AnyKeyTown$Constable" (36 : Nat) ({ cls := "AnyKeyTown$Constable", name := "bad", desc := "(II)V" } : Jvm.MethodName)) ∈ lw_all := lw_g (lw_at lw_m3 140 rfl) rfl
theorem q721 : (Jvm.Cond.sameMethod "AnyKeyTown$Constable" "AnyKeyTown$Scribe" "bad" "(II)V") ∈ lw_all := lw_g (lw_at lw_m3 141 rfl) rfl
theorem q723 : (Jvm.Cond.selects "AnyKeyTown$Constable" ({ cls := "AnyKeyTown$Constable", name := "bad", desc := "(II)V" } : Jvm.MethodName) ({ cls := "AnyKeyTown$Scribe", name := "bad", desc := "(II)V" } : Jvm.MethodName)) ∈ lw_all := lw_g (lw_at lw_m3 143 rfl) rfl
theorem q724 : (Jvm.Cond.methodLink "AnyKeyTown$Constable" (44 : Nat) ({ cls := "AnyKeyTown$Constable", name := "here", desc := "()I" } : Jvm.MethodName)) ∈ lw_all := lw_g (lw_at lw_m3 144 rfl) rfl
theorem q725 : (Jvm.Cond.sameMethod "AnyKeyTown$Constable" "AnyKeyTown$Scribe" "here" "()I") ∈ lw_all := lw_g (lw_at lw_m3 145 rfl) rfl
theorem q727 : (Jvm.Cond.selects "AnyKeyTown$Constable" ({ cls := "AnyKeyTown$Constable", name := "here", desc := "()I" } : Jvm.MethodName) ({ cls := "AnyKeyTown$Scribe", name := "here", desc := "()I" } : Jvm.MethodName)) ∈ lw_all := lw_g (lw_at lw_m3 147 rfl) rfl
theorem q728 : (Jvm.Cond.stringRef "AnyKeyTown$Constable" (76 : Nat) "@#=*&") ∈ lw_tbl := lw_at lw_m3 148 rfl
theorem q729 : (Jvm.Cond.methodLink "AnyKeyTown$Constable" (78 : Nat) ({ cls := "java/lang/String", name := "indexOf", desc := "(I)I" } : Jvm.MethodName)) ∈ lw_all := lw_g (lw_at lw_m3 149 rfl) rfl
theorem q730 : (Jvm.Cond.methodLink "AnyKeyTown$Constable" (55 : Nat) ({ cls := "AnyKeyTown$Roll", name := "isTold", desc := "(I)Z" } : Jvm.MethodName)) ∈ lw_all := lw_g (lw_at lw_m3 150 rfl) rfl
theorem q734 : (Jvm.Cond.methodLink "AnyKeyTown$Constable" (47 : Nat) ({ cls := "AnyKeyTown$Constable", name := "goesOn", desc := "()V" } : Jvm.MethodName)) ∈ lw_all := lw_g (lw_at lw_m3 154 rfl) rfl
theorem q735 : (Jvm.Cond.sameMethod "AnyKeyTown$Constable" "AnyKeyTown$Scribe" "goesOn" "()V") ∈ lw_all := lw_g (lw_at lw_m3 155 rfl) rfl
theorem q737 : (Jvm.Cond.selects "AnyKeyTown$Constable" ({ cls := "AnyKeyTown$Constable", name := "goesOn", desc := "()V" } : Jvm.MethodName) ({ cls := "AnyKeyTown$Scribe", name := "goesOn", desc := "()V" } : Jvm.MethodName)) ∈ lw_all := lw_g (lw_at lw_m3 157 rfl) rfl
theorem q740 : (Jvm.Cond.methodLink "AnyKeyTown$Constable" (84 : Nat) ({ cls := "AnyKeyTown$Constable", name := "house", desc := "(I)V" } : Jvm.MethodName)) ∈ lw_all := lw_g (lw_at lw_m3 160 rfl) rfl
theorem q741 : (Jvm.Cond.privateMethod ({ cls := "AnyKeyTown$Constable", name := "house", desc := "(I)V" } : Jvm.MethodName)) ∈ lw_tbl := lw_at lw_m3 161 rfl
theorem q742 : (Jvm.Cond.instanceMethod ({ cls := "AnyKeyTown$Constable", name := "house", desc := "(I)V" } : Jvm.MethodName)) ∈ lw_all := lw_g (lw_at lw_m3 162 rfl) rfl
theorem q743 : (Jvm.Cond.code ({ cls := "AnyKeyTown$Constable", name := "house", desc := "(I)V" } : Jvm.MethodName) prog_5_method_2_code (4 : Nat) (Option.none : Option Jvm.ClassFile.FieldType)) ∈ lw_all := lw_g (lw_at lw_m3 163 rfl) rfl
theorem q744 : (Jvm.Cond.methodLink "AnyKeyTown$Constable" (32 : Nat) ({ cls := "AnyKeyTown$Constable", name := "sees", desc := "(II)Z" } : Jvm.MethodName)) ∈ lw_all := lw_g (lw_at lw_m3 164 rfl) rfl
theorem q745 : (Jvm.Cond.sameMethod "AnyKeyTown$Constable" "AnyKeyTown$Scribe" "sees" "(II)Z") ∈ lw_all := lw_g (lw_at lw_m3 165 rfl) rfl
theorem q747 : (Jvm.Cond.selects "AnyKeyTown$Constable" ({ cls := "AnyKeyTown$Constable", name := "sees", desc := "(II)Z" } : Jvm.MethodName) ({ cls := "AnyKeyTown$Scribe", name := "sees", desc := "(II)Z" } : Jvm.MethodName)) ∈ lw_all := lw_g (lw_at lw_m3 167 rfl) rfl
theorem q750 : (Jvm.Cond.methodLink "AnyKeyTown$Constable" (88 : Nat) ({ cls := "AnyKeyTown$Constable", name := "quarrel", desc := "(IZ)V" } : Jvm.MethodName)) ∈ lw_all := lw_g (lw_at lw_m3 170 rfl) rfl
theorem q751 : (Jvm.Cond.privateMethod ({ cls := "AnyKeyTown$Constable", name := "quarrel", desc := "(IZ)V" } : Jvm.MethodName)) ∈ lw_tbl := lw_at lw_m3 171 rfl
theorem q752 : (Jvm.Cond.instanceMethod ({ cls := "AnyKeyTown$Constable", name := "quarrel", desc := "(IZ)V" } : Jvm.MethodName)) ∈ lw_all := lw_g (lw_at lw_m3 172 rfl) rfl
theorem q753 : (Jvm.Cond.code ({ cls := "AnyKeyTown$Constable", name := "quarrel", desc := "(IZ)V" } : Jvm.MethodName) prog_5_method_3_code (5 : Nat) (Option.none : Option Jvm.ClassFile.FieldType)) ∈ lw_all := lw_g (lw_at lw_m3 173 rfl) rfl
theorem q754 : (Jvm.Cond.methodLink "AnyKeyTown$Constable" (69 : Nat) ({ cls := "AnyKeyTown$Roll", name := "parts", desc := "(IIZ)V" } : Jvm.MethodName)) ∈ lw_all := lw_g (lw_at lw_m3 174 rfl) rfl
theorem q758 : (Jvm.Cond.methodLink "AnyKeyTown$Constable" (95 : Nat) ({ cls := "AnyKeyTown$Constable", name := "isEnd", desc := "()Z" } : Jvm.MethodName)) ∈ lw_all := lw_g (lw_at lw_m3 178 rfl) rfl
theorem q759 : (Jvm.Cond.sameMethod "AnyKeyTown$Constable" "AnyKeyTown$Scribe" "isEnd" "()Z") ∈ lw_all := lw_g (lw_at lw_m3 179 rfl) rfl
theorem q761 : (Jvm.Cond.selects "AnyKeyTown$Constable" ({ cls := "AnyKeyTown$Constable", name := "isEnd", desc := "()Z" } : Jvm.MethodName) ({ cls := "AnyKeyTown$Scribe", name := "isEnd", desc := "()Z" } : Jvm.MethodName)) ∈ lw_all := lw_g (lw_at lw_m3 181 rfl) rfl
theorem q764 : (Jvm.Cond.methodLink "AnyKeyTown$Constable" (98 : Nat) ({ cls := "AnyKeyTown$Constable", name := "answer", desc := "(I)I" } : Jvm.MethodName)) ∈ lw_all := lw_g (lw_at lw_m3 184 rfl) rfl
theorem q765 : (Jvm.Cond.sameMethod "AnyKeyTown$Constable" "AnyKeyTown$Scribe" "answer" "(I)I") ∈ lw_all := lw_g (lw_at lw_m3 185 rfl) rfl
theorem q767 : (Jvm.Cond.selects "AnyKeyTown$Constable" ({ cls := "AnyKeyTown$Constable", name := "answer", desc := "(I)I" } : Jvm.MethodName) ({ cls := "AnyKeyTown$Scribe", name := "answer", desc := "(I)I" } : Jvm.MethodName)) ∈ lw_all := lw_g (lw_at lw_m3 187 rfl) rfl
theorem in_X17 : ∀ w ∈ wsX170, w ∈ lw_all := lw_in wsX170 [664, 666, 668, 670, 672, 660, 662] (by decide +kernel) (by decide +kernel)
/-! AnyKeyTown$Dancer -/
set_option maxRecDepth 100000
def RX18 : String := "AnyKeyTown$Dancer"
def TX18 : u_T := fun k => match k with
  | 0 => ("AnyKeyTown$Scribe", "n", "I", true)
  | 1 => ("AnyKeyTown$Scribe", "at", "I", false)
  | 2 => ("AnyKeyTown$Scribe", "fault", "I", false)
  | 3 => ("AnyKeyTown$Scribe", "place", "I", false)
  | 4 => ("AnyKeyTown$Scribe", "this$0", "LAnyKeyTown;", true)
  | 5 => ("AnyKeyTown$Dancer", "at", "[I", true)
  | 6 => ("AnyKeyTown$Dancer", "inside", "I", false)
  | 7 => ("AnyKeyTown$Dancer", "twos", "I", false)
  | 8 => ("AnyKeyTown$Dancer", "steps", "I", false)
  | _ => ("AnyKeyTown$Dancer", "this$0", "LAnyKeyTown;", true)
def tyX18 : Nat → FieldType := fun k => match k with
  | 0 => .int
  | 1 => .int
  | 2 => .int
  | 3 => .int
  | 4 => .object "AnyKeyTown"
  | 5 => .array .int
  | 6 => .int
  | 7 => .int
  | 8 => .int
  | _ => .object "AnyKeyTown"
abbrev wsX180 : List Cond := u_ws RX18 TX18 10
-- two fields of one name: no nmX18
theorem tyX18_ok : ∀ k, k < 10 → parseFieldDescriptor (TX18 k).2.2.1 = some (tyX18 k) := by decide +kernel
abbrev cX18_init : ByteArray := prog_6_method_1_code
def yX18_init : MethodName := ⟨RX18, "<init>", "(LAnyKeyTown;I)V"⟩
def dkwX18_init_2 : List UInt8 := [177]
abbrev dktX18_init_2 : List UInt8 := dkwX18_init_2 ++ []
def dkwX18_init_1 : List UInt8 := [162, 0, 24, 42, 180, 0, 15, 29, 43, 180, 0, 19, 180, 0, 23, 29, 46, 79, 132, 3, 1, 167, 255, 232]
abbrev dktX18_init_1 : List UInt8 := dkwX18_init_1 ++ dktX18_init_2
def dkwX18_init_0 : List UInt8 := [42, 43, 181, 0, 3, 42, 43, 28, 183, 0, 9, 42, 16, 16, 188, 10, 181, 0, 15, 3, 62, 29, 16, 16]
abbrev dktX18_init_0 : List UInt8 := dkwX18_init_0 ++ dktX18_init_1
theorem dksX18_init_0 : cX18_init.data.toList.drop 0 = dktX18_init_0 := by decide +kernel
theorem dksX18_init_1 : cX18_init.data.toList.drop 24 = dktX18_init_1 := dk_seg dksX18_init_0 24 rfl rfl
theorem dksX18_init_2 : cX18_init.data.toList.drop 48 = dktX18_init_2 := dk_seg dksX18_init_1 24 rfl rfl
theorem dX18_init_0 : decode cX18_init 0 = .ok (.aload_n 0, 1) := dk_42 (dk_at dksX18_init_0 0 rfl rfl)
theorem dX18_init_1 : decode cX18_init 1 = .ok (.aload_n 1, 1) := dk_43 (dk_at dksX18_init_0 1 rfl rfl)
theorem dX18_init_2 : decode cX18_init 2 = .ok (.putfield 3, 3) := dk_181 0 3 (dk_at dksX18_init_0 2 rfl rfl)
theorem dX18_init_5 : decode cX18_init 5 = .ok (.aload_n 0, 1) := dk_42 (dk_at dksX18_init_0 5 rfl rfl)
theorem dX18_init_6 : decode cX18_init 6 = .ok (.aload_n 1, 1) := dk_43 (dk_at dksX18_init_0 6 rfl rfl)
theorem dX18_init_7 : decode cX18_init 7 = .ok (.iload_n 2, 1) := dk_28 (dk_at dksX18_init_0 7 rfl rfl)
theorem dX18_init_8 : decode cX18_init 8 = .ok (.invokespecial 9, 3) := dk_183 0 9 (dk_at dksX18_init_0 8 rfl rfl)
theorem dX18_init_11 : decode cX18_init 11 = .ok (.aload_n 0, 1) := dk_42 (dk_at dksX18_init_0 11 rfl rfl)
theorem dX18_init_12 : decode cX18_init 12 = .ok (.bipush 16, 2) := dk_16 16 (dk_at dksX18_init_0 12 rfl rfl)
theorem dX18_init_14 : decode cX18_init 14 = .ok (.newarray .int, 2) := dk_188_10 (dk_at dksX18_init_0 14 rfl rfl)
theorem dX18_init_16 : decode cX18_init 16 = .ok (.putfield 15, 3) := dk_181 0 15 (dk_at dksX18_init_0 16 rfl rfl)
theorem dX18_init_19 : decode cX18_init 19 = .ok (.iconst 0, 1) := dk_3 (dk_at dksX18_init_0 19 rfl rfl)
theorem dX18_init_20 : decode cX18_init 20 = .ok (.istore_n 3, 1) := dk_62 (dk_at dksX18_init_0 20 rfl rfl)
theorem dX18_init_21 : decode cX18_init 21 = .ok (.iload_n 3, 1) := dk_29 (dk_at dksX18_init_0 21 rfl rfl)
theorem dX18_init_22 : decode cX18_init 22 = .ok (.bipush 16, 2) := dk_16 16 (dk_at dksX18_init_0 22 rfl rfl)
theorem dX18_init_24 : decode cX18_init 24 = .ok (.if_icmp .ge 24, 3) := dk_162 0 24 (dk_at dksX18_init_1 0 rfl rfl)
theorem dX18_init_27 : decode cX18_init 27 = .ok (.aload_n 0, 1) := dk_42 (dk_at dksX18_init_1 3 rfl rfl)
theorem dX18_init_28 : decode cX18_init 28 = .ok (.getfield 15, 3) := dk_180 0 15 (dk_at dksX18_init_1 4 rfl rfl)
theorem dX18_init_31 : decode cX18_init 31 = .ok (.iload_n 3, 1) := dk_29 (dk_at dksX18_init_1 7 rfl rfl)
theorem dX18_init_32 : decode cX18_init 32 = .ok (.aload_n 1, 1) := dk_43 (dk_at dksX18_init_1 8 rfl rfl)
theorem dX18_init_33 : decode cX18_init 33 = .ok (.getfield 19, 3) := dk_180 0 19 (dk_at dksX18_init_1 9 rfl rfl)
theorem dX18_init_36 : decode cX18_init 36 = .ok (.getfield 23, 3) := dk_180 0 23 (dk_at dksX18_init_1 12 rfl rfl)
theorem dX18_init_39 : decode cX18_init 39 = .ok (.iload_n 3, 1) := dk_29 (dk_at dksX18_init_1 15 rfl rfl)
theorem dX18_init_40 : decode cX18_init 40 = .ok (.iaload, 1) := dk_46 (dk_at dksX18_init_1 16 rfl rfl)
theorem dX18_init_41 : decode cX18_init 41 = .ok (.iastore, 1) := dk_79 (dk_at dksX18_init_1 17 rfl rfl)
theorem dX18_init_42 : decode cX18_init 42 = .ok (.iinc 3 1, 3) := dk_132 3 1 (dk_at dksX18_init_1 18 rfl rfl)
theorem dX18_init_45 : decode cX18_init 45 = .ok (.goto (-24), 3) := dk_167 255 232 (dk_at dksX18_init_1 21 rfl rfl)
theorem dX18_init_48 : decode cX18_init 48 = .ok (.return_, 1) := dk_177 (dk_at dksX18_init_2 0 rfl rfl)
abbrev cX18_read : ByteArray := prog_6_method_3_code
def yX18_read : MethodName := ⟨RX18, "read", "()I"⟩
def dkwX18_read_1 : List UInt8 := [4, 167, 0, 4, 3, 60, 167, 255, 228, 42, 42, 180, 0, 61, 182, 0, 80, 172]
abbrev dktX18_read_1 : List UInt8 := dkwX18_read_1 ++ []
def dkwX18_read_0 : List UInt8 := [4, 60, 27, 153, 0, 30, 42, 182, 0, 73, 42, 182, 0, 35, 153, 0, 14, 42, 182, 0, 77, 154, 0, 7]
abbrev dktX18_read_0 : List UInt8 := dkwX18_read_0 ++ dktX18_read_1
theorem dksX18_read_0 : cX18_read.data.toList.drop 0 = dktX18_read_0 := by decide +kernel
theorem dksX18_read_1 : cX18_read.data.toList.drop 24 = dktX18_read_1 := dk_seg dksX18_read_0 24 rfl rfl
theorem dX18_read_0 : decode cX18_read 0 = .ok (.iconst 1, 1) := dk_4 (dk_at dksX18_read_0 0 rfl rfl)
theorem dX18_read_1 : decode cX18_read 1 = .ok (.istore_n 1, 1) := dk_60 (dk_at dksX18_read_0 1 rfl rfl)
theorem dX18_read_2 : decode cX18_read 2 = .ok (.iload_n 1, 1) := dk_27 (dk_at dksX18_read_0 2 rfl rfl)
theorem dX18_read_3 : decode cX18_read 3 = .ok (.ifCond .eq 30, 3) := dk_153 0 30 (dk_at dksX18_read_0 3 rfl rfl)
theorem dX18_read_6 : decode cX18_read 6 = .ok (.aload_n 0, 1) := dk_42 (dk_at dksX18_read_0 6 rfl rfl)
theorem dX18_read_7 : decode cX18_read 7 = .ok (.invokevirtual 73, 3) := dk_182 0 73 (dk_at dksX18_read_0 7 rfl rfl)
theorem dX18_read_10 : decode cX18_read 10 = .ok (.aload_n 0, 1) := dk_42 (dk_at dksX18_read_0 10 rfl rfl)
theorem dX18_read_11 : decode cX18_read 11 = .ok (.invokevirtual 35, 3) := dk_182 0 35 (dk_at dksX18_read_0 11 rfl rfl)
theorem dX18_read_14 : decode cX18_read 14 = .ok (.ifCond .eq 14, 3) := dk_153 0 14 (dk_at dksX18_read_0 14 rfl rfl)
theorem dX18_read_17 : decode cX18_read 17 = .ok (.aload_n 0, 1) := dk_42 (dk_at dksX18_read_0 17 rfl rfl)
theorem dX18_read_18 : decode cX18_read 18 = .ok (.invokevirtual 77, 3) := dk_182 0 77 (dk_at dksX18_read_0 18 rfl rfl)
theorem dX18_read_21 : decode cX18_read 21 = .ok (.ifCond .ne 7, 3) := dk_154 0 7 (dk_at dksX18_read_0 21 rfl rfl)
theorem dX18_read_24 : decode cX18_read 24 = .ok (.iconst 1, 1) := dk_4 (dk_at dksX18_read_1 0 rfl rfl)
theorem dX18_read_25 : decode cX18_read 25 = .ok (.goto 4, 3) := dk_167 0 4 (dk_at dksX18_read_1 1 rfl rfl)
theorem dX18_read_28 : decode cX18_read 28 = .ok (.iconst 0, 1) := dk_3 (dk_at dksX18_read_1 4 rfl rfl)
theorem dX18_read_29 : decode cX18_read 29 = .ok (.istore_n 1, 1) := dk_60 (dk_at dksX18_read_1 5 rfl rfl)
theorem dX18_read_30 : decode cX18_read 30 = .ok (.goto (-28), 3) := dk_167 255 228 (dk_at dksX18_read_1 6 rfl rfl)
theorem dX18_read_33 : decode cX18_read 33 = .ok (.aload_n 0, 1) := dk_42 (dk_at dksX18_read_1 9 rfl rfl)
theorem dX18_read_34 : decode cX18_read 34 = .ok (.aload_n 0, 1) := dk_42 (dk_at dksX18_read_1 10 rfl rfl)
theorem dX18_read_35 : decode cX18_read 35 = .ok (.getfield 61, 3) := dk_180 0 61 (dk_at dksX18_read_1 11 rfl rfl)
theorem dX18_read_38 : decode cX18_read 38 = .ok (.invokevirtual 80, 3) := dk_182 0 80 (dk_at dksX18_read_1 14 rfl rfl)
theorem dX18_read_41 : decode cX18_read 41 = .ok (.ireturn, 1) := dk_172 (dk_at dksX18_read_1 17 rfl rfl)
abbrev cX18_two : ByteArray := prog_6_method_2_code
def yX18_two : MethodName := ⟨RX18, "two", "()V"⟩
def dkwX18_two_11 : List UInt8 := [21, 4, 42, 180, 0, 3, 180, 0, 19, 180, 0, 23, 28, 46, 79, 177]
abbrev dktX18_two_11 : List UInt8 := dkwX18_two_11 ++ []
def dkwX18_two_10 : List UInt8 := [180, 0, 3, 180, 0, 19, 180, 0, 23, 28, 46, 100, 184, 0, 67, 96, 181, 0, 64, 42, 180, 0, 15]
abbrev dktX18_two_10 : List UInt8 := dkwX18_two_10 ++ dktX18_two_11
def dkwX18_two_9 : List UInt8 := [89, 180, 0, 61, 4, 96, 181, 0, 61, 42, 89, 180, 0, 64, 42, 180, 0, 15, 21, 4, 46, 42]
abbrev dktX18_two_9 : List UInt8 := dkwX18_two_9 ++ dktX18_two_10
def dkwX18_two_8 : List UInt8 := [182, 0, 43, 42, 182, 0, 35, 154, 0, 4, 177, 42, 89, 180, 0, 55, 4, 28, 120, 128, 181, 0, 55, 42]
abbrev dktX18_two_8 : List UInt8 := dkwX18_two_8 ++ dktX18_two_9
def dkwX18_two_7 : List UInt8 := [180, 0, 3, 180, 0, 19, 180, 0, 58, 28, 46, 21, 4, 184, 0, 51, 153, 0, 10, 42, 16, 9, 29]
abbrev dktX18_two_7 : List UInt8 := dkwX18_two_7 ++ dktX18_two_8
def dkwX18_two_6 : List UInt8 := [182, 0, 43, 42, 182, 0, 35, 153, 0, 42, 42, 180, 0, 55, 21, 4, 184, 0, 51, 154, 0, 23, 42]
abbrev dktX18_two_6 : List UInt8 := dkwX18_two_6 ++ dktX18_two_7
def dkwX18_two_5 : List UInt8 := [153, 0, 25, 42, 180, 0, 3, 180, 0, 19, 21, 4, 182, 0, 39, 154, 0, 10, 42, 16, 7, 29]
abbrev dktX18_two_5 : List UInt8 := dkwX18_two_5 ++ dktX18_two_6
def dkwX18_two_4 : List UInt8 := [182, 0, 35, 153, 0, 16, 28, 21, 4, 160, 0, 10, 42, 16, 6, 29, 182, 0, 43, 42, 182, 0, 35]
abbrev dktX18_two_4 : List UInt8 := dkwX18_two_4 ++ dktX18_two_5
def dkwX18_two_3 : List UInt8 := [153, 0, 10, 42, 16, 8, 27, 182, 0, 43, 42, 182, 0, 28, 62, 42, 182, 0, 32, 54, 4, 42]
abbrev dktX18_two_3 : List UInt8 := dkwX18_two_3 ++ dktX18_two_4
def dkwX18_two_2 : List UInt8 := [180, 0, 3, 180, 0, 19, 180, 0, 47, 28, 184, 0, 51, 153, 0, 14, 42, 180, 0, 55, 28, 184, 0, 51]
abbrev dktX18_two_2 : List UInt8 := dkwX18_two_2 ++ dktX18_two_3
def dkwX18_two_1 : List UInt8 := [28, 182, 0, 39, 154, 0, 10, 42, 16, 7, 27, 182, 0, 43, 42, 182, 0, 35, 153, 0, 38, 42]
abbrev dktX18_two_1 : List UInt8 := dkwX18_two_1 ++ dktX18_two_2
def dkwX18_two_0 : List UInt8 := [42, 182, 0, 28, 60, 42, 182, 0, 32, 61, 42, 182, 0, 35, 153, 0, 24, 42, 180, 0, 3, 180, 0, 19]
abbrev dktX18_two_0 : List UInt8 := dkwX18_two_0 ++ dktX18_two_1
theorem dksX18_two_0 : cX18_two.data.toList.drop 0 = dktX18_two_0 := by decide +kernel
theorem dksX18_two_1 : cX18_two.data.toList.drop 24 = dktX18_two_1 := dk_seg dksX18_two_0 24 rfl rfl
theorem dksX18_two_2 : cX18_two.data.toList.drop 46 = dktX18_two_2 := dk_seg dksX18_two_1 22 rfl rfl
theorem dksX18_two_3 : cX18_two.data.toList.drop 70 = dktX18_two_3 := dk_seg dksX18_two_2 24 rfl rfl
theorem dksX18_two_4 : cX18_two.data.toList.drop 92 = dktX18_two_4 := dk_seg dksX18_two_3 22 rfl rfl
theorem dksX18_two_5 : cX18_two.data.toList.drop 115 = dktX18_two_5 := dk_seg dksX18_two_4 23 rfl rfl
theorem dksX18_two_6 : cX18_two.data.toList.drop 137 = dktX18_two_6 := dk_seg dksX18_two_5 22 rfl rfl
theorem dksX18_two_7 : cX18_two.data.toList.drop 160 = dktX18_two_7 := dk_seg dksX18_two_6 23 rfl rfl
theorem dksX18_two_8 : cX18_two.data.toList.drop 183 = dktX18_two_8 := dk_seg dksX18_two_7 23 rfl rfl
theorem dksX18_two_9 : cX18_two.data.toList.drop 207 = dktX18_two_9 := dk_seg dksX18_two_8 24 rfl rfl
theorem dksX18_two_10 : cX18_two.data.toList.drop 229 = dktX18_two_10 := dk_seg dksX18_two_9 22 rfl rfl
theorem dksX18_two_11 : cX18_two.data.toList.drop 252 = dktX18_two_11 := dk_seg dksX18_two_10 23 rfl rfl
theorem dX18_two_0 : decode cX18_two 0 = .ok (.aload_n 0, 1) := dk_42 (dk_at dksX18_two_0 0 rfl rfl)
theorem dX18_two_1 : decode cX18_two 1 = .ok (.invokevirtual 28, 3) := dk_182 0 28 (dk_at dksX18_two_0 1 rfl rfl)
theorem dX18_two_4 : decode cX18_two 4 = .ok (.istore_n 1, 1) := dk_60 (dk_at dksX18_two_0 4 rfl rfl)
theorem dX18_two_5 : decode cX18_two 5 = .ok (.aload_n 0, 1) := dk_42 (dk_at dksX18_two_0 5 rfl rfl)
theorem dX18_two_6 : decode cX18_two 6 = .ok (.invokevirtual 32, 3) := dk_182 0 32 (dk_at dksX18_two_0 6 rfl rfl)
theorem dX18_two_9 : decode cX18_two 9 = .ok (.istore_n 2, 1) := dk_61 (dk_at dksX18_two_0 9 rfl rfl)
theorem dX18_two_10 : decode cX18_two 10 = .ok (.aload_n 0, 1) := dk_42 (dk_at dksX18_two_0 10 rfl rfl)
theorem dX18_two_11 : decode cX18_two 11 = .ok (.invokevirtual 35, 3) := dk_182 0 35 (dk_at dksX18_two_0 11 rfl rfl)
theorem dX18_two_14 : decode cX18_two 14 = .ok (.ifCond .eq 24, 3) := dk_153 0 24 (dk_at dksX18_two_0 14 rfl rfl)
theorem dX18_two_17 : decode cX18_two 17 = .ok (.aload_n 0, 1) := dk_42 (dk_at dksX18_two_0 17 rfl rfl)
theorem dX18_two_18 : decode cX18_two 18 = .ok (.getfield 3, 3) := dk_180 0 3 (dk_at dksX18_two_0 18 rfl rfl)
theorem dX18_two_21 : decode cX18_two 21 = .ok (.getfield 19, 3) := dk_180 0 19 (dk_at dksX18_two_0 21 rfl rfl)
theorem dX18_two_24 : decode cX18_two 24 = .ok (.iload_n 2, 1) := dk_28 (dk_at dksX18_two_1 0 rfl rfl)
theorem dX18_two_25 : decode cX18_two 25 = .ok (.invokevirtual 39, 3) := dk_182 0 39 (dk_at dksX18_two_1 1 rfl rfl)
theorem dX18_two_28 : decode cX18_two 28 = .ok (.ifCond .ne 10, 3) := dk_154 0 10 (dk_at dksX18_two_1 4 rfl rfl)
theorem dX18_two_31 : decode cX18_two 31 = .ok (.aload_n 0, 1) := dk_42 (dk_at dksX18_two_1 7 rfl rfl)
theorem dX18_two_32 : decode cX18_two 32 = .ok (.bipush 7, 2) := dk_16 7 (dk_at dksX18_two_1 8 rfl rfl)
theorem dX18_two_34 : decode cX18_two 34 = .ok (.iload_n 1, 1) := dk_27 (dk_at dksX18_two_1 10 rfl rfl)
theorem dX18_two_35 : decode cX18_two 35 = .ok (.invokevirtual 43, 3) := dk_182 0 43 (dk_at dksX18_two_1 11 rfl rfl)
theorem dX18_two_38 : decode cX18_two 38 = .ok (.aload_n 0, 1) := dk_42 (dk_at dksX18_two_1 14 rfl rfl)
theorem dX18_two_39 : decode cX18_two 39 = .ok (.invokevirtual 35, 3) := dk_182 0 35 (dk_at dksX18_two_1 15 rfl rfl)
theorem dX18_two_42 : decode cX18_two 42 = .ok (.ifCond .eq 38, 3) := dk_153 0 38 (dk_at dksX18_two_1 18 rfl rfl)
theorem dX18_two_45 : decode cX18_two 45 = .ok (.aload_n 0, 1) := dk_42 (dk_at dksX18_two_1 21 rfl rfl)
theorem dX18_two_46 : decode cX18_two 46 = .ok (.getfield 3, 3) := dk_180 0 3 (dk_at dksX18_two_2 0 rfl rfl)
theorem dX18_two_49 : decode cX18_two 49 = .ok (.getfield 19, 3) := dk_180 0 19 (dk_at dksX18_two_2 3 rfl rfl)
theorem dX18_two_52 : decode cX18_two 52 = .ok (.getfield 47, 3) := dk_180 0 47 (dk_at dksX18_two_2 6 rfl rfl)
theorem dX18_two_55 : decode cX18_two 55 = .ok (.iload_n 2, 1) := dk_28 (dk_at dksX18_two_2 9 rfl rfl)
theorem dX18_two_56 : decode cX18_two 56 = .ok (.invokestatic 51, 3) := dk_184 0 51 (dk_at dksX18_two_2 10 rfl rfl)
theorem dX18_two_59 : decode cX18_two 59 = .ok (.ifCond .eq 14, 3) := dk_153 0 14 (dk_at dksX18_two_2 13 rfl rfl)
theorem dX18_two_62 : decode cX18_two 62 = .ok (.aload_n 0, 1) := dk_42 (dk_at dksX18_two_2 16 rfl rfl)
theorem dX18_two_63 : decode cX18_two 63 = .ok (.getfield 55, 3) := dk_180 0 55 (dk_at dksX18_two_2 17 rfl rfl)
theorem dX18_two_66 : decode cX18_two 66 = .ok (.iload_n 2, 1) := dk_28 (dk_at dksX18_two_2 20 rfl rfl)
theorem dX18_two_67 : decode cX18_two 67 = .ok (.invokestatic 51, 3) := dk_184 0 51 (dk_at dksX18_two_2 21 rfl rfl)
theorem dX18_two_70 : decode cX18_two 70 = .ok (.ifCond .eq 10, 3) := dk_153 0 10 (dk_at dksX18_two_3 0 rfl rfl)
theorem dX18_two_73 : decode cX18_two 73 = .ok (.aload_n 0, 1) := dk_42 (dk_at dksX18_two_3 3 rfl rfl)
theorem dX18_two_74 : decode cX18_two 74 = .ok (.bipush 8, 2) := dk_16 8 (dk_at dksX18_two_3 4 rfl rfl)
theorem dX18_two_76 : decode cX18_two 76 = .ok (.iload_n 1, 1) := dk_27 (dk_at dksX18_two_3 6 rfl rfl)
theorem dX18_two_77 : decode cX18_two 77 = .ok (.invokevirtual 43, 3) := dk_182 0 43 (dk_at dksX18_two_3 7 rfl rfl)
theorem dX18_two_80 : decode cX18_two 80 = .ok (.aload_n 0, 1) := dk_42 (dk_at dksX18_two_3 10 rfl rfl)
theorem dX18_two_81 : decode cX18_two 81 = .ok (.invokevirtual 28, 3) := dk_182 0 28 (dk_at dksX18_two_3 11 rfl rfl)
theorem dX18_two_84 : decode cX18_two 84 = .ok (.istore_n 3, 1) := dk_62 (dk_at dksX18_two_3 14 rfl rfl)
theorem dX18_two_85 : decode cX18_two 85 = .ok (.aload_n 0, 1) := dk_42 (dk_at dksX18_two_3 15 rfl rfl)
theorem dX18_two_86 : decode cX18_two 86 = .ok (.invokevirtual 32, 3) := dk_182 0 32 (dk_at dksX18_two_3 16 rfl rfl)
theorem dX18_two_89 : decode cX18_two 89 = .ok (.istore 4, 2) := dk_54 4 (dk_at dksX18_two_3 19 rfl rfl)
theorem dX18_two_91 : decode cX18_two 91 = .ok (.aload_n 0, 1) := dk_42 (dk_at dksX18_two_3 21 rfl rfl)
theorem dX18_two_92 : decode cX18_two 92 = .ok (.invokevirtual 35, 3) := dk_182 0 35 (dk_at dksX18_two_4 0 rfl rfl)
theorem dX18_two_95 : decode cX18_two 95 = .ok (.ifCond .eq 16, 3) := dk_153 0 16 (dk_at dksX18_two_4 3 rfl rfl)
theorem dX18_two_98 : decode cX18_two 98 = .ok (.iload_n 2, 1) := dk_28 (dk_at dksX18_two_4 6 rfl rfl)
theorem dX18_two_99 : decode cX18_two 99 = .ok (.iload 4, 2) := dk_21 4 (dk_at dksX18_two_4 7 rfl rfl)
theorem dX18_two_101 : decode cX18_two 101 = .ok (.if_icmp .ne 10, 3) := dk_160 0 10 (dk_at dksX18_two_4 9 rfl rfl)
theorem dX18_two_104 : decode cX18_two 104 = .ok (.aload_n 0, 1) := dk_42 (dk_at dksX18_two_4 12 rfl rfl)
theorem dX18_two_105 : decode cX18_two 105 = .ok (.bipush 6, 2) := dk_16 6 (dk_at dksX18_two_4 13 rfl rfl)
theorem dX18_two_107 : decode cX18_two 107 = .ok (.iload_n 3, 1) := dk_29 (dk_at dksX18_two_4 15 rfl rfl)
theorem dX18_two_108 : decode cX18_two 108 = .ok (.invokevirtual 43, 3) := dk_182 0 43 (dk_at dksX18_two_4 16 rfl rfl)
theorem dX18_two_111 : decode cX18_two 111 = .ok (.aload_n 0, 1) := dk_42 (dk_at dksX18_two_4 19 rfl rfl)
theorem dX18_two_112 : decode cX18_two 112 = .ok (.invokevirtual 35, 3) := dk_182 0 35 (dk_at dksX18_two_4 20 rfl rfl)
theorem dX18_two_115 : decode cX18_two 115 = .ok (.ifCond .eq 25, 3) := dk_153 0 25 (dk_at dksX18_two_5 0 rfl rfl)
theorem dX18_two_118 : decode cX18_two 118 = .ok (.aload_n 0, 1) := dk_42 (dk_at dksX18_two_5 3 rfl rfl)
theorem dX18_two_119 : decode cX18_two 119 = .ok (.getfield 3, 3) := dk_180 0 3 (dk_at dksX18_two_5 4 rfl rfl)
theorem dX18_two_122 : decode cX18_two 122 = .ok (.getfield 19, 3) := dk_180 0 19 (dk_at dksX18_two_5 7 rfl rfl)
theorem dX18_two_125 : decode cX18_two 125 = .ok (.iload 4, 2) := dk_21 4 (dk_at dksX18_two_5 10 rfl rfl)
theorem dX18_two_127 : decode cX18_two 127 = .ok (.invokevirtual 39, 3) := dk_182 0 39 (dk_at dksX18_two_5 12 rfl rfl)
theorem dX18_two_130 : decode cX18_two 130 = .ok (.ifCond .ne 10, 3) := dk_154 0 10 (dk_at dksX18_two_5 15 rfl rfl)
theorem dX18_two_133 : decode cX18_two 133 = .ok (.aload_n 0, 1) := dk_42 (dk_at dksX18_two_5 18 rfl rfl)
theorem dX18_two_134 : decode cX18_two 134 = .ok (.bipush 7, 2) := dk_16 7 (dk_at dksX18_two_5 19 rfl rfl)
theorem dX18_two_136 : decode cX18_two 136 = .ok (.iload_n 3, 1) := dk_29 (dk_at dksX18_two_5 21 rfl rfl)
theorem dX18_two_137 : decode cX18_two 137 = .ok (.invokevirtual 43, 3) := dk_182 0 43 (dk_at dksX18_two_6 0 rfl rfl)
theorem dX18_two_140 : decode cX18_two 140 = .ok (.aload_n 0, 1) := dk_42 (dk_at dksX18_two_6 3 rfl rfl)
theorem dX18_two_141 : decode cX18_two 141 = .ok (.invokevirtual 35, 3) := dk_182 0 35 (dk_at dksX18_two_6 4 rfl rfl)
theorem dX18_two_144 : decode cX18_two 144 = .ok (.ifCond .eq 42, 3) := dk_153 0 42 (dk_at dksX18_two_6 7 rfl rfl)
theorem dX18_two_147 : decode cX18_two 147 = .ok (.aload_n 0, 1) := dk_42 (dk_at dksX18_two_6 10 rfl rfl)
theorem dX18_two_148 : decode cX18_two 148 = .ok (.getfield 55, 3) := dk_180 0 55 (dk_at dksX18_two_6 11 rfl rfl)
theorem dX18_two_151 : decode cX18_two 151 = .ok (.iload 4, 2) := dk_21 4 (dk_at dksX18_two_6 14 rfl rfl)
theorem dX18_two_153 : decode cX18_two 153 = .ok (.invokestatic 51, 3) := dk_184 0 51 (dk_at dksX18_two_6 16 rfl rfl)
theorem dX18_two_156 : decode cX18_two 156 = .ok (.ifCond .ne 23, 3) := dk_154 0 23 (dk_at dksX18_two_6 19 rfl rfl)
theorem dX18_two_159 : decode cX18_two 159 = .ok (.aload_n 0, 1) := dk_42 (dk_at dksX18_two_6 22 rfl rfl)
theorem dX18_two_160 : decode cX18_two 160 = .ok (.getfield 3, 3) := dk_180 0 3 (dk_at dksX18_two_7 0 rfl rfl)
theorem dX18_two_163 : decode cX18_two 163 = .ok (.getfield 19, 3) := dk_180 0 19 (dk_at dksX18_two_7 3 rfl rfl)
theorem dX18_two_166 : decode cX18_two 166 = .ok (.getfield 58, 3) := dk_180 0 58 (dk_at dksX18_two_7 6 rfl rfl)
theorem dX18_two_169 : decode cX18_two 169 = .ok (.iload_n 2, 1) := dk_28 (dk_at dksX18_two_7 9 rfl rfl)
theorem dX18_two_170 : decode cX18_two 170 = .ok (.iaload, 1) := dk_46 (dk_at dksX18_two_7 10 rfl rfl)
theorem dX18_two_171 : decode cX18_two 171 = .ok (.iload 4, 2) := dk_21 4 (dk_at dksX18_two_7 11 rfl rfl)
theorem dX18_two_173 : decode cX18_two 173 = .ok (.invokestatic 51, 3) := dk_184 0 51 (dk_at dksX18_two_7 13 rfl rfl)
theorem dX18_two_176 : decode cX18_two 176 = .ok (.ifCond .eq 10, 3) := dk_153 0 10 (dk_at dksX18_two_7 16 rfl rfl)
theorem dX18_two_179 : decode cX18_two 179 = .ok (.aload_n 0, 1) := dk_42 (dk_at dksX18_two_7 19 rfl rfl)
theorem dX18_two_180 : decode cX18_two 180 = .ok (.bipush 9, 2) := dk_16 9 (dk_at dksX18_two_7 20 rfl rfl)
theorem dX18_two_182 : decode cX18_two 182 = .ok (.iload_n 3, 1) := dk_29 (dk_at dksX18_two_7 22 rfl rfl)
theorem dX18_two_183 : decode cX18_two 183 = .ok (.invokevirtual 43, 3) := dk_182 0 43 (dk_at dksX18_two_8 0 rfl rfl)
theorem dX18_two_186 : decode cX18_two 186 = .ok (.aload_n 0, 1) := dk_42 (dk_at dksX18_two_8 3 rfl rfl)
theorem dX18_two_187 : decode cX18_two 187 = .ok (.invokevirtual 35, 3) := dk_182 0 35 (dk_at dksX18_two_8 4 rfl rfl)
theorem dX18_two_190 : decode cX18_two 190 = .ok (.ifCond .ne 4, 3) := dk_154 0 4 (dk_at dksX18_two_8 7 rfl rfl)
theorem dX18_two_193 : decode cX18_two 193 = .ok (.return_, 1) := dk_177 (dk_at dksX18_two_8 10 rfl rfl)
theorem dX18_two_194 : decode cX18_two 194 = .ok (.aload_n 0, 1) := dk_42 (dk_at dksX18_two_8 11 rfl rfl)
theorem dX18_two_195 : decode cX18_two 195 = .ok (.dup, 1) := dk_89 (dk_at dksX18_two_8 12 rfl rfl)
theorem dX18_two_196 : decode cX18_two 196 = .ok (.getfield 55, 3) := dk_180 0 55 (dk_at dksX18_two_8 13 rfl rfl)
theorem dX18_two_199 : decode cX18_two 199 = .ok (.iconst 1, 1) := dk_4 (dk_at dksX18_two_8 16 rfl rfl)
theorem dX18_two_200 : decode cX18_two 200 = .ok (.iload_n 2, 1) := dk_28 (dk_at dksX18_two_8 17 rfl rfl)
theorem dX18_two_201 : decode cX18_two 201 = .ok (.ishl, 1) := dk_120 (dk_at dksX18_two_8 18 rfl rfl)
theorem dX18_two_202 : decode cX18_two 202 = .ok (.ior, 1) := dk_128 (dk_at dksX18_two_8 19 rfl rfl)
theorem dX18_two_203 : decode cX18_two 203 = .ok (.putfield 55, 3) := dk_181 0 55 (dk_at dksX18_two_8 20 rfl rfl)
theorem dX18_two_206 : decode cX18_two 206 = .ok (.aload_n 0, 1) := dk_42 (dk_at dksX18_two_8 23 rfl rfl)
theorem dX18_two_207 : decode cX18_two 207 = .ok (.dup, 1) := dk_89 (dk_at dksX18_two_9 0 rfl rfl)
theorem dX18_two_208 : decode cX18_two 208 = .ok (.getfield 61, 3) := dk_180 0 61 (dk_at dksX18_two_9 1 rfl rfl)
theorem dX18_two_211 : decode cX18_two 211 = .ok (.iconst 1, 1) := dk_4 (dk_at dksX18_two_9 4 rfl rfl)
theorem dX18_two_212 : decode cX18_two 212 = .ok (.iadd, 1) := dk_96 (dk_at dksX18_two_9 5 rfl rfl)
theorem dX18_two_213 : decode cX18_two 213 = .ok (.putfield 61, 3) := dk_181 0 61 (dk_at dksX18_two_9 6 rfl rfl)
theorem dX18_two_216 : decode cX18_two 216 = .ok (.aload_n 0, 1) := dk_42 (dk_at dksX18_two_9 9 rfl rfl)
theorem dX18_two_217 : decode cX18_two 217 = .ok (.dup, 1) := dk_89 (dk_at dksX18_two_9 10 rfl rfl)
theorem dX18_two_218 : decode cX18_two 218 = .ok (.getfield 64, 3) := dk_180 0 64 (dk_at dksX18_two_9 11 rfl rfl)
theorem dX18_two_221 : decode cX18_two 221 = .ok (.aload_n 0, 1) := dk_42 (dk_at dksX18_two_9 14 rfl rfl)
theorem dX18_two_222 : decode cX18_two 222 = .ok (.getfield 15, 3) := dk_180 0 15 (dk_at dksX18_two_9 15 rfl rfl)
theorem dX18_two_225 : decode cX18_two 225 = .ok (.iload 4, 2) := dk_21 4 (dk_at dksX18_two_9 18 rfl rfl)
theorem dX18_two_227 : decode cX18_two 227 = .ok (.iaload, 1) := dk_46 (dk_at dksX18_two_9 20 rfl rfl)
theorem dX18_two_228 : decode cX18_two 228 = .ok (.aload_n 0, 1) := dk_42 (dk_at dksX18_two_9 21 rfl rfl)
theorem dX18_two_229 : decode cX18_two 229 = .ok (.getfield 3, 3) := dk_180 0 3 (dk_at dksX18_two_10 0 rfl rfl)
theorem dX18_two_232 : decode cX18_two 232 = .ok (.getfield 19, 3) := dk_180 0 19 (dk_at dksX18_two_10 3 rfl rfl)
theorem dX18_two_235 : decode cX18_two 235 = .ok (.getfield 23, 3) := dk_180 0 23 (dk_at dksX18_two_10 6 rfl rfl)
theorem dX18_two_238 : decode cX18_two 238 = .ok (.iload_n 2, 1) := dk_28 (dk_at dksX18_two_10 9 rfl rfl)
theorem dX18_two_239 : decode cX18_two 239 = .ok (.iaload, 1) := dk_46 (dk_at dksX18_two_10 10 rfl rfl)
theorem dX18_two_240 : decode cX18_two 240 = .ok (.isub, 1) := dk_100 (dk_at dksX18_two_10 11 rfl rfl)
theorem dX18_two_241 : decode cX18_two 241 = .ok (.invokestatic 67, 3) := dk_184 0 67 (dk_at dksX18_two_10 12 rfl rfl)
theorem dX18_two_244 : decode cX18_two 244 = .ok (.iadd, 1) := dk_96 (dk_at dksX18_two_10 15 rfl rfl)
theorem dX18_two_245 : decode cX18_two 245 = .ok (.putfield 64, 3) := dk_181 0 64 (dk_at dksX18_two_10 16 rfl rfl)
theorem dX18_two_248 : decode cX18_two 248 = .ok (.aload_n 0, 1) := dk_42 (dk_at dksX18_two_10 19 rfl rfl)
theorem dX18_two_249 : decode cX18_two 249 = .ok (.getfield 15, 3) := dk_180 0 15 (dk_at dksX18_two_10 20 rfl rfl)
theorem dX18_two_252 : decode cX18_two 252 = .ok (.iload 4, 2) := dk_21 4 (dk_at dksX18_two_11 0 rfl rfl)
theorem dX18_two_254 : decode cX18_two 254 = .ok (.aload_n 0, 1) := dk_42 (dk_at dksX18_two_11 2 rfl rfl)
theorem dX18_two_255 : decode cX18_two 255 = .ok (.getfield 3, 3) := dk_180 0 3 (dk_at dksX18_two_11 3 rfl rfl)
theorem dX18_two_258 : decode cX18_two 258 = .ok (.getfield 19, 3) := dk_180 0 19 (dk_at dksX18_two_11 6 rfl rfl)
theorem dX18_two_261 : decode cX18_two 261 = .ok (.getfield 23, 3) := dk_180 0 23 (dk_at dksX18_two_11 9 rfl rfl)
theorem dX18_two_264 : decode cX18_two 264 = .ok (.iload_n 2, 1) := dk_28 (dk_at dksX18_two_11 12 rfl rfl)
theorem dX18_two_265 : decode cX18_two 265 = .ok (.iaload, 1) := dk_46 (dk_at dksX18_two_11 13 rfl rfl)
theorem dX18_two_266 : decode cX18_two 266 = .ok (.iastore, 1) := dk_79 (dk_at dksX18_two_11 14 rfl rfl)
theorem dX18_two_267 : decode cX18_two 267 = .ok (.return_, 1) := dk_177 (dk_at dksX18_two_11 15 rfl rfl)
theorem q125 : (Jvm.Cond.initialized "AnyKeyTown$Dancer") ∈ lw_all := lw_g (lw_at lw_m1 25 rfl) rfl
theorem q142 : (Jvm.Cond.fieldLinkNest "AnyKeyTown$Dancer" (23 : Nat) "AnyKeyTown$Roll" "houses" "[I" "AnyKeyTown") ∈ lw_tbl := lw_at lw_m1 42 rfl
theorem q147 : (Jvm.Cond.fieldLinkNest "AnyKeyTown$Dancer" (58 : Nat) "AnyKeyTown$Roll" "foes" "[I" "AnyKeyTown") ∈ lw_tbl := lw_at lw_m1 47 rfl
theorem q154 : (Jvm.Cond.fieldLinkNest "AnyKeyTown$Dancer" (47 : Nat) "AnyKeyTown$Roll" "locked" "I" "AnyKeyTown") ∈ lw_tbl := lw_at lw_m1 54 rfl
theorem q290 : (Jvm.Cond.fieldLinkNest "AnyKeyTown$Dancer" (19 : Nat) "AnyKeyTown" "roll" "LAnyKeyTown$Roll;" "AnyKeyTown") ∈ lw_tbl := lw_at lw_m1 190 rfl
theorem q699 : (Jvm.Cond.selects "AnyKeyTown$Dancer" ({ cls := "AnyKeyTown$Scribe", name := "here", desc := "()I" } : Jvm.MethodName) ({ cls := "AnyKeyTown$Scribe", name := "here", desc := "()I" } : Jvm.MethodName)) ∈ lw_all := lw_g (lw_at lw_m3 119 rfl) rfl
theorem q705 : (Jvm.Cond.selects "AnyKeyTown$Dancer" ({ cls := "AnyKeyTown$Scribe", name := "isGood", desc := "()Z" } : Jvm.MethodName) ({ cls := "AnyKeyTown$Scribe", name := "isGood", desc := "()Z" } : Jvm.MethodName)) ∈ lw_all := lw_g (lw_at lw_m3 125 rfl) rfl
theorem q714 : (Jvm.Cond.selects "AnyKeyTown$Dancer" ({ cls := "AnyKeyTown$Scribe", name := "bad", desc := "(II)V" } : Jvm.MethodName) ({ cls := "AnyKeyTown$Scribe", name := "bad", desc := "(II)V" } : Jvm.MethodName)) ∈ lw_all := lw_g (lw_at lw_m3 134 rfl) rfl
theorem q777 : (Jvm.Cond.instantiable "AnyKeyTown$Dancer" (10 : Nat)) ∈ lw_all := lw_g (lw_at lw_m3 197 rfl) rfl
theorem q779 : (Jvm.Cond.instanceMethod ({ cls := "AnyKeyTown$Dancer", name := "<init>", desc := "(LAnyKeyTown;I)V" } : Jvm.MethodName)) ∈ lw_all := lw_g (lw_at lw_m3 199 rfl) rfl
theorem q780 : (Jvm.Cond.code ({ cls := "AnyKeyTown$Dancer", name := "<init>", desc := "(LAnyKeyTown;I)V" } : Jvm.MethodName) prog_6_method_1_code (4 : Nat) (Option.none : Option Jvm.ClassFile.FieldType)) ∈ lw_all := lw_g (lw_at lw_m3 200 rfl) rfl
theorem q781 : (Jvm.Cond.methodLink "AnyKeyTown$Dancer" (9 : Nat) ({ cls := "AnyKeyTown$Scribe", name := "<init>", desc := "(LAnyKeyTown;I)V" } : Jvm.MethodName)) ∈ lw_all := lw_g (lw_at lw_m3 201 rfl) rfl
theorem q782 : (Jvm.Cond.fieldLink "AnyKeyTown$Dancer" (15 : Nat) "AnyKeyTown$Dancer" "at" "[I") ∈ lw_all := lw_g (lw_at lw_m3 202 rfl) rfl
theorem q783 : (Jvm.Cond.fieldLink "AnyKeyTown$Dancer" (55 : Nat) "AnyKeyTown$Dancer" "inside" "I") ∈ lw_all := lw_g (lw_at lw_m3 203 rfl) rfl
theorem q785 : (Jvm.Cond.fieldLink "AnyKeyTown$Dancer" (61 : Nat) "AnyKeyTown$Dancer" "twos" "I") ∈ lw_all := lw_g (lw_at lw_m3 205 rfl) rfl
theorem q786 : (Jvm.Cond.fieldLink "AnyKeyTown$Dancer" (64 : Nat) "AnyKeyTown$Dancer" "steps" "I") ∈ lw_all := lw_g (lw_at lw_m3 206 rfl) rfl
theorem q788 : (Jvm.Cond.fieldLink "AnyKeyTown$Dancer" (3 : Nat) "AnyKeyTown$Dancer" "this$0" "LAnyKeyTown;") ∈ lw_all := lw_g (lw_at lw_m3 208 rfl) rfl
theorem q789 : (Jvm.Cond.laysFinal "AnyKeyTown$Dancer" "AnyKeyTown$Dancer" "at" "[I") ∈ lw_all := lw_g (lw_at lw_m3 209 rfl) rfl
theorem q790 : (Jvm.Cond.soleField "AnyKeyTown$Dancer" "at") ∈ lw_all := lw_g (lw_at lw_m3 210 rfl) rfl
theorem q791 : (Jvm.Cond.lays "AnyKeyTown$Dancer" "AnyKeyTown$Dancer" "inside" "I") ∈ lw_all := lw_g (lw_at lw_m3 211 rfl) rfl
theorem q792 : (Jvm.Cond.soleField "AnyKeyTown$Dancer" "inside") ∈ lw_all := lw_g (lw_at lw_m3 212 rfl) rfl
theorem q793 : (Jvm.Cond.lays "AnyKeyTown$Dancer" "AnyKeyTown$Dancer" "twos" "I") ∈ lw_all := lw_g (lw_at lw_m3 213 rfl) rfl
theorem q794 : (Jvm.Cond.soleField "AnyKeyTown$Dancer" "twos") ∈ lw_all := lw_g (lw_at lw_m3 214 rfl) rfl
theorem q795 : (Jvm.Cond.lays "AnyKeyTown$Dancer" "AnyKeyTown$Dancer" "steps" "I") ∈ lw_all := lw_g (lw_at lw_m3 215 rfl) rfl
theorem q796 : (Jvm.Cond.soleField "AnyKeyTown$Dancer" "steps") ∈ lw_all := lw_g (lw_at lw_m3 216 rfl) rfl
theorem q797 : (Jvm.Cond.laysFinal "AnyKeyTown$Dancer" "AnyKeyTown$Dancer" "this$0" "LAnyKeyTown;") ∈ lw_all := lw_g (lw_at lw_m3 217 rfl) rfl
theorem q798 : (Jvm.Cond.soleField "AnyKeyTown$Dancer" "this$0") ∈ lw_all := lw_g (lw_at lw_m3 218 rfl) rfl
theorem q799 : (Jvm.Cond.laysFinal "AnyKeyTown$Dancer" "AnyKeyTown$Scribe" "n" "I") ∈ lw_all := lw_g (lw_at lw_m3 219 rfl) rfl
theorem q800 : (Jvm.Cond.lays "AnyKeyTown$Dancer" "AnyKeyTown$Scribe" "at" "I") ∈ lw_all := lw_g (lw_at lw_m3 220 rfl) rfl
theorem q801 : (Jvm.Cond.lays "AnyKeyTown$Dancer" "AnyKeyTown$Scribe" "fault" "I") ∈ lw_all := lw_g (lw_at lw_m3 221 rfl) rfl
theorem q802 : (Jvm.Cond.lays "AnyKeyTown$Dancer" "AnyKeyTown$Scribe" "place" "I") ∈ lw_all := lw_g (lw_at lw_m3 222 rfl) rfl
theorem q803 : (Jvm.Cond.laysFinal "AnyKeyTown$Dancer" "AnyKeyTown$Scribe" "this$0" "LAnyKeyTown;") ∈ lw_all := lw_g (lw_at lw_m3 223 rfl) rfl
theorem q804 : (Jvm.Cond.superclass "AnyKeyTown$Dancer" "AnyKeyTown$Scribe") ∈ lw_all := lw_g (lw_at lw_m3 224 rfl) rfl
theorem q806 : (Jvm.Cond.instanceMethod ({ cls := "AnyKeyTown$Dancer", name := "read", desc := "()I" } : Jvm.MethodName)) ∈ lw_all := lw_g (lw_at lw_m3 226 rfl) rfl
theorem q807 : (Jvm.Cond.selects "AnyKeyTown$Dancer" ({ cls := "AnyKeyTown$Dancer", name := "read", desc := "()I" } : Jvm.MethodName) ({ cls := "AnyKeyTown$Dancer", name := "read", desc := "()I" } : Jvm.MethodName)) ∈ lw_all := lw_g (lw_at lw_m3 227 rfl) rfl
theorem q808 : (Jvm.Cond.code ({ cls := "AnyKeyTown$Dancer", name := "read", desc := "()I" } : Jvm.MethodName) prog_6_method_3_code (2 : Nat) (Option.some Jvm.ClassFile.FieldType.int)) ∈ lw_all := lw_g (lw_at lw_m3 228 rfl) rfl
theorem q809 : (Jvm.Cond.methodLink "AnyKeyTown$Dancer" (73 : Nat) ({ cls := "AnyKeyTown$Dancer", name := "two", desc := "()V" } : Jvm.MethodName)) ∈ lw_all := lw_g (lw_at lw_m3 229 rfl) rfl
theorem q810 : (Jvm.Cond.privateMethod ({ cls := "AnyKeyTown$Dancer", name := "two", desc := "()V" } : Jvm.MethodName)) ∈ lw_tbl := lw_at lw_m3 230 rfl
theorem q811 : (Jvm.Cond.instanceMethod ({ cls := "AnyKeyTown$Dancer", name := "two", desc := "()V" } : Jvm.MethodName)) ∈ lw_all := lw_g (lw_at lw_m3 231 rfl) rfl
theorem q812 : (Jvm.Cond.code ({ cls := "AnyKeyTown$Dancer", name := "two", desc := "()V" } : Jvm.MethodName) prog_6_method_2_code (5 : Nat) (Option.none : Option Jvm.ClassFile.FieldType)) ∈ lw_all := lw_g (lw_at lw_m3 232 rfl) rfl
theorem q813 : (Jvm.Cond.methodLink "AnyKeyTown$Dancer" (28 : Nat) ({ cls := "AnyKeyTown$Dancer", name := "place", desc := "()I" } : Jvm.MethodName)) ∈ lw_all := lw_g (lw_at lw_m3 233 rfl) rfl
theorem q814 : (Jvm.Cond.sameMethod "AnyKeyTown$Dancer" "AnyKeyTown$Scribe" "place" "()I") ∈ lw_all := lw_g (lw_at lw_m3 234 rfl) rfl
theorem q815 : (Jvm.Cond.selects "AnyKeyTown$Dancer" ({ cls := "AnyKeyTown$Dancer", name := "place", desc := "()I" } : Jvm.MethodName) ({ cls := "AnyKeyTown$Scribe", name := "place", desc := "()I" } : Jvm.MethodName)) ∈ lw_all := lw_g (lw_at lw_m3 235 rfl) rfl
theorem q816 : (Jvm.Cond.methodLink "AnyKeyTown$Dancer" (32 : Nat) ({ cls := "AnyKeyTown$Dancer", name := "person", desc := "()I" } : Jvm.MethodName)) ∈ lw_all := lw_g (lw_at lw_m3 236 rfl) rfl
theorem q817 : (Jvm.Cond.sameMethod "AnyKeyTown$Dancer" "AnyKeyTown$Scribe" "person" "()I") ∈ lw_all := lw_g (lw_at lw_m3 237 rfl) rfl
theorem q818 : (Jvm.Cond.selects "AnyKeyTown$Dancer" ({ cls := "AnyKeyTown$Dancer", name := "person", desc := "()I" } : Jvm.MethodName) ({ cls := "AnyKeyTown$Scribe", name := "person", desc := "()I" } : Jvm.MethodName)) ∈ lw_all := lw_g (lw_at lw_m3 238 rfl) rfl
theorem q819 : (Jvm.Cond.methodLink "AnyKeyTown$Dancer" (35 : Nat) ({ cls := "AnyKeyTown$Dancer", name := "isGood", desc := "()Z" } : Jvm.MethodName)) ∈ lw_all := lw_g (lw_at lw_m3 239 rfl) rfl
theorem q820 : (Jvm.Cond.sameMethod "AnyKeyTown$Dancer" "AnyKeyTown$Scribe" "isGood" "()Z") ∈ lw_all := lw_g (lw_at lw_m4 0 rfl) rfl
theorem q821 : (Jvm.Cond.selects "AnyKeyTown$Dancer" ({ cls := "AnyKeyTown$Dancer", name := "isGood", desc := "()Z" } : Jvm.MethodName) ({ cls := "AnyKeyTown$Scribe", name := "isGood", desc := "()Z" } : Jvm.MethodName)) ∈ lw_all := lw_g (lw_at lw_m4 1 rfl) rfl
theorem q822 : (Jvm.Cond.methodLink "AnyKeyTown$Dancer" (39 : Nat) ({ cls := "AnyKeyTown$Roll", name := "isTold", desc := "(I)Z" } : Jvm.MethodName)) ∈ lw_all := lw_g (lw_at lw_m4 2 rfl) rfl
theorem q823 : (Jvm.Cond.methodLink "AnyKeyTown$Dancer" (43 : Nat) ({ cls := "AnyKeyTown$Dancer", name := "bad", desc := "(II)V" } : Jvm.MethodName)) ∈ lw_all := lw_g (lw_at lw_m4 3 rfl) rfl
theorem q824 : (Jvm.Cond.sameMethod "AnyKeyTown$Dancer" "AnyKeyTown$Scribe" "bad" "(II)V") ∈ lw_all := lw_g (lw_at lw_m4 4 rfl) rfl
theorem q825 : (Jvm.Cond.selects "AnyKeyTown$Dancer" ({ cls := "AnyKeyTown$Dancer", name := "bad", desc := "(II)V" } : Jvm.MethodName) ({ cls := "AnyKeyTown$Scribe", name := "bad", desc := "(II)V" } : Jvm.MethodName)) ∈ lw_all := lw_g (lw_at lw_m4 5 rfl) rfl
theorem q826 : (Jvm.Cond.methodLinkNest "AnyKeyTown$Dancer" (51 : Nat) ({ cls := "AnyKeyTown", name := "has", desc := "(II)Z" } : Jvm.MethodName) "AnyKeyTown") ∈ lw_tbl := lw_at lw_m4 6 rfl
theorem q829 : (Jvm.Cond.methodLink "AnyKeyTown$Dancer" (67 : Nat) ({ cls := "java/lang/Math", name := "abs", desc := "(I)I" } : Jvm.MethodName)) ∈ lw_all := lw_g (lw_at lw_m4 9 rfl) rfl
theorem q832 : (Jvm.Cond.methodLink "AnyKeyTown$Dancer" (77 : Nat) ({ cls := "AnyKeyTown$Dancer", name := "isEnd", desc := "()Z" } : Jvm.MethodName)) ∈ lw_all := lw_g (lw_at lw_m4 12 rfl) rfl
theorem q833 : (Jvm.Cond.sameMethod "AnyKeyTown$Dancer" "AnyKeyTown$Scribe" "isEnd" "()Z") ∈ lw_all := lw_g (lw_at lw_m4 13 rfl) rfl
theorem q834 : (Jvm.Cond.selects "AnyKeyTown$Dancer" ({ cls := "AnyKeyTown$Dancer", name := "isEnd", desc := "()Z" } : Jvm.MethodName) ({ cls := "AnyKeyTown$Scribe", name := "isEnd", desc := "()Z" } : Jvm.MethodName)) ∈ lw_all := lw_g (lw_at lw_m4 14 rfl) rfl
theorem q835 : (Jvm.Cond.methodLink "AnyKeyTown$Dancer" (80 : Nat) ({ cls := "AnyKeyTown$Dancer", name := "answer", desc := "(I)I" } : Jvm.MethodName)) ∈ lw_all := lw_g (lw_at lw_m4 15 rfl) rfl
theorem q836 : (Jvm.Cond.sameMethod "AnyKeyTown$Dancer" "AnyKeyTown$Scribe" "answer" "(I)I") ∈ lw_all := lw_g (lw_at lw_m4 16 rfl) rfl
theorem q837 : (Jvm.Cond.selects "AnyKeyTown$Dancer" ({ cls := "AnyKeyTown$Dancer", name := "answer", desc := "(I)I" } : Jvm.MethodName) ({ cls := "AnyKeyTown$Scribe", name := "answer", desc := "(I)I" } : Jvm.MethodName)) ∈ lw_all := lw_g (lw_at lw_m4 17 rfl) rfl
theorem in_X18 : ∀ w ∈ wsX180, w ∈ lw_all := lw_in wsX180 [799, 800, 801, 802, 803, 789, 791, 793, 795, 797] (by decide +kernel) (by decide +kernel)
