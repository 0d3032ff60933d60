/-! AnyKeyTownModel -/
set_option maxRecDepth 100000
def RX6 : String := "AnyKeyTownModel"
def TX6 : u_T := fun k => match k with
  | 0 => ("AnyKeyTownModel", "now", "[I", true)
  | 1 => ("AnyKeyTownModel", "aside", "[I", true)
  | 2 => ("AnyKeyTownModel", "kept", "[I", true)
  | 3 => ("AnyKeyTownModel", "houseOf", "[I", true)
  | 4 => ("AnyKeyTownModel", "foesOf", "[I", true)
  | 5 => ("AnyKeyTownModel", "wasHouse", "[I", true)
  | 6 => ("AnyKeyTownModel", "wasFoes", "[I", true)
  | 7 => ("AnyKeyTownModel", "toldSet", "I", false)
  | 8 => ("AnyKeyTownModel", "lockSet", "I", false)
  | 9 => ("AnyKeyTownModel", "wasTold", "I", false)
  | 10 => ("AnyKeyTownModel", "wasLock", "I", false)
  | 11 => ("AnyKeyTownModel", "tape", "[B", true)
  | 12 => ("AnyKeyTownModel", "taped", "I", false)
  | 13 => ("AnyKeyTownModel", "place0", "I", false)
  | 14 => ("AnyKeyTownModel", "length0", "I", false)
  | 15 => ("AnyKeyTownModel", "fault", "I", false)
  | 16 => ("AnyKeyTownModel", "number0", "I", false)
  | 17 => ("AnyKeyTownModel", "open", "I", false)
  | 18 => ("AnyKeyTownModel", "codeMany", "I", false)
  | 19 => ("AnyKeyTownModel", "waiting", "I", false)
  | 20 => ("AnyKeyTownModel", "saidMany", "I", false)
  | 21 => ("AnyKeyTownModel", "clauses", "I", false)
  | 22 => ("AnyKeyTownModel", "said", "[I", true)
  | 23 => ("AnyKeyTownModel", "waitsAt", "[I", true)
  | 24 => ("AnyKeyTownModel", "saidLetter", "[I", true)
  | 25 => ("AnyKeyTownModel", "saidFrom", "[I", true)
  | 26 => ("AnyKeyTownModel", "saidHalf", "[I", true)
  | 27 => ("AnyKeyTownModel", "saidTo", "[I", true)
  | 28 => ("AnyKeyTownModel", "codes", "[I", true)
  | 29 => ("AnyKeyTownModel", "clauseOf", "[I", true)
  | 30 => ("AnyKeyTownModel", "codeFrom", "[I", true)
  | 31 => ("AnyKeyTownModel", "codeHalf", "[I", true)
  | 32 => ("AnyKeyTownModel", "codeTo", "[I", true)
  | 33 => ("AnyKeyTownModel", "stack", "[I", true)
  | 34 => ("AnyKeyTownModel", "facts", "[I", true)
  | 35 => ("AnyKeyTownModel", "lines", "I", false)
  | 36 => ("AnyKeyTownModel", "standsAt", "[I", true)
  | 37 => ("AnyKeyTownModel", "inNow", "I", false)
  | 38 => ("AnyKeyTownModel", "dancesNow", "I", false)
  | 39 => ("AnyKeyTownModel", "stepsNow", "I", false)
  | 40 => ("AnyKeyTownModel", "drawnBy", "[I", true)
  | 41 => ("AnyKeyTownModel", "outNow", "I", false)
  | 42 => ("AnyKeyTownModel", "opensNow", "I", false)
  | 43 => ("AnyKeyTownModel", "letsNow", "I", false)
  | 44 => ("AnyKeyTownModel", "bedNow", "I", false)
  | 45 => ("AnyKeyTownModel", "waysOf", "[J", true)
  | 46 => ("AnyKeyTownModel", "partyOf", "[I", true)
  | 47 => ("AnyKeyTownModel", "endsOf", "[I", true)
  | 48 => ("AnyKeyTownModel", "pairedBy", "[I", true)
  | 49 => ("AnyKeyTownModel", "memberOf", "[I", true)
  | 50 => ("AnyKeyTownModel", "minuteOf", "[I", true)
  | _ => ("AnyKeyTownModel", "isKept", "Z", false)
def tyX6 : Nat → FieldType := fun k => match k with
  | 0 => .array .int
  | 1 => .array .int
  | 2 => .array .int
  | 3 => .array .int
  | 4 => .array .int
  | 5 => .array .int
  | 6 => .array .int
  | 7 => .int
  | 8 => .int
  | 9 => .int
  | 10 => .int
  | 11 => .array .byte
  | 12 => .int
  | 13 => .int
  | 14 => .int
  | 15 => .int
  | 16 => .int
  | 17 => .int
  | 18 => .int
  | 19 => .int
  | 20 => .int
  | 21 => .int
  | 22 => .array .int
  | 23 => .array .int
  | 24 => .array .int
  | 25 => .array .int
  | 26 => .array .int
  | 27 => .array .int
  | 28 => .array .int
  | 29 => .array .int
  | 30 => .array .int
  | 31 => .array .int
  | 32 => .array .int
  | 33 => .array .int
  | 34 => .array .int
  | 35 => .int
  | 36 => .array .int
  | 37 => .int
  | 38 => .int
  | 39 => .int
  | 40 => .array .int
  | 41 => .int
  | 42 => .int
  | 43 => .int
  | 44 => .int
  | 45 => .array .long
  | 46 => .array .int
  | 47 => .array .int
  | 48 => .array .int
  | 49 => .array .int
  | 50 => .array .int
  | _ => .boolean
abbrev wsX60 : List Cond := u_ws RX6 TX6 52
set_option maxRecDepth 100000 in
theorem nmX6 : ∀ a, a < 52 → ∀ b, b < 52 → a ≠ b → (TX6 a).2.1 ≠ (TX6 b).2.1 := by decide +kernel
set_option maxRecDepth 100000 in
theorem tyX6_ok : ∀ k, k < 52 → parseFieldDescriptor (TX6 k).2.2.1 = some (tyX6 k) := by decide +kernel
abbrev cX6_init : ByteArray := prog_20_method_1_code
def yX6_init : MethodName := ⟨RX6, "<init>", "()V"⟩
def dkwX6_init_10 : List UInt8 := [181, 0, 94, 42, 17, 8, 0, 188, 10, 181, 0, 97, 42, 180, 0, 7, 17, 1, 17, 4, 79, 177]
abbrev dktX6_init_10 : List UInt8 := dkwX6_init_10 ++ []
def dkwX6_init_9 : List UInt8 := [42, 18, 80, 188, 10, 181, 0, 88, 42, 17, 1, 0, 188, 10, 181, 0, 91, 42, 16, 8, 188, 10]
abbrev dktX6_init_9 : List UInt8 := dkwX6_init_9 ++ dktX6_init_10
def dkwX6_init_8 : List UInt8 := [42, 16, 16, 188, 10, 181, 0, 77, 42, 18, 80, 188, 11, 181, 0, 81, 42, 16, 16, 188, 10, 181, 0, 85]
abbrev dktX6_init_8 : List UInt8 := dkwX6_init_8 ++ dktX6_init_9
def dkwX6_init_7 : List UInt8 := [17, 1, 4, 188, 10, 181, 0, 68, 42, 16, 10, 188, 10, 181, 0, 71, 42, 16, 16, 188, 10, 181, 0, 74]
abbrev dktX6_init_7 : List UInt8 := dkwX6_init_7 ++ dktX6_init_8
def dkwX6_init_6 : List UInt8 := [16, 16, 188, 10, 181, 0, 59, 42, 16, 16, 188, 10, 181, 0, 62, 42, 16, 16, 188, 10, 181, 0, 65, 42]
abbrev dktX6_init_6 : List UInt8 := dkwX6_init_6 ++ dktX6_init_7
def dkwX6_init_5 : List UInt8 := [188, 10, 181, 0, 50, 42, 17, 1, 4, 188, 10, 181, 0, 53, 42, 16, 16, 188, 10, 181, 0, 56, 42]
abbrev dktX6_init_5 : List UInt8 := dkwX6_init_5 ++ dktX6_init_6
def dkwX6_init_4 : List UInt8 := [188, 10, 181, 0, 41, 42, 16, 16, 188, 10, 181, 0, 44, 42, 16, 16, 188, 10, 181, 0, 47, 42, 16, 16]
abbrev dktX6_init_4 : List UInt8 := dkwX6_init_4 ++ dktX6_init_5
def dkwX6_init_3 : List UInt8 := [181, 0, 31, 42, 17, 1, 4, 188, 10, 181, 0, 35, 42, 17, 1, 4, 188, 10, 181, 0, 38, 42, 16, 16]
abbrev dktX6_init_3 : List UInt8 := dkwX6_init_3 ++ dktX6_init_4
def dkwX6_init_2 : List UInt8 := [42, 16, 16, 188, 10, 181, 0, 25, 42, 16, 16, 188, 10, 181, 0, 28, 42, 17, 1, 4, 188, 8]
abbrev dktX6_init_2 : List UInt8 := dkwX6_init_2 ++ dktX6_init_3
def dkwX6_init_1 : List UInt8 := [17, 1, 18, 188, 10, 181, 0, 16, 42, 16, 16, 188, 10, 181, 0, 19, 42, 16, 16, 188, 10, 181, 0, 22]
abbrev dktX6_init_1 : List UInt8 := dkwX6_init_1 ++ dktX6_init_2
def dkwX6_init_0 : List UInt8 := [42, 183, 0, 1, 42, 17, 1, 18, 188, 10, 181, 0, 7, 42, 17, 1, 18, 188, 10, 181, 0, 13, 42]
abbrev dktX6_init_0 : List UInt8 := dkwX6_init_0 ++ dktX6_init_1
theorem dksX6_init_0 : cX6_init.data.toList.drop 0 = dktX6_init_0 := by decide +kernel
theorem dksX6_init_1 : cX6_init.data.toList.drop 23 = dktX6_init_1 := dk_seg dksX6_init_0 23 rfl rfl
theorem dksX6_init_2 : cX6_init.data.toList.drop 47 = dktX6_init_2 := dk_seg dksX6_init_1 24 rfl rfl
theorem dksX6_init_3 : cX6_init.data.toList.drop 69 = dktX6_init_3 := dk_seg dksX6_init_2 22 rfl rfl
theorem dksX6_init_4 : cX6_init.data.toList.drop 93 = dktX6_init_4 := dk_seg dksX6_init_3 24 rfl rfl
theorem dksX6_init_5 : cX6_init.data.toList.drop 117 = dktX6_init_5 := dk_seg dksX6_init_4 24 rfl rfl
theorem dksX6_init_6 : cX6_init.data.toList.drop 140 = dktX6_init_6 := dk_seg dksX6_init_5 23 rfl rfl
theorem dksX6_init_7 : cX6_init.data.toList.drop 164 = dktX6_init_7 := dk_seg dksX6_init_6 24 rfl rfl
theorem dksX6_init_8 : cX6_init.data.toList.drop 188 = dktX6_init_8 := dk_seg dksX6_init_7 24 rfl rfl
theorem dksX6_init_9 : cX6_init.data.toList.drop 212 = dktX6_init_9 := dk_seg dksX6_init_8 24 rfl rfl
theorem dksX6_init_10 : cX6_init.data.toList.drop 234 = dktX6_init_10 := dk_seg dksX6_init_9 22 rfl rfl
theorem dX6_init_0 : decode cX6_init 0 = .ok (.aload_n 0, 1) := dk_42 (dk_at dksX6_init_0 0 rfl rfl)
theorem dX6_init_1 : decode cX6_init 1 = .ok (.invokespecial 1, 3) := dk_183 0 1 (dk_at dksX6_init_0 1 rfl rfl)
theorem dX6_init_4 : decode cX6_init 4 = .ok (.aload_n 0, 1) := dk_42 (dk_at dksX6_init_0 4 rfl rfl)
theorem dX6_init_5 : decode cX6_init 5 = .ok (.sipush 274, 3) := dk_17 1 18 (dk_at dksX6_init_0 5 rfl rfl)
theorem dX6_init_8 : decode cX6_init 8 = .ok (.newarray .int, 2) := dk_188_10 (dk_at dksX6_init_0 8 rfl rfl)
theorem dX6_init_10 : decode cX6_init 10 = .ok (.putfield 7, 3) := dk_181 0 7 (dk_at dksX6_init_0 10 rfl rfl)
theorem dX6_init_13 : decode cX6_init 13 = .ok (.aload_n 0, 1) := dk_42 (dk_at dksX6_init_0 13 rfl rfl)
theorem dX6_init_14 : decode cX6_init 14 = .ok (.sipush 274, 3) := dk_17 1 18 (dk_at dksX6_init_0 14 rfl rfl)
theorem dX6_init_17 : decode cX6_init 17 = .ok (.newarray .int, 2) := dk_188_10 (dk_at dksX6_init_0 17 rfl rfl)
theorem dX6_init_19 : decode cX6_init 19 = .ok (.putfield 13, 3) := dk_181 0 13 (dk_at dksX6_init_0 19 rfl rfl)
theorem dX6_init_22 : decode cX6_init 22 = .ok (.aload_n 0, 1) := dk_42 (dk_at dksX6_init_0 22 rfl rfl)
theorem dX6_init_23 : decode cX6_init 23 = .ok (.sipush 274, 3) := dk_17 1 18 (dk_at dksX6_init_1 0 rfl rfl)
theorem dX6_init_26 : decode cX6_init 26 = .ok (.newarray .int, 2) := dk_188_10 (dk_at dksX6_init_1 3 rfl rfl)
theorem dX6_init_28 : decode cX6_init 28 = .ok (.putfield 16, 3) := dk_181 0 16 (dk_at dksX6_init_1 5 rfl rfl)
theorem dX6_init_31 : decode cX6_init 31 = .ok (.aload_n 0, 1) := dk_42 (dk_at dksX6_init_1 8 rfl rfl)
theorem dX6_init_32 : decode cX6_init 32 = .ok (.bipush 16, 2) := dk_16 16 (dk_at dksX6_init_1 9 rfl rfl)
theorem dX6_init_34 : decode cX6_init 34 = .ok (.newarray .int, 2) := dk_188_10 (dk_at dksX6_init_1 11 rfl rfl)
theorem dX6_init_36 : decode cX6_init 36 = .ok (.putfield 19, 3) := dk_181 0 19 (dk_at dksX6_init_1 13 rfl rfl)
theorem dX6_init_39 : decode cX6_init 39 = .ok (.aload_n 0, 1) := dk_42 (dk_at dksX6_init_1 16 rfl rfl)
theorem dX6_init_40 : decode cX6_init 40 = .ok (.bipush 16, 2) := dk_16 16 (dk_at dksX6_init_1 17 rfl rfl)
theorem dX6_init_42 : decode cX6_init 42 = .ok (.newarray .int, 2) := dk_188_10 (dk_at dksX6_init_1 19 rfl rfl)
theorem dX6_init_44 : decode cX6_init 44 = .ok (.putfield 22, 3) := dk_181 0 22 (dk_at dksX6_init_1 21 rfl rfl)
theorem dX6_init_47 : decode cX6_init 47 = .ok (.aload_n 0, 1) := dk_42 (dk_at dksX6_init_2 0 rfl rfl)
theorem dX6_init_48 : decode cX6_init 48 = .ok (.bipush 16, 2) := dk_16 16 (dk_at dksX6_init_2 1 rfl rfl)
theorem dX6_init_50 : decode cX6_init 50 = .ok (.newarray .int, 2) := dk_188_10 (dk_at dksX6_init_2 3 rfl rfl)
theorem dX6_init_52 : decode cX6_init 52 = .ok (.putfield 25, 3) := dk_181 0 25 (dk_at dksX6_init_2 5 rfl rfl)
theorem dX6_init_55 : decode cX6_init 55 = .ok (.aload_n 0, 1) := dk_42 (dk_at dksX6_init_2 8 rfl rfl)
theorem dX6_init_56 : decode cX6_init 56 = .ok (.bipush 16, 2) := dk_16 16 (dk_at dksX6_init_2 9 rfl rfl)
theorem dX6_init_58 : decode cX6_init 58 = .ok (.newarray .int, 2) := dk_188_10 (dk_at dksX6_init_2 11 rfl rfl)
theorem dX6_init_60 : decode cX6_init 60 = .ok (.putfield 28, 3) := dk_181 0 28 (dk_at dksX6_init_2 13 rfl rfl)
theorem dX6_init_63 : decode cX6_init 63 = .ok (.aload_n 0, 1) := dk_42 (dk_at dksX6_init_2 16 rfl rfl)
theorem dX6_init_64 : decode cX6_init 64 = .ok (.sipush 260, 3) := dk_17 1 4 (dk_at dksX6_init_2 17 rfl rfl)
theorem dX6_init_67 : decode cX6_init 67 = .ok (.newarray .byte, 2) := dk_188_8 (dk_at dksX6_init_2 20 rfl rfl)
theorem dX6_init_69 : decode cX6_init 69 = .ok (.putfield 31, 3) := dk_181 0 31 (dk_at dksX6_init_3 0 rfl rfl)
theorem dX6_init_72 : decode cX6_init 72 = .ok (.aload_n 0, 1) := dk_42 (dk_at dksX6_init_3 3 rfl rfl)
theorem dX6_init_73 : decode cX6_init 73 = .ok (.sipush 260, 3) := dk_17 1 4 (dk_at dksX6_init_3 4 rfl rfl)
theorem dX6_init_76 : decode cX6_init 76 = .ok (.newarray .int, 2) := dk_188_10 (dk_at dksX6_init_3 7 rfl rfl)
theorem dX6_init_78 : decode cX6_init 78 = .ok (.putfield 35, 3) := dk_181 0 35 (dk_at dksX6_init_3 9 rfl rfl)
theorem dX6_init_81 : decode cX6_init 81 = .ok (.aload_n 0, 1) := dk_42 (dk_at dksX6_init_3 12 rfl rfl)
theorem dX6_init_82 : decode cX6_init 82 = .ok (.sipush 260, 3) := dk_17 1 4 (dk_at dksX6_init_3 13 rfl rfl)
theorem dX6_init_85 : decode cX6_init 85 = .ok (.newarray .int, 2) := dk_188_10 (dk_at dksX6_init_3 16 rfl rfl)
theorem dX6_init_87 : decode cX6_init 87 = .ok (.putfield 38, 3) := dk_181 0 38 (dk_at dksX6_init_3 18 rfl rfl)
theorem dX6_init_90 : decode cX6_init 90 = .ok (.aload_n 0, 1) := dk_42 (dk_at dksX6_init_3 21 rfl rfl)
theorem dX6_init_91 : decode cX6_init 91 = .ok (.bipush 16, 2) := dk_16 16 (dk_at dksX6_init_3 22 rfl rfl)
theorem dX6_init_93 : decode cX6_init 93 = .ok (.newarray .int, 2) := dk_188_10 (dk_at dksX6_init_4 0 rfl rfl)
theorem dX6_init_95 : decode cX6_init 95 = .ok (.putfield 41, 3) := dk_181 0 41 (dk_at dksX6_init_4 2 rfl rfl)
theorem dX6_init_98 : decode cX6_init 98 = .ok (.aload_n 0, 1) := dk_42 (dk_at dksX6_init_4 5 rfl rfl)
theorem dX6_init_99 : decode cX6_init 99 = .ok (.bipush 16, 2) := dk_16 16 (dk_at dksX6_init_4 6 rfl rfl)
theorem dX6_init_101 : decode cX6_init 101 = .ok (.newarray .int, 2) := dk_188_10 (dk_at dksX6_init_4 8 rfl rfl)
theorem dX6_init_103 : decode cX6_init 103 = .ok (.putfield 44, 3) := dk_181 0 44 (dk_at dksX6_init_4 10 rfl rfl)
theorem dX6_init_106 : decode cX6_init 106 = .ok (.aload_n 0, 1) := dk_42 (dk_at dksX6_init_4 13 rfl rfl)
theorem dX6_init_107 : decode cX6_init 107 = .ok (.bipush 16, 2) := dk_16 16 (dk_at dksX6_init_4 14 rfl rfl)
theorem dX6_init_109 : decode cX6_init 109 = .ok (.newarray .int, 2) := dk_188_10 (dk_at dksX6_init_4 16 rfl rfl)
theorem dX6_init_111 : decode cX6_init 111 = .ok (.putfield 47, 3) := dk_181 0 47 (dk_at dksX6_init_4 18 rfl rfl)
theorem dX6_init_114 : decode cX6_init 114 = .ok (.aload_n 0, 1) := dk_42 (dk_at dksX6_init_4 21 rfl rfl)
theorem dX6_init_115 : decode cX6_init 115 = .ok (.bipush 16, 2) := dk_16 16 (dk_at dksX6_init_4 22 rfl rfl)
theorem dX6_init_117 : decode cX6_init 117 = .ok (.newarray .int, 2) := dk_188_10 (dk_at dksX6_init_5 0 rfl rfl)
theorem dX6_init_119 : decode cX6_init 119 = .ok (.putfield 50, 3) := dk_181 0 50 (dk_at dksX6_init_5 2 rfl rfl)
theorem dX6_init_122 : decode cX6_init 122 = .ok (.aload_n 0, 1) := dk_42 (dk_at dksX6_init_5 5 rfl rfl)
theorem dX6_init_123 : decode cX6_init 123 = .ok (.sipush 260, 3) := dk_17 1 4 (dk_at dksX6_init_5 6 rfl rfl)
theorem dX6_init_126 : decode cX6_init 126 = .ok (.newarray .int, 2) := dk_188_10 (dk_at dksX6_init_5 9 rfl rfl)
theorem dX6_init_128 : decode cX6_init 128 = .ok (.putfield 53, 3) := dk_181 0 53 (dk_at dksX6_init_5 11 rfl rfl)
theorem dX6_init_131 : decode cX6_init 131 = .ok (.aload_n 0, 1) := dk_42 (dk_at dksX6_init_5 14 rfl rfl)
theorem dX6_init_132 : decode cX6_init 132 = .ok (.bipush 16, 2) := dk_16 16 (dk_at dksX6_init_5 15 rfl rfl)
theorem dX6_init_134 : decode cX6_init 134 = .ok (.newarray .int, 2) := dk_188_10 (dk_at dksX6_init_5 17 rfl rfl)
theorem dX6_init_136 : decode cX6_init 136 = .ok (.putfield 56, 3) := dk_181 0 56 (dk_at dksX6_init_5 19 rfl rfl)
theorem dX6_init_139 : decode cX6_init 139 = .ok (.aload_n 0, 1) := dk_42 (dk_at dksX6_init_5 22 rfl rfl)
theorem dX6_init_140 : decode cX6_init 140 = .ok (.bipush 16, 2) := dk_16 16 (dk_at dksX6_init_6 0 rfl rfl)
theorem dX6_init_142 : decode cX6_init 142 = .ok (.newarray .int, 2) := dk_188_10 (dk_at dksX6_init_6 2 rfl rfl)
theorem dX6_init_144 : decode cX6_init 144 = .ok (.putfield 59, 3) := dk_181 0 59 (dk_at dksX6_init_6 4 rfl rfl)
theorem dX6_init_147 : decode cX6_init 147 = .ok (.aload_n 0, 1) := dk_42 (dk_at dksX6_init_6 7 rfl rfl)
theorem dX6_init_148 : decode cX6_init 148 = .ok (.bipush 16, 2) := dk_16 16 (dk_at dksX6_init_6 8 rfl rfl)
theorem dX6_init_150 : decode cX6_init 150 = .ok (.newarray .int, 2) := dk_188_10 (dk_at dksX6_init_6 10 rfl rfl)
theorem dX6_init_152 : decode cX6_init 152 = .ok (.putfield 62, 3) := dk_181 0 62 (dk_at dksX6_init_6 12 rfl rfl)
theorem dX6_init_155 : decode cX6_init 155 = .ok (.aload_n 0, 1) := dk_42 (dk_at dksX6_init_6 15 rfl rfl)
theorem dX6_init_156 : decode cX6_init 156 = .ok (.bipush 16, 2) := dk_16 16 (dk_at dksX6_init_6 16 rfl rfl)
theorem dX6_init_158 : decode cX6_init 158 = .ok (.newarray .int, 2) := dk_188_10 (dk_at dksX6_init_6 18 rfl rfl)
theorem dX6_init_160 : decode cX6_init 160 = .ok (.putfield 65, 3) := dk_181 0 65 (dk_at dksX6_init_6 20 rfl rfl)
theorem dX6_init_163 : decode cX6_init 163 = .ok (.aload_n 0, 1) := dk_42 (dk_at dksX6_init_6 23 rfl rfl)
theorem dX6_init_164 : decode cX6_init 164 = .ok (.sipush 260, 3) := dk_17 1 4 (dk_at dksX6_init_7 0 rfl rfl)
theorem dX6_init_167 : decode cX6_init 167 = .ok (.newarray .int, 2) := dk_188_10 (dk_at dksX6_init_7 3 rfl rfl)
theorem dX6_init_169 : decode cX6_init 169 = .ok (.putfield 68, 3) := dk_181 0 68 (dk_at dksX6_init_7 5 rfl rfl)
theorem dX6_init_172 : decode cX6_init 172 = .ok (.aload_n 0, 1) := dk_42 (dk_at dksX6_init_7 8 rfl rfl)
theorem dX6_init_173 : decode cX6_init 173 = .ok (.bipush 10, 2) := dk_16 10 (dk_at dksX6_init_7 9 rfl rfl)
theorem dX6_init_175 : decode cX6_init 175 = .ok (.newarray .int, 2) := dk_188_10 (dk_at dksX6_init_7 11 rfl rfl)
theorem dX6_init_177 : decode cX6_init 177 = .ok (.putfield 71, 3) := dk_181 0 71 (dk_at dksX6_init_7 13 rfl rfl)
theorem dX6_init_180 : decode cX6_init 180 = .ok (.aload_n 0, 1) := dk_42 (dk_at dksX6_init_7 16 rfl rfl)
theorem dX6_init_181 : decode cX6_init 181 = .ok (.bipush 16, 2) := dk_16 16 (dk_at dksX6_init_7 17 rfl rfl)
theorem dX6_init_183 : decode cX6_init 183 = .ok (.newarray .int, 2) := dk_188_10 (dk_at dksX6_init_7 19 rfl rfl)
theorem dX6_init_185 : decode cX6_init 185 = .ok (.putfield 74, 3) := dk_181 0 74 (dk_at dksX6_init_7 21 rfl rfl)
theorem dX6_init_188 : decode cX6_init 188 = .ok (.aload_n 0, 1) := dk_42 (dk_at dksX6_init_8 0 rfl rfl)
theorem dX6_init_189 : decode cX6_init 189 = .ok (.bipush 16, 2) := dk_16 16 (dk_at dksX6_init_8 1 rfl rfl)
theorem dX6_init_191 : decode cX6_init 191 = .ok (.newarray .int, 2) := dk_188_10 (dk_at dksX6_init_8 3 rfl rfl)
theorem dX6_init_193 : decode cX6_init 193 = .ok (.putfield 77, 3) := dk_181 0 77 (dk_at dksX6_init_8 5 rfl rfl)
theorem dX6_init_196 : decode cX6_init 196 = .ok (.aload_n 0, 1) := dk_42 (dk_at dksX6_init_8 8 rfl rfl)
theorem dX6_init_197 : decode cX6_init 197 = .ok (.ldc 80, 2) := dk_18 80 (dk_at dksX6_init_8 9 rfl rfl)
theorem dX6_init_199 : decode cX6_init 199 = .ok (.newarray .long, 2) := dk_188_11 (dk_at dksX6_init_8 11 rfl rfl)
theorem dX6_init_201 : decode cX6_init 201 = .ok (.putfield 81, 3) := dk_181 0 81 (dk_at dksX6_init_8 13 rfl rfl)
theorem dX6_init_204 : decode cX6_init 204 = .ok (.aload_n 0, 1) := dk_42 (dk_at dksX6_init_8 16 rfl rfl)
theorem dX6_init_205 : decode cX6_init 205 = .ok (.bipush 16, 2) := dk_16 16 (dk_at dksX6_init_8 17 rfl rfl)
theorem dX6_init_207 : decode cX6_init 207 = .ok (.newarray .int, 2) := dk_188_10 (dk_at dksX6_init_8 19 rfl rfl)
theorem dX6_init_209 : decode cX6_init 209 = .ok (.putfield 85, 3) := dk_181 0 85 (dk_at dksX6_init_8 21 rfl rfl)
theorem dX6_init_212 : decode cX6_init 212 = .ok (.aload_n 0, 1) := dk_42 (dk_at dksX6_init_9 0 rfl rfl)
theorem dX6_init_213 : decode cX6_init 213 = .ok (.ldc 80, 2) := dk_18 80 (dk_at dksX6_init_9 1 rfl rfl)
theorem dX6_init_215 : decode cX6_init 215 = .ok (.newarray .int, 2) := dk_188_10 (dk_at dksX6_init_9 3 rfl rfl)
theorem dX6_init_217 : decode cX6_init 217 = .ok (.putfield 88, 3) := dk_181 0 88 (dk_at dksX6_init_9 5 rfl rfl)
theorem dX6_init_220 : decode cX6_init 220 = .ok (.aload_n 0, 1) := dk_42 (dk_at dksX6_init_9 8 rfl rfl)
theorem dX6_init_221 : decode cX6_init 221 = .ok (.sipush 256, 3) := dk_17 1 0 (dk_at dksX6_init_9 9 rfl rfl)
theorem dX6_init_224 : decode cX6_init 224 = .ok (.newarray .int, 2) := dk_188_10 (dk_at dksX6_init_9 12 rfl rfl)
theorem dX6_init_226 : decode cX6_init 226 = .ok (.putfield 91, 3) := dk_181 0 91 (dk_at dksX6_init_9 14 rfl rfl)
theorem dX6_init_229 : decode cX6_init 229 = .ok (.aload_n 0, 1) := dk_42 (dk_at dksX6_init_9 17 rfl rfl)
theorem dX6_init_230 : decode cX6_init 230 = .ok (.bipush 8, 2) := dk_16 8 (dk_at dksX6_init_9 18 rfl rfl)
theorem dX6_init_232 : decode cX6_init 232 = .ok (.newarray .int, 2) := dk_188_10 (dk_at dksX6_init_9 20 rfl rfl)
theorem dX6_init_234 : decode cX6_init 234 = .ok (.putfield 94, 3) := dk_181 0 94 (dk_at dksX6_init_10 0 rfl rfl)
theorem dX6_init_237 : decode cX6_init 237 = .ok (.aload_n 0, 1) := dk_42 (dk_at dksX6_init_10 3 rfl rfl)
theorem dX6_init_238 : decode cX6_init 238 = .ok (.sipush 2048, 3) := dk_17 8 0 (dk_at dksX6_init_10 4 rfl rfl)
theorem dX6_init_241 : decode cX6_init 241 = .ok (.newarray .int, 2) := dk_188_10 (dk_at dksX6_init_10 7 rfl rfl)
theorem dX6_init_243 : decode cX6_init 243 = .ok (.putfield 97, 3) := dk_181 0 97 (dk_at dksX6_init_10 9 rfl rfl)
theorem dX6_init_246 : decode cX6_init 246 = .ok (.aload_n 0, 1) := dk_42 (dk_at dksX6_init_10 12 rfl rfl)
theorem dX6_init_247 : decode cX6_init 247 = .ok (.getfield 7, 3) := dk_180 0 7 (dk_at dksX6_init_10 13 rfl rfl)
theorem dX6_init_250 : decode cX6_init 250 = .ok (.sipush 273, 3) := dk_17 1 17 (dk_at dksX6_init_10 16 rfl rfl)
theorem dX6_init_253 : decode cX6_init 253 = .ok (.iconst 1, 1) := dk_4 (dk_at dksX6_init_10 19 rfl rfl)
theorem dX6_init_254 : decode cX6_init 254 = .ok (.iastore, 1) := dk_79 (dk_at dksX6_init_10 20 rfl rfl)
theorem dX6_init_255 : decode cX6_init 255 = .ok (.return_, 1) := dk_177 (dk_at dksX6_init_10 21 rfl rfl)
abbrev cX6_feed : ByteArray := prog_20_method_15_code
def yX6_feed : MethodName := ⟨RX6, "feed", "(IIIII)I"⟩
def dkwX6_feed_2 : List UInt8 := [172]
abbrev dktX6_feed_2 : List UInt8 := dkwX6_feed_2 ++ []
def dkwX6_feed_1 : List UInt8 := [182, 0, 119, 42, 29, 182, 0, 119, 42, 21, 4, 182, 0, 119, 42, 21, 5, 182, 0, 119, 42, 180, 0, 116]
abbrev dktX6_feed_1 : List UInt8 := dkwX6_feed_1 ++ dktX6_feed_2
def dkwX6_feed_0 : List UInt8 := [42, 180, 0, 116, 16, 20, 96, 17, 1, 4, 164, 0, 5, 2, 172, 42, 27, 182, 0, 119, 42, 28]
abbrev dktX6_feed_0 : List UInt8 := dkwX6_feed_0 ++ dktX6_feed_1
theorem dksX6_feed_0 : cX6_feed.data.toList.drop 0 = dktX6_feed_0 := by decide +kernel
theorem dksX6_feed_1 : cX6_feed.data.toList.drop 22 = dktX6_feed_1 := dk_seg dksX6_feed_0 22 rfl rfl
theorem dksX6_feed_2 : cX6_feed.data.toList.drop 46 = dktX6_feed_2 := dk_seg dksX6_feed_1 24 rfl rfl
theorem dX6_feed_0 : decode cX6_feed 0 = .ok (.aload_n 0, 1) := dk_42 (dk_at dksX6_feed_0 0 rfl rfl)
theorem dX6_feed_1 : decode cX6_feed 1 = .ok (.getfield 116, 3) := dk_180 0 116 (dk_at dksX6_feed_0 1 rfl rfl)
theorem dX6_feed_4 : decode cX6_feed 4 = .ok (.bipush 20, 2) := dk_16 20 (dk_at dksX6_feed_0 4 rfl rfl)
theorem dX6_feed_6 : decode cX6_feed 6 = .ok (.iadd, 1) := dk_96 (dk_at dksX6_feed_0 6 rfl rfl)
theorem dX6_feed_7 : decode cX6_feed 7 = .ok (.sipush 260, 3) := dk_17 1 4 (dk_at dksX6_feed_0 7 rfl rfl)
theorem dX6_feed_10 : decode cX6_feed 10 = .ok (.if_icmp .le 5, 3) := dk_164 0 5 (dk_at dksX6_feed_0 10 rfl rfl)
theorem dX6_feed_13 : decode cX6_feed 13 = .ok (.iconst (-1), 1) := dk_2 (dk_at dksX6_feed_0 13 rfl rfl)
theorem dX6_feed_14 : decode cX6_feed 14 = .ok (.ireturn, 1) := dk_172 (dk_at dksX6_feed_0 14 rfl rfl)
theorem dX6_feed_15 : decode cX6_feed 15 = .ok (.aload_n 0, 1) := dk_42 (dk_at dksX6_feed_0 15 rfl rfl)
theorem dX6_feed_16 : decode cX6_feed 16 = .ok (.iload_n 1, 1) := dk_27 (dk_at dksX6_feed_0 16 rfl rfl)
theorem dX6_feed_17 : decode cX6_feed 17 = .ok (.invokevirtual 119, 3) := dk_182 0 119 (dk_at dksX6_feed_0 17 rfl rfl)
theorem dX6_feed_20 : decode cX6_feed 20 = .ok (.aload_n 0, 1) := dk_42 (dk_at dksX6_feed_0 20 rfl rfl)
theorem dX6_feed_21 : decode cX6_feed 21 = .ok (.iload_n 2, 1) := dk_28 (dk_at dksX6_feed_0 21 rfl rfl)
theorem dX6_feed_22 : decode cX6_feed 22 = .ok (.invokevirtual 119, 3) := dk_182 0 119 (dk_at dksX6_feed_1 0 rfl rfl)
theorem dX6_feed_25 : decode cX6_feed 25 = .ok (.aload_n 0, 1) := dk_42 (dk_at dksX6_feed_1 3 rfl rfl)
theorem dX6_feed_26 : decode cX6_feed 26 = .ok (.iload_n 3, 1) := dk_29 (dk_at dksX6_feed_1 4 rfl rfl)
theorem dX6_feed_27 : decode cX6_feed 27 = .ok (.invokevirtual 119, 3) := dk_182 0 119 (dk_at dksX6_feed_1 5 rfl rfl)
theorem dX6_feed_30 : decode cX6_feed 30 = .ok (.aload_n 0, 1) := dk_42 (dk_at dksX6_feed_1 8 rfl rfl)
theorem dX6_feed_31 : decode cX6_feed 31 = .ok (.iload 4, 2) := dk_21 4 (dk_at dksX6_feed_1 9 rfl rfl)
theorem dX6_feed_33 : decode cX6_feed 33 = .ok (.invokevirtual 119, 3) := dk_182 0 119 (dk_at dksX6_feed_1 11 rfl rfl)
theorem dX6_feed_36 : decode cX6_feed 36 = .ok (.aload_n 0, 1) := dk_42 (dk_at dksX6_feed_1 14 rfl rfl)
theorem dX6_feed_37 : decode cX6_feed 37 = .ok (.iload 5, 2) := dk_21 5 (dk_at dksX6_feed_1 15 rfl rfl)
theorem dX6_feed_39 : decode cX6_feed 39 = .ok (.invokevirtual 119, 3) := dk_182 0 119 (dk_at dksX6_feed_1 17 rfl rfl)
theorem dX6_feed_42 : decode cX6_feed 42 = .ok (.aload_n 0, 1) := dk_42 (dk_at dksX6_feed_1 20 rfl rfl)
theorem dX6_feed_43 : decode cX6_feed 43 = .ok (.getfield 116, 3) := dk_180 0 116 (dk_at dksX6_feed_1 21 rfl rfl)
theorem dX6_feed_46 : decode cX6_feed 46 = .ok (.ireturn, 1) := dk_172 (dk_at dksX6_feed_2 0 rfl rfl)
abbrev cX6_types : ByteArray := prog_20_method_14_code
def yX6_types : MethodName := ⟨RX6, "types", "(I)V"⟩
def dkwX6_types_1 : List UInt8 := [180, 0, 116, 4, 96, 181, 0, 116, 132, 2, 255, 167, 255, 223, 177]
abbrev dktX6_types_1 : List UInt8 := dkwX6_types_1 ++ []
def dkwX6_types_0 : List UInt8 := [6, 61, 28, 155, 0, 35, 42, 180, 0, 31, 42, 180, 0, 116, 27, 16, 8, 28, 104, 122, 145, 84, 42, 42]
abbrev dktX6_types_0 : List UInt8 := dkwX6_types_0 ++ dktX6_types_1
theorem dksX6_types_0 : cX6_types.data.toList.drop 0 = dktX6_types_0 := by decide +kernel
theorem dksX6_types_1 : cX6_types.data.toList.drop 24 = dktX6_types_1 := dk_seg dksX6_types_0 24 rfl rfl
theorem dX6_types_0 : decode cX6_types 0 = .ok (.iconst 3, 1) := dk_6 (dk_at dksX6_types_0 0 rfl rfl)
theorem dX6_types_1 : decode cX6_types 1 = .ok (.istore_n 2, 1) := dk_61 (dk_at dksX6_types_0 1 rfl rfl)
theorem dX6_types_2 : decode cX6_types 2 = .ok (.iload_n 2, 1) := dk_28 (dk_at dksX6_types_0 2 rfl rfl)
theorem dX6_types_3 : decode cX6_types 3 = .ok (.ifCond .lt 35, 3) := dk_155 0 35 (dk_at dksX6_types_0 3 rfl rfl)
theorem dX6_types_6 : decode cX6_types 6 = .ok (.aload_n 0, 1) := dk_42 (dk_at dksX6_types_0 6 rfl rfl)
theorem dX6_types_7 : decode cX6_types 7 = .ok (.getfield 31, 3) := dk_180 0 31 (dk_at dksX6_types_0 7 rfl rfl)
theorem dX6_types_10 : decode cX6_types 10 = .ok (.aload_n 0, 1) := dk_42 (dk_at dksX6_types_0 10 rfl rfl)
theorem dX6_types_11 : decode cX6_types 11 = .ok (.getfield 116, 3) := dk_180 0 116 (dk_at dksX6_types_0 11 rfl rfl)
theorem dX6_types_14 : decode cX6_types 14 = .ok (.iload_n 1, 1) := dk_27 (dk_at dksX6_types_0 14 rfl rfl)
theorem dX6_types_15 : decode cX6_types 15 = .ok (.bipush 8, 2) := dk_16 8 (dk_at dksX6_types_0 15 rfl rfl)
theorem dX6_types_17 : decode cX6_types 17 = .ok (.iload_n 2, 1) := dk_28 (dk_at dksX6_types_0 17 rfl rfl)
theorem dX6_types_18 : decode cX6_types 18 = .ok (.imul, 1) := dk_104 (dk_at dksX6_types_0 18 rfl rfl)
theorem dX6_types_19 : decode cX6_types 19 = .ok (.ishr, 1) := dk_122 (dk_at dksX6_types_0 19 rfl rfl)
theorem dX6_types_20 : decode cX6_types 20 = .ok (.i2b, 1) := dk_145 (dk_at dksX6_types_0 20 rfl rfl)
theorem dX6_types_21 : decode cX6_types 21 = .ok (.bastore, 1) := dk_84 (dk_at dksX6_types_0 21 rfl rfl)
theorem dX6_types_22 : decode cX6_types 22 = .ok (.aload_n 0, 1) := dk_42 (dk_at dksX6_types_0 22 rfl rfl)
theorem dX6_types_23 : decode cX6_types 23 = .ok (.aload_n 0, 1) := dk_42 (dk_at dksX6_types_0 23 rfl rfl)
theorem dX6_types_24 : decode cX6_types 24 = .ok (.getfield 116, 3) := dk_180 0 116 (dk_at dksX6_types_1 0 rfl rfl)
theorem dX6_types_27 : decode cX6_types 27 = .ok (.iconst 1, 1) := dk_4 (dk_at dksX6_types_1 3 rfl rfl)
theorem dX6_types_28 : decode cX6_types 28 = .ok (.iadd, 1) := dk_96 (dk_at dksX6_types_1 4 rfl rfl)
theorem dX6_types_29 : decode cX6_types 29 = .ok (.putfield 116, 3) := dk_181 0 116 (dk_at dksX6_types_1 5 rfl rfl)
theorem dX6_types_32 : decode cX6_types 32 = .ok (.iinc 2 (-1), 3) := dk_132 2 255 (dk_at dksX6_types_1 8 rfl rfl)
theorem dX6_types_35 : decode cX6_types 35 = .ok (.goto (-33), 3) := dk_167 255 223 (dk_at dksX6_types_1 11 rfl rfl)
theorem dX6_types_38 : decode cX6_types 38 = .ok (.return_, 1) := dk_177 (dk_at dksX6_types_1 14 rfl rfl)
abbrev cX6_law : ByteArray := prog_20_method_38_code
def yX6_law : MethodName := ⟨RX6, "law", "(I)I"⟩
def dkwX6_law_7 : List UInt8 := [79, 42, 180, 0, 65, 29, 42, 180, 0, 50, 29, 46, 79, 132, 3, 1, 167, 255, 197, 42, 180, 0, 201, 172]
abbrev dktX6_law_7 : List UInt8 := dkwX6_law_7 ++ []
def dkwX6_law_6 : List UInt8 := [79, 42, 180, 0, 59, 29, 42, 180, 0, 44, 29, 46, 79, 42, 180, 0, 62, 29, 42, 180, 0, 47, 29, 46]
abbrev dktX6_law_6 : List UInt8 := dkwX6_law_6 ++ dktX6_law_7
def dkwX6_law_5 : List UInt8 := [167, 255, 233, 3, 62, 29, 42, 180, 0, 201, 162, 0, 57, 42, 180, 0, 56, 29, 42, 180, 0, 41, 29, 46]
abbrev dktX6_law_5 : List UInt8 := dkwX6_law_5 ++ dktX6_law_6
def dkwX6_law_4 : List UInt8 := [29, 42, 180, 0, 146, 162, 0, 21, 42, 180, 0, 53, 29, 42, 180, 0, 35, 29, 46, 79, 132, 3, 1]
abbrev dktX6_law_4 : List UInt8 := dkwX6_law_4 ++ dktX6_law_5
def dkwX6_law_3 : List UInt8 := [42, 3, 181, 0, 116, 28, 154, 0, 8, 42, 180, 0, 133, 172, 42, 42, 180, 0, 201, 181, 0, 216, 3, 62]
abbrev dktX6_law_3 : List UInt8 := dkwX6_law_3 ++ dktX6_law_4
def dkwX6_law_2 : List UInt8 := [16, 59, 182, 0, 213, 153, 0, 14, 42, 182, 0, 210, 153, 0, 7, 4, 167, 0, 4, 3, 61, 167, 255, 219]
abbrev dktX6_law_2 : List UInt8 := dkwX6_law_2 ++ dktX6_law_3
def dkwX6_law_1 : List UInt8 := [182, 0, 207, 42, 182, 0, 210, 61, 28, 153, 0, 39, 42, 180, 0, 123, 42, 180, 0, 126, 162, 0, 28, 42]
abbrev dktX6_law_1 : List UInt8 := dkwX6_law_1 ++ dktX6_law_2
def dkwX6_law_0 : List UInt8 := [27, 4, 17, 0, 240, 184, 0, 104, 153, 0, 11, 27, 42, 180, 0, 116, 164, 0, 5, 2, 172, 42, 27]
abbrev dktX6_law_0 : List UInt8 := dkwX6_law_0 ++ dktX6_law_1
theorem dksX6_law_0 : cX6_law.data.toList.drop 0 = dktX6_law_0 := by decide +kernel
theorem dksX6_law_1 : cX6_law.data.toList.drop 23 = dktX6_law_1 := dk_seg dksX6_law_0 23 rfl rfl
theorem dksX6_law_2 : cX6_law.data.toList.drop 47 = dktX6_law_2 := dk_seg dksX6_law_1 24 rfl rfl
theorem dksX6_law_3 : cX6_law.data.toList.drop 71 = dktX6_law_3 := dk_seg dksX6_law_2 24 rfl rfl
theorem dksX6_law_4 : cX6_law.data.toList.drop 95 = dktX6_law_4 := dk_seg dksX6_law_3 24 rfl rfl
theorem dksX6_law_5 : cX6_law.data.toList.drop 118 = dktX6_law_5 := dk_seg dksX6_law_4 23 rfl rfl
theorem dksX6_law_6 : cX6_law.data.toList.drop 142 = dktX6_law_6 := dk_seg dksX6_law_5 24 rfl rfl
theorem dksX6_law_7 : cX6_law.data.toList.drop 166 = dktX6_law_7 := dk_seg dksX6_law_6 24 rfl rfl
theorem dX6_law_0 : decode cX6_law 0 = .ok (.iload_n 1, 1) := dk_27 (dk_at dksX6_law_0 0 rfl rfl)
theorem dX6_law_1 : decode cX6_law 1 = .ok (.iconst 1, 1) := dk_4 (dk_at dksX6_law_0 1 rfl rfl)
theorem dX6_law_2 : decode cX6_law 2 = .ok (.sipush 240, 3) := dk_17 0 240 (dk_at dksX6_law_0 2 rfl rfl)
theorem dX6_law_5 : decode cX6_law 5 = .ok (.invokestatic 104, 3) := dk_184 0 104 (dk_at dksX6_law_0 5 rfl rfl)
theorem dX6_law_8 : decode cX6_law 8 = .ok (.ifCond .eq 11, 3) := dk_153 0 11 (dk_at dksX6_law_0 8 rfl rfl)
theorem dX6_law_11 : decode cX6_law 11 = .ok (.iload_n 1, 1) := dk_27 (dk_at dksX6_law_0 11 rfl rfl)
theorem dX6_law_12 : decode cX6_law 12 = .ok (.aload_n 0, 1) := dk_42 (dk_at dksX6_law_0 12 rfl rfl)
theorem dX6_law_13 : decode cX6_law 13 = .ok (.getfield 116, 3) := dk_180 0 116 (dk_at dksX6_law_0 13 rfl rfl)
theorem dX6_law_16 : decode cX6_law 16 = .ok (.if_icmp .le 5, 3) := dk_164 0 5 (dk_at dksX6_law_0 16 rfl rfl)
theorem dX6_law_19 : decode cX6_law 19 = .ok (.iconst (-1), 1) := dk_2 (dk_at dksX6_law_0 19 rfl rfl)
theorem dX6_law_20 : decode cX6_law 20 = .ok (.ireturn, 1) := dk_172 (dk_at dksX6_law_0 20 rfl rfl)
theorem dX6_law_21 : decode cX6_law 21 = .ok (.aload_n 0, 1) := dk_42 (dk_at dksX6_law_0 21 rfl rfl)
theorem dX6_law_22 : decode cX6_law 22 = .ok (.iload_n 1, 1) := dk_27 (dk_at dksX6_law_0 22 rfl rfl)
theorem dX6_law_23 : decode cX6_law 23 = .ok (.invokevirtual 207, 3) := dk_182 0 207 (dk_at dksX6_law_1 0 rfl rfl)
theorem dX6_law_26 : decode cX6_law 26 = .ok (.aload_n 0, 1) := dk_42 (dk_at dksX6_law_1 3 rfl rfl)
theorem dX6_law_27 : decode cX6_law 27 = .ok (.invokevirtual 210, 3) := dk_182 0 210 (dk_at dksX6_law_1 4 rfl rfl)
theorem dX6_law_30 : decode cX6_law 30 = .ok (.istore_n 2, 1) := dk_61 (dk_at dksX6_law_1 7 rfl rfl)
theorem dX6_law_31 : decode cX6_law 31 = .ok (.iload_n 2, 1) := dk_28 (dk_at dksX6_law_1 8 rfl rfl)
theorem dX6_law_32 : decode cX6_law 32 = .ok (.ifCond .eq 39, 3) := dk_153 0 39 (dk_at dksX6_law_1 9 rfl rfl)
theorem dX6_law_35 : decode cX6_law 35 = .ok (.aload_n 0, 1) := dk_42 (dk_at dksX6_law_1 12 rfl rfl)
theorem dX6_law_36 : decode cX6_law 36 = .ok (.getfield 123, 3) := dk_180 0 123 (dk_at dksX6_law_1 13 rfl rfl)
theorem dX6_law_39 : decode cX6_law 39 = .ok (.aload_n 0, 1) := dk_42 (dk_at dksX6_law_1 16 rfl rfl)
theorem dX6_law_40 : decode cX6_law 40 = .ok (.getfield 126, 3) := dk_180 0 126 (dk_at dksX6_law_1 17 rfl rfl)
theorem dX6_law_43 : decode cX6_law 43 = .ok (.if_icmp .ge 28, 3) := dk_162 0 28 (dk_at dksX6_law_1 20 rfl rfl)
theorem dX6_law_46 : decode cX6_law 46 = .ok (.aload_n 0, 1) := dk_42 (dk_at dksX6_law_1 23 rfl rfl)
theorem dX6_law_47 : decode cX6_law 47 = .ok (.bipush 59, 2) := dk_16 59 (dk_at dksX6_law_2 0 rfl rfl)
theorem dX6_law_49 : decode cX6_law 49 = .ok (.invokevirtual 213, 3) := dk_182 0 213 (dk_at dksX6_law_2 2 rfl rfl)
theorem dX6_law_52 : decode cX6_law 52 = .ok (.ifCond .eq 14, 3) := dk_153 0 14 (dk_at dksX6_law_2 5 rfl rfl)
theorem dX6_law_55 : decode cX6_law 55 = .ok (.aload_n 0, 1) := dk_42 (dk_at dksX6_law_2 8 rfl rfl)
theorem dX6_law_56 : decode cX6_law 56 = .ok (.invokevirtual 210, 3) := dk_182 0 210 (dk_at dksX6_law_2 9 rfl rfl)
theorem dX6_law_59 : decode cX6_law 59 = .ok (.ifCond .eq 7, 3) := dk_153 0 7 (dk_at dksX6_law_2 12 rfl rfl)
theorem dX6_law_62 : decode cX6_law 62 = .ok (.iconst 1, 1) := dk_4 (dk_at dksX6_law_2 15 rfl rfl)
theorem dX6_law_63 : decode cX6_law 63 = .ok (.goto 4, 3) := dk_167 0 4 (dk_at dksX6_law_2 16 rfl rfl)
theorem dX6_law_66 : decode cX6_law 66 = .ok (.iconst 0, 1) := dk_3 (dk_at dksX6_law_2 19 rfl rfl)
theorem dX6_law_67 : decode cX6_law 67 = .ok (.istore_n 2, 1) := dk_61 (dk_at dksX6_law_2 20 rfl rfl)
theorem dX6_law_68 : decode cX6_law 68 = .ok (.goto (-37), 3) := dk_167 255 219 (dk_at dksX6_law_2 21 rfl rfl)
theorem dX6_law_71 : decode cX6_law 71 = .ok (.aload_n 0, 1) := dk_42 (dk_at dksX6_law_3 0 rfl rfl)
theorem dX6_law_72 : decode cX6_law 72 = .ok (.iconst 0, 1) := dk_3 (dk_at dksX6_law_3 1 rfl rfl)
theorem dX6_law_73 : decode cX6_law 73 = .ok (.putfield 116, 3) := dk_181 0 116 (dk_at dksX6_law_3 2 rfl rfl)
theorem dX6_law_76 : decode cX6_law 76 = .ok (.iload_n 2, 1) := dk_28 (dk_at dksX6_law_3 5 rfl rfl)
theorem dX6_law_77 : decode cX6_law 77 = .ok (.ifCond .ne 8, 3) := dk_154 0 8 (dk_at dksX6_law_3 6 rfl rfl)
theorem dX6_law_80 : decode cX6_law 80 = .ok (.aload_n 0, 1) := dk_42 (dk_at dksX6_law_3 9 rfl rfl)
theorem dX6_law_81 : decode cX6_law 81 = .ok (.getfield 133, 3) := dk_180 0 133 (dk_at dksX6_law_3 10 rfl rfl)
theorem dX6_law_84 : decode cX6_law 84 = .ok (.ireturn, 1) := dk_172 (dk_at dksX6_law_3 13 rfl rfl)
theorem dX6_law_85 : decode cX6_law 85 = .ok (.aload_n 0, 1) := dk_42 (dk_at dksX6_law_3 14 rfl rfl)
theorem dX6_law_86 : decode cX6_law 86 = .ok (.aload_n 0, 1) := dk_42 (dk_at dksX6_law_3 15 rfl rfl)
theorem dX6_law_87 : decode cX6_law 87 = .ok (.getfield 201, 3) := dk_180 0 201 (dk_at dksX6_law_3 16 rfl rfl)
theorem dX6_law_90 : decode cX6_law 90 = .ok (.putfield 216, 3) := dk_181 0 216 (dk_at dksX6_law_3 19 rfl rfl)
theorem dX6_law_93 : decode cX6_law 93 = .ok (.iconst 0, 1) := dk_3 (dk_at dksX6_law_3 22 rfl rfl)
theorem dX6_law_94 : decode cX6_law 94 = .ok (.istore_n 3, 1) := dk_62 (dk_at dksX6_law_3 23 rfl rfl)
theorem dX6_law_95 : decode cX6_law 95 = .ok (.iload_n 3, 1) := dk_29 (dk_at dksX6_law_4 0 rfl rfl)
theorem dX6_law_96 : decode cX6_law 96 = .ok (.aload_n 0, 1) := dk_42 (dk_at dksX6_law_4 1 rfl rfl)
theorem dX6_law_97 : decode cX6_law 97 = .ok (.getfield 146, 3) := dk_180 0 146 (dk_at dksX6_law_4 2 rfl rfl)
theorem dX6_law_100 : decode cX6_law 100 = .ok (.if_icmp .ge 21, 3) := dk_162 0 21 (dk_at dksX6_law_4 5 rfl rfl)
theorem dX6_law_103 : decode cX6_law 103 = .ok (.aload_n 0, 1) := dk_42 (dk_at dksX6_law_4 8 rfl rfl)
theorem dX6_law_104 : decode cX6_law 104 = .ok (.getfield 53, 3) := dk_180 0 53 (dk_at dksX6_law_4 9 rfl rfl)
theorem dX6_law_107 : decode cX6_law 107 = .ok (.iload_n 3, 1) := dk_29 (dk_at dksX6_law_4 12 rfl rfl)
theorem dX6_law_108 : decode cX6_law 108 = .ok (.aload_n 0, 1) := dk_42 (dk_at dksX6_law_4 13 rfl rfl)
theorem dX6_law_109 : decode cX6_law 109 = .ok (.getfield 35, 3) := dk_180 0 35 (dk_at dksX6_law_4 14 rfl rfl)
theorem dX6_law_112 : decode cX6_law 112 = .ok (.iload_n 3, 1) := dk_29 (dk_at dksX6_law_4 17 rfl rfl)
theorem dX6_law_113 : decode cX6_law 113 = .ok (.iaload, 1) := dk_46 (dk_at dksX6_law_4 18 rfl rfl)
theorem dX6_law_114 : decode cX6_law 114 = .ok (.iastore, 1) := dk_79 (dk_at dksX6_law_4 19 rfl rfl)
theorem dX6_law_115 : decode cX6_law 115 = .ok (.iinc 3 1, 3) := dk_132 3 1 (dk_at dksX6_law_4 20 rfl rfl)
theorem dX6_law_118 : decode cX6_law 118 = .ok (.goto (-23), 3) := dk_167 255 233 (dk_at dksX6_law_5 0 rfl rfl)
theorem dX6_law_121 : decode cX6_law 121 = .ok (.iconst 0, 1) := dk_3 (dk_at dksX6_law_5 3 rfl rfl)
theorem dX6_law_122 : decode cX6_law 122 = .ok (.istore_n 3, 1) := dk_62 (dk_at dksX6_law_5 4 rfl rfl)
theorem dX6_law_123 : decode cX6_law 123 = .ok (.iload_n 3, 1) := dk_29 (dk_at dksX6_law_5 5 rfl rfl)
theorem dX6_law_124 : decode cX6_law 124 = .ok (.aload_n 0, 1) := dk_42 (dk_at dksX6_law_5 6 rfl rfl)
theorem dX6_law_125 : decode cX6_law 125 = .ok (.getfield 201, 3) := dk_180 0 201 (dk_at dksX6_law_5 7 rfl rfl)
theorem dX6_law_128 : decode cX6_law 128 = .ok (.if_icmp .ge 57, 3) := dk_162 0 57 (dk_at dksX6_law_5 10 rfl rfl)
theorem dX6_law_131 : decode cX6_law 131 = .ok (.aload_n 0, 1) := dk_42 (dk_at dksX6_law_5 13 rfl rfl)
theorem dX6_law_132 : decode cX6_law 132 = .ok (.getfield 56, 3) := dk_180 0 56 (dk_at dksX6_law_5 14 rfl rfl)
theorem dX6_law_135 : decode cX6_law 135 = .ok (.iload_n 3, 1) := dk_29 (dk_at dksX6_law_5 17 rfl rfl)
theorem dX6_law_136 : decode cX6_law 136 = .ok (.aload_n 0, 1) := dk_42 (dk_at dksX6_law_5 18 rfl rfl)
theorem dX6_law_137 : decode cX6_law 137 = .ok (.getfield 41, 3) := dk_180 0 41 (dk_at dksX6_law_5 19 rfl rfl)
theorem dX6_law_140 : decode cX6_law 140 = .ok (.iload_n 3, 1) := dk_29 (dk_at dksX6_law_5 22 rfl rfl)
theorem dX6_law_141 : decode cX6_law 141 = .ok (.iaload, 1) := dk_46 (dk_at dksX6_law_5 23 rfl rfl)
theorem dX6_law_142 : decode cX6_law 142 = .ok (.iastore, 1) := dk_79 (dk_at dksX6_law_6 0 rfl rfl)
theorem dX6_law_143 : decode cX6_law 143 = .ok (.aload_n 0, 1) := dk_42 (dk_at dksX6_law_6 1 rfl rfl)
theorem dX6_law_144 : decode cX6_law 144 = .ok (.getfield 59, 3) := dk_180 0 59 (dk_at dksX6_law_6 2 rfl rfl)
theorem dX6_law_147 : decode cX6_law 147 = .ok (.iload_n 3, 1) := dk_29 (dk_at dksX6_law_6 5 rfl rfl)
theorem dX6_law_148 : decode cX6_law 148 = .ok (.aload_n 0, 1) := dk_42 (dk_at dksX6_law_6 6 rfl rfl)
theorem dX6_law_149 : decode cX6_law 149 = .ok (.getfield 44, 3) := dk_180 0 44 (dk_at dksX6_law_6 7 rfl rfl)
theorem dX6_law_152 : decode cX6_law 152 = .ok (.iload_n 3, 1) := dk_29 (dk_at dksX6_law_6 10 rfl rfl)
theorem dX6_law_153 : decode cX6_law 153 = .ok (.iaload, 1) := dk_46 (dk_at dksX6_law_6 11 rfl rfl)
theorem dX6_law_154 : decode cX6_law 154 = .ok (.iastore, 1) := dk_79 (dk_at dksX6_law_6 12 rfl rfl)
theorem dX6_law_155 : decode cX6_law 155 = .ok (.aload_n 0, 1) := dk_42 (dk_at dksX6_law_6 13 rfl rfl)
theorem dX6_law_156 : decode cX6_law 156 = .ok (.getfield 62, 3) := dk_180 0 62 (dk_at dksX6_law_6 14 rfl rfl)
theorem dX6_law_159 : decode cX6_law 159 = .ok (.iload_n 3, 1) := dk_29 (dk_at dksX6_law_6 17 rfl rfl)
theorem dX6_law_160 : decode cX6_law 160 = .ok (.aload_n 0, 1) := dk_42 (dk_at dksX6_law_6 18 rfl rfl)
theorem dX6_law_161 : decode cX6_law 161 = .ok (.getfield 47, 3) := dk_180 0 47 (dk_at dksX6_law_6 19 rfl rfl)
theorem dX6_law_164 : decode cX6_law 164 = .ok (.iload_n 3, 1) := dk_29 (dk_at dksX6_law_6 22 rfl rfl)
theorem dX6_law_165 : decode cX6_law 165 = .ok (.iaload, 1) := dk_46 (dk_at dksX6_law_6 23 rfl rfl)
theorem dX6_law_166 : decode cX6_law 166 = .ok (.iastore, 1) := dk_79 (dk_at dksX6_law_7 0 rfl rfl)
theorem dX6_law_167 : decode cX6_law 167 = .ok (.aload_n 0, 1) := dk_42 (dk_at dksX6_law_7 1 rfl rfl)
theorem dX6_law_168 : decode cX6_law 168 = .ok (.getfield 65, 3) := dk_180 0 65 (dk_at dksX6_law_7 2 rfl rfl)
theorem dX6_law_171 : decode cX6_law 171 = .ok (.iload_n 3, 1) := dk_29 (dk_at dksX6_law_7 5 rfl rfl)
theorem dX6_law_172 : decode cX6_law 172 = .ok (.aload_n 0, 1) := dk_42 (dk_at dksX6_law_7 6 rfl rfl)
theorem dX6_law_173 : decode cX6_law 173 = .ok (.getfield 50, 3) := dk_180 0 50 (dk_at dksX6_law_7 7 rfl rfl)
theorem dX6_law_176 : decode cX6_law 176 = .ok (.iload_n 3, 1) := dk_29 (dk_at dksX6_law_7 10 rfl rfl)
theorem dX6_law_177 : decode cX6_law 177 = .ok (.iaload, 1) := dk_46 (dk_at dksX6_law_7 11 rfl rfl)
theorem dX6_law_178 : decode cX6_law 178 = .ok (.iastore, 1) := dk_79 (dk_at dksX6_law_7 12 rfl rfl)
theorem dX6_law_179 : decode cX6_law 179 = .ok (.iinc 3 1, 3) := dk_132 3 1 (dk_at dksX6_law_7 13 rfl rfl)
theorem dX6_law_182 : decode cX6_law 182 = .ok (.goto (-59), 3) := dk_167 255 197 (dk_at dksX6_law_7 16 rfl rfl)
theorem dX6_law_185 : decode cX6_law 185 = .ok (.aload_n 0, 1) := dk_42 (dk_at dksX6_law_7 19 rfl rfl)
theorem dX6_law_186 : decode cX6_law 186 = .ok (.getfield 201, 3) := dk_180 0 201 (dk_at dksX6_law_7 20 rfl rfl)
theorem dX6_law_189 : decode cX6_law 189 = .ok (.ireturn, 1) := dk_172 (dk_at dksX6_law_7 23 rfl rfl)
abbrev cX6_in : ByteArray := prog_20_method_2_code
def yX6_in : MethodName := ⟨RX6, "in", "(III)Z"⟩
def dkwX6_in_0 : List UInt8 := [26, 27, 161, 0, 12, 26, 28, 163, 0, 7, 4, 167, 0, 4, 3, 172]
abbrev dktX6_in_0 : List UInt8 := dkwX6_in_0 ++ []
theorem dksX6_in_0 : cX6_in.data.toList.drop 0 = dktX6_in_0 := by decide +kernel
theorem dX6_in_0 : decode cX6_in 0 = .ok (.iload_n 0, 1) := dk_26 (dk_at dksX6_in_0 0 rfl rfl)
theorem dX6_in_1 : decode cX6_in 1 = .ok (.iload_n 1, 1) := dk_27 (dk_at dksX6_in_0 1 rfl rfl)
theorem dX6_in_2 : decode cX6_in 2 = .ok (.if_icmp .lt 12, 3) := dk_161 0 12 (dk_at dksX6_in_0 2 rfl rfl)
theorem dX6_in_5 : decode cX6_in 5 = .ok (.iload_n 0, 1) := dk_26 (dk_at dksX6_in_0 5 rfl rfl)
theorem dX6_in_6 : decode cX6_in 6 = .ok (.iload_n 2, 1) := dk_28 (dk_at dksX6_in_0 6 rfl rfl)
theorem dX6_in_7 : decode cX6_in 7 = .ok (.if_icmp .gt 7, 3) := dk_163 0 7 (dk_at dksX6_in_0 7 rfl rfl)
theorem dX6_in_10 : decode cX6_in 10 = .ok (.iconst 1, 1) := dk_4 (dk_at dksX6_in_0 10 rfl rfl)
theorem dX6_in_11 : decode cX6_in 11 = .ok (.goto 4, 3) := dk_167 0 4 (dk_at dksX6_in_0 11 rfl rfl)
theorem dX6_in_14 : decode cX6_in 14 = .ok (.iconst 0, 1) := dk_3 (dk_at dksX6_in_0 14 rfl rfl)
theorem dX6_in_15 : decode cX6_in 15 = .ok (.ireturn, 1) := dk_172 (dk_at dksX6_in_0 15 rfl rfl)
abbrev cX6_beginsText : ByteArray := prog_20_method_37_code
def yX6_beginsText : MethodName := ⟨RX6, "beginsText", "(I)V"⟩
def dkwX6_beginsText_0 : List UInt8 := [42, 3, 181, 0, 123, 42, 27, 181, 0, 126, 42, 3, 181, 0, 146, 42, 3, 181, 0, 201, 177]
abbrev dktX6_beginsText_0 : List UInt8 := dkwX6_beginsText_0 ++ []
theorem dksX6_beginsText_0 : cX6_beginsText.data.toList.drop 0 = dktX6_beginsText_0 := by decide +kernel
theorem dX6_beginsText_0 : decode cX6_beginsText 0 = .ok (.aload_n 0, 1) := dk_42 (dk_at dksX6_beginsText_0 0 rfl rfl)
theorem dX6_beginsText_1 : decode cX6_beginsText 1 = .ok (.iconst 0, 1) := dk_3 (dk_at dksX6_beginsText_0 1 rfl rfl)
theorem dX6_beginsText_2 : decode cX6_beginsText 2 = .ok (.putfield 123, 3) := dk_181 0 123 (dk_at dksX6_beginsText_0 2 rfl rfl)
theorem dX6_beginsText_5 : decode cX6_beginsText 5 = .ok (.aload_n 0, 1) := dk_42 (dk_at dksX6_beginsText_0 5 rfl rfl)
theorem dX6_beginsText_6 : decode cX6_beginsText 6 = .ok (.iload_n 1, 1) := dk_27 (dk_at dksX6_beginsText_0 6 rfl rfl)
theorem dX6_beginsText_7 : decode cX6_beginsText 7 = .ok (.putfield 126, 3) := dk_181 0 126 (dk_at dksX6_beginsText_0 7 rfl rfl)
theorem dX6_beginsText_10 : decode cX6_beginsText 10 = .ok (.aload_n 0, 1) := dk_42 (dk_at dksX6_beginsText_0 10 rfl rfl)
theorem dX6_beginsText_11 : decode cX6_beginsText 11 = .ok (.iconst 0, 1) := dk_3 (dk_at dksX6_beginsText_0 11 rfl rfl)
theorem dX6_beginsText_12 : decode cX6_beginsText 12 = .ok (.putfield 146, 3) := dk_181 0 146 (dk_at dksX6_beginsText_0 12 rfl rfl)
theorem dX6_beginsText_15 : decode cX6_beginsText 15 = .ok (.aload_n 0, 1) := dk_42 (dk_at dksX6_beginsText_0 15 rfl rfl)
theorem dX6_beginsText_16 : decode cX6_beginsText 16 = .ok (.iconst 0, 1) := dk_3 (dk_at dksX6_beginsText_0 16 rfl rfl)
theorem dX6_beginsText_17 : decode cX6_beginsText 17 = .ok (.putfield 201, 3) := dk_181 0 201 (dk_at dksX6_beginsText_0 17 rfl rfl)
theorem dX6_beginsText_20 : decode cX6_beginsText 20 = .ok (.return_, 1) := dk_177 (dk_at dksX6_beginsText_0 20 rfl rfl)
abbrev cX6_readsRule : ByteArray := prog_20_method_36_code
def yX6_readsRule : MethodName := ⟨RX6, "readsRule", "()Z"⟩
def dkwX6_readsRule_6 : List UInt8 := [180, 0, 146, 79, 42, 42, 180, 0, 201, 4, 96, 181, 0, 201, 4, 172]
abbrev dktX6_readsRule_6 : List UInt8 := dkwX6_readsRule_6 ++ []
def dkwX6_readsRule_5 : List UInt8 := [180, 0, 146, 79, 42, 182, 0, 204, 154, 0, 5, 3, 172, 42, 180, 0, 50, 42, 180, 0, 201, 42]
abbrev dktX6_readsRule_5 : List UInt8 := dkwX6_readsRule_5 ++ dktX6_readsRule_6
def dkwX6_readsRule_4 : List UInt8 := [16, 120, 159, 0, 12, 42, 182, 0, 186, 154, 0, 5, 3, 172, 42, 180, 0, 47, 42, 180, 0, 201, 42]
abbrev dktX6_readsRule_4 : List UInt8 := dkwX6_readsRule_4 ++ dktX6_readsRule_5
def dkwX6_readsRule_3 : List UInt8 := [42, 180, 0, 44, 42, 180, 0, 201, 42, 180, 0, 146, 79, 42, 3, 181, 0, 150, 42, 3, 181, 0, 153, 27]
abbrev dktX6_readsRule_3 : List UInt8 := dkwX6_readsRule_3 ++ dktX6_readsRule_4
def dkwX6_readsRule_2 : List UInt8 := [182, 0, 136, 172, 42, 180, 0, 41, 42, 180, 0, 201, 27, 79, 42, 42, 180, 0, 123, 4, 96, 181, 0, 123]
abbrev dktX6_readsRule_2 : List UInt8 := dkwX6_readsRule_2 ++ dktX6_readsRule_3
def dkwX6_readsRule_1 : List UInt8 := [4, 42, 180, 0, 123, 182, 0, 136, 172, 42, 180, 0, 201, 16, 16, 160, 0, 13, 42, 7, 42, 180, 0, 123]
abbrev dktX6_readsRule_1 : List UInt8 := dkwX6_readsRule_1 ++ dktX6_readsRule_2
def dkwX6_readsRule_0 : List UInt8 := [42, 182, 0, 129, 60, 27, 16, 101, 159, 0, 25, 27, 16, 98, 159, 0, 19, 27, 16, 120, 159, 0, 13, 42]
abbrev dktX6_readsRule_0 : List UInt8 := dkwX6_readsRule_0 ++ dktX6_readsRule_1
theorem dksX6_readsRule_0 : cX6_readsRule.data.toList.drop 0 = dktX6_readsRule_0 := by decide +kernel
theorem dksX6_readsRule_1 : cX6_readsRule.data.toList.drop 24 = dktX6_readsRule_1 := dk_seg dksX6_readsRule_0 24 rfl rfl
theorem dksX6_readsRule_2 : cX6_readsRule.data.toList.drop 48 = dktX6_readsRule_2 := dk_seg dksX6_readsRule_1 24 rfl rfl
theorem dksX6_readsRule_3 : cX6_readsRule.data.toList.drop 72 = dktX6_readsRule_3 := dk_seg dksX6_readsRule_2 24 rfl rfl
theorem dksX6_readsRule_4 : cX6_readsRule.data.toList.drop 96 = dktX6_readsRule_4 := dk_seg dksX6_readsRule_3 24 rfl rfl
theorem dksX6_readsRule_5 : cX6_readsRule.data.toList.drop 119 = dktX6_readsRule_5 := dk_seg dksX6_readsRule_4 23 rfl rfl
theorem dksX6_readsRule_6 : cX6_readsRule.data.toList.drop 141 = dktX6_readsRule_6 := dk_seg dksX6_readsRule_5 22 rfl rfl
theorem dX6_readsRule_0 : decode cX6_readsRule 0 = .ok (.aload_n 0, 1) := dk_42 (dk_at dksX6_readsRule_0 0 rfl rfl)
theorem dX6_readsRule_1 : decode cX6_readsRule 1 = .ok (.invokevirtual 129, 3) := dk_182 0 129 (dk_at dksX6_readsRule_0 1 rfl rfl)
theorem dX6_readsRule_4 : decode cX6_readsRule 4 = .ok (.istore_n 1, 1) := dk_60 (dk_at dksX6_readsRule_0 4 rfl rfl)
theorem dX6_readsRule_5 : decode cX6_readsRule 5 = .ok (.iload_n 1, 1) := dk_27 (dk_at dksX6_readsRule_0 5 rfl rfl)
theorem dX6_readsRule_6 : decode cX6_readsRule 6 = .ok (.bipush 101, 2) := dk_16 101 (dk_at dksX6_readsRule_0 6 rfl rfl)
theorem dX6_readsRule_8 : decode cX6_readsRule 8 = .ok (.if_icmp .eq 25, 3) := dk_159 0 25 (dk_at dksX6_readsRule_0 8 rfl rfl)
theorem dX6_readsRule_11 : decode cX6_readsRule 11 = .ok (.iload_n 1, 1) := dk_27 (dk_at dksX6_readsRule_0 11 rfl rfl)
theorem dX6_readsRule_12 : decode cX6_readsRule 12 = .ok (.bipush 98, 2) := dk_16 98 (dk_at dksX6_readsRule_0 12 rfl rfl)
theorem dX6_readsRule_14 : decode cX6_readsRule 14 = .ok (.if_icmp .eq 19, 3) := dk_159 0 19 (dk_at dksX6_readsRule_0 14 rfl rfl)
theorem dX6_readsRule_17 : decode cX6_readsRule 17 = .ok (.iload_n 1, 1) := dk_27 (dk_at dksX6_readsRule_0 17 rfl rfl)
theorem dX6_readsRule_18 : decode cX6_readsRule 18 = .ok (.bipush 120, 2) := dk_16 120 (dk_at dksX6_readsRule_0 18 rfl rfl)
theorem dX6_readsRule_20 : decode cX6_readsRule 20 = .ok (.if_icmp .eq 13, 3) := dk_159 0 13 (dk_at dksX6_readsRule_0 20 rfl rfl)
theorem dX6_readsRule_23 : decode cX6_readsRule 23 = .ok (.aload_n 0, 1) := dk_42 (dk_at dksX6_readsRule_0 23 rfl rfl)
theorem dX6_readsRule_24 : decode cX6_readsRule 24 = .ok (.iconst 1, 1) := dk_4 (dk_at dksX6_readsRule_1 0 rfl rfl)
theorem dX6_readsRule_25 : decode cX6_readsRule 25 = .ok (.aload_n 0, 1) := dk_42 (dk_at dksX6_readsRule_1 1 rfl rfl)
theorem dX6_readsRule_26 : decode cX6_readsRule 26 = .ok (.getfield 123, 3) := dk_180 0 123 (dk_at dksX6_readsRule_1 2 rfl rfl)
theorem dX6_readsRule_29 : decode cX6_readsRule 29 = .ok (.invokevirtual 136, 3) := dk_182 0 136 (dk_at dksX6_readsRule_1 5 rfl rfl)
theorem dX6_readsRule_32 : decode cX6_readsRule 32 = .ok (.ireturn, 1) := dk_172 (dk_at dksX6_readsRule_1 8 rfl rfl)
theorem dX6_readsRule_33 : decode cX6_readsRule 33 = .ok (.aload_n 0, 1) := dk_42 (dk_at dksX6_readsRule_1 9 rfl rfl)
theorem dX6_readsRule_34 : decode cX6_readsRule 34 = .ok (.getfield 201, 3) := dk_180 0 201 (dk_at dksX6_readsRule_1 10 rfl rfl)
theorem dX6_readsRule_37 : decode cX6_readsRule 37 = .ok (.bipush 16, 2) := dk_16 16 (dk_at dksX6_readsRule_1 13 rfl rfl)
theorem dX6_readsRule_39 : decode cX6_readsRule 39 = .ok (.if_icmp .ne 13, 3) := dk_160 0 13 (dk_at dksX6_readsRule_1 15 rfl rfl)
theorem dX6_readsRule_42 : decode cX6_readsRule 42 = .ok (.aload_n 0, 1) := dk_42 (dk_at dksX6_readsRule_1 18 rfl rfl)
theorem dX6_readsRule_43 : decode cX6_readsRule 43 = .ok (.iconst 4, 1) := dk_7 (dk_at dksX6_readsRule_1 19 rfl rfl)
theorem dX6_readsRule_44 : decode cX6_readsRule 44 = .ok (.aload_n 0, 1) := dk_42 (dk_at dksX6_readsRule_1 20 rfl rfl)
theorem dX6_readsRule_45 : decode cX6_readsRule 45 = .ok (.getfield 123, 3) := dk_180 0 123 (dk_at dksX6_readsRule_1 21 rfl rfl)
theorem dX6_readsRule_48 : decode cX6_readsRule 48 = .ok (.invokevirtual 136, 3) := dk_182 0 136 (dk_at dksX6_readsRule_2 0 rfl rfl)
theorem dX6_readsRule_51 : decode cX6_readsRule 51 = .ok (.ireturn, 1) := dk_172 (dk_at dksX6_readsRule_2 3 rfl rfl)
theorem dX6_readsRule_52 : decode cX6_readsRule 52 = .ok (.aload_n 0, 1) := dk_42 (dk_at dksX6_readsRule_2 4 rfl rfl)
theorem dX6_readsRule_53 : decode cX6_readsRule 53 = .ok (.getfield 41, 3) := dk_180 0 41 (dk_at dksX6_readsRule_2 5 rfl rfl)
theorem dX6_readsRule_56 : decode cX6_readsRule 56 = .ok (.aload_n 0, 1) := dk_42 (dk_at dksX6_readsRule_2 8 rfl rfl)
theorem dX6_readsRule_57 : decode cX6_readsRule 57 = .ok (.getfield 201, 3) := dk_180 0 201 (dk_at dksX6_readsRule_2 9 rfl rfl)
theorem dX6_readsRule_60 : decode cX6_readsRule 60 = .ok (.iload_n 1, 1) := dk_27 (dk_at dksX6_readsRule_2 12 rfl rfl)
theorem dX6_readsRule_61 : decode cX6_readsRule 61 = .ok (.iastore, 1) := dk_79 (dk_at dksX6_readsRule_2 13 rfl rfl)
theorem dX6_readsRule_62 : decode cX6_readsRule 62 = .ok (.aload_n 0, 1) := dk_42 (dk_at dksX6_readsRule_2 14 rfl rfl)
theorem dX6_readsRule_63 : decode cX6_readsRule 63 = .ok (.aload_n 0, 1) := dk_42 (dk_at dksX6_readsRule_2 15 rfl rfl)
theorem dX6_readsRule_64 : decode cX6_readsRule 64 = .ok (.getfield 123, 3) := dk_180 0 123 (dk_at dksX6_readsRule_2 16 rfl rfl)
theorem dX6_readsRule_67 : decode cX6_readsRule 67 = .ok (.iconst 1, 1) := dk_4 (dk_at dksX6_readsRule_2 19 rfl rfl)
theorem dX6_readsRule_68 : decode cX6_readsRule 68 = .ok (.iadd, 1) := dk_96 (dk_at dksX6_readsRule_2 20 rfl rfl)
theorem dX6_readsRule_69 : decode cX6_readsRule 69 = .ok (.putfield 123, 3) := dk_181 0 123 (dk_at dksX6_readsRule_2 21 rfl rfl)
theorem dX6_readsRule_72 : decode cX6_readsRule 72 = .ok (.aload_n 0, 1) := dk_42 (dk_at dksX6_readsRule_3 0 rfl rfl)
theorem dX6_readsRule_73 : decode cX6_readsRule 73 = .ok (.getfield 44, 3) := dk_180 0 44 (dk_at dksX6_readsRule_3 1 rfl rfl)
theorem dX6_readsRule_76 : decode cX6_readsRule 76 = .ok (.aload_n 0, 1) := dk_42 (dk_at dksX6_readsRule_3 4 rfl rfl)
theorem dX6_readsRule_77 : decode cX6_readsRule 77 = .ok (.getfield 201, 3) := dk_180 0 201 (dk_at dksX6_readsRule_3 5 rfl rfl)
theorem dX6_readsRule_80 : decode cX6_readsRule 80 = .ok (.aload_n 0, 1) := dk_42 (dk_at dksX6_readsRule_3 8 rfl rfl)
theorem dX6_readsRule_81 : decode cX6_readsRule 81 = .ok (.getfield 146, 3) := dk_180 0 146 (dk_at dksX6_readsRule_3 9 rfl rfl)
theorem dX6_readsRule_84 : decode cX6_readsRule 84 = .ok (.iastore, 1) := dk_79 (dk_at dksX6_readsRule_3 12 rfl rfl)
theorem dX6_readsRule_85 : decode cX6_readsRule 85 = .ok (.aload_n 0, 1) := dk_42 (dk_at dksX6_readsRule_3 13 rfl rfl)
theorem dX6_readsRule_86 : decode cX6_readsRule 86 = .ok (.iconst 0, 1) := dk_3 (dk_at dksX6_readsRule_3 14 rfl rfl)
theorem dX6_readsRule_87 : decode cX6_readsRule 87 = .ok (.putfield 150, 3) := dk_181 0 150 (dk_at dksX6_readsRule_3 15 rfl rfl)
theorem dX6_readsRule_90 : decode cX6_readsRule 90 = .ok (.aload_n 0, 1) := dk_42 (dk_at dksX6_readsRule_3 18 rfl rfl)
theorem dX6_readsRule_91 : decode cX6_readsRule 91 = .ok (.iconst 0, 1) := dk_3 (dk_at dksX6_readsRule_3 19 rfl rfl)
theorem dX6_readsRule_92 : decode cX6_readsRule 92 = .ok (.putfield 153, 3) := dk_181 0 153 (dk_at dksX6_readsRule_3 20 rfl rfl)
theorem dX6_readsRule_95 : decode cX6_readsRule 95 = .ok (.iload_n 1, 1) := dk_27 (dk_at dksX6_readsRule_3 23 rfl rfl)
theorem dX6_readsRule_96 : decode cX6_readsRule 96 = .ok (.bipush 120, 2) := dk_16 120 (dk_at dksX6_readsRule_4 0 rfl rfl)
theorem dX6_readsRule_98 : decode cX6_readsRule 98 = .ok (.if_icmp .eq 12, 3) := dk_159 0 12 (dk_at dksX6_readsRule_4 2 rfl rfl)
theorem dX6_readsRule_101 : decode cX6_readsRule 101 = .ok (.aload_n 0, 1) := dk_42 (dk_at dksX6_readsRule_4 5 rfl rfl)
theorem dX6_readsRule_102 : decode cX6_readsRule 102 = .ok (.invokevirtual 186, 3) := dk_182 0 186 (dk_at dksX6_readsRule_4 6 rfl rfl)
theorem dX6_readsRule_105 : decode cX6_readsRule 105 = .ok (.ifCond .ne 5, 3) := dk_154 0 5 (dk_at dksX6_readsRule_4 9 rfl rfl)
theorem dX6_readsRule_108 : decode cX6_readsRule 108 = .ok (.iconst 0, 1) := dk_3 (dk_at dksX6_readsRule_4 12 rfl rfl)
theorem dX6_readsRule_109 : decode cX6_readsRule 109 = .ok (.ireturn, 1) := dk_172 (dk_at dksX6_readsRule_4 13 rfl rfl)
theorem dX6_readsRule_110 : decode cX6_readsRule 110 = .ok (.aload_n 0, 1) := dk_42 (dk_at dksX6_readsRule_4 14 rfl rfl)
theorem dX6_readsRule_111 : decode cX6_readsRule 111 = .ok (.getfield 47, 3) := dk_180 0 47 (dk_at dksX6_readsRule_4 15 rfl rfl)
theorem dX6_readsRule_114 : decode cX6_readsRule 114 = .ok (.aload_n 0, 1) := dk_42 (dk_at dksX6_readsRule_4 18 rfl rfl)
theorem dX6_readsRule_115 : decode cX6_readsRule 115 = .ok (.getfield 201, 3) := dk_180 0 201 (dk_at dksX6_readsRule_4 19 rfl rfl)
theorem dX6_readsRule_118 : decode cX6_readsRule 118 = .ok (.aload_n 0, 1) := dk_42 (dk_at dksX6_readsRule_4 22 rfl rfl)
theorem dX6_readsRule_119 : decode cX6_readsRule 119 = .ok (.getfield 146, 3) := dk_180 0 146 (dk_at dksX6_readsRule_5 0 rfl rfl)
theorem dX6_readsRule_122 : decode cX6_readsRule 122 = .ok (.iastore, 1) := dk_79 (dk_at dksX6_readsRule_5 3 rfl rfl)
theorem dX6_readsRule_123 : decode cX6_readsRule 123 = .ok (.aload_n 0, 1) := dk_42 (dk_at dksX6_readsRule_5 4 rfl rfl)
theorem dX6_readsRule_124 : decode cX6_readsRule 124 = .ok (.invokevirtual 204, 3) := dk_182 0 204 (dk_at dksX6_readsRule_5 5 rfl rfl)
theorem dX6_readsRule_127 : decode cX6_readsRule 127 = .ok (.ifCond .ne 5, 3) := dk_154 0 5 (dk_at dksX6_readsRule_5 8 rfl rfl)
theorem dX6_readsRule_130 : decode cX6_readsRule 130 = .ok (.iconst 0, 1) := dk_3 (dk_at dksX6_readsRule_5 11 rfl rfl)
theorem dX6_readsRule_131 : decode cX6_readsRule 131 = .ok (.ireturn, 1) := dk_172 (dk_at dksX6_readsRule_5 12 rfl rfl)
theorem dX6_readsRule_132 : decode cX6_readsRule 132 = .ok (.aload_n 0, 1) := dk_42 (dk_at dksX6_readsRule_5 13 rfl rfl)
theorem dX6_readsRule_133 : decode cX6_readsRule 133 = .ok (.getfield 50, 3) := dk_180 0 50 (dk_at dksX6_readsRule_5 14 rfl rfl)
theorem dX6_readsRule_136 : decode cX6_readsRule 136 = .ok (.aload_n 0, 1) := dk_42 (dk_at dksX6_readsRule_5 17 rfl rfl)
theorem dX6_readsRule_137 : decode cX6_readsRule 137 = .ok (.getfield 201, 3) := dk_180 0 201 (dk_at dksX6_readsRule_5 18 rfl rfl)
theorem dX6_readsRule_140 : decode cX6_readsRule 140 = .ok (.aload_n 0, 1) := dk_42 (dk_at dksX6_readsRule_5 21 rfl rfl)
theorem dX6_readsRule_141 : decode cX6_readsRule 141 = .ok (.getfield 146, 3) := dk_180 0 146 (dk_at dksX6_readsRule_6 0 rfl rfl)
theorem dX6_readsRule_144 : decode cX6_readsRule 144 = .ok (.iastore, 1) := dk_79 (dk_at dksX6_readsRule_6 3 rfl rfl)
theorem dX6_readsRule_145 : decode cX6_readsRule 145 = .ok (.aload_n 0, 1) := dk_42 (dk_at dksX6_readsRule_6 4 rfl rfl)
theorem dX6_readsRule_146 : decode cX6_readsRule 146 = .ok (.aload_n 0, 1) := dk_42 (dk_at dksX6_readsRule_6 5 rfl rfl)
theorem dX6_readsRule_147 : decode cX6_readsRule 147 = .ok (.getfield 201, 3) := dk_180 0 201 (dk_at dksX6_readsRule_6 6 rfl rfl)
theorem dX6_readsRule_150 : decode cX6_readsRule 150 = .ok (.iconst 1, 1) := dk_4 (dk_at dksX6_readsRule_6 9 rfl rfl)
theorem dX6_readsRule_151 : decode cX6_readsRule 151 = .ok (.iadd, 1) := dk_96 (dk_at dksX6_readsRule_6 10 rfl rfl)
theorem dX6_readsRule_152 : decode cX6_readsRule 152 = .ok (.putfield 201, 3) := dk_181 0 201 (dk_at dksX6_readsRule_6 11 rfl rfl)
theorem dX6_readsRule_155 : decode cX6_readsRule 155 = .ok (.iconst 1, 1) := dk_4 (dk_at dksX6_readsRule_6 14 rfl rfl)
theorem dX6_readsRule_156 : decode cX6_readsRule 156 = .ok (.ireturn, 1) := dk_172 (dk_at dksX6_readsRule_6 15 rfl rfl)
abbrev cX6_here : ByteArray := prog_20_method_17_code
def yX6_here : MethodName := ⟨RX6, "here", "()I"⟩
def dkwX6_here_1 : List UInt8 := [167, 0, 4, 2, 172]
abbrev dktX6_here_1 : List UInt8 := dkwX6_here_1 ++ []
def dkwX6_here_0 : List UInt8 := [42, 180, 0, 123, 42, 180, 0, 126, 162, 0, 19, 42, 180, 0, 31, 42, 180, 0, 123, 51, 17, 0, 255, 126]
abbrev dktX6_here_0 : List UInt8 := dkwX6_here_0 ++ dktX6_here_1
theorem dksX6_here_0 : cX6_here.data.toList.drop 0 = dktX6_here_0 := by decide +kernel
theorem dksX6_here_1 : cX6_here.data.toList.drop 24 = dktX6_here_1 := dk_seg dksX6_here_0 24 rfl rfl
theorem dX6_here_0 : decode cX6_here 0 = .ok (.aload_n 0, 1) := dk_42 (dk_at dksX6_here_0 0 rfl rfl)
theorem dX6_here_1 : decode cX6_here 1 = .ok (.getfield 123, 3) := dk_180 0 123 (dk_at dksX6_here_0 1 rfl rfl)
theorem dX6_here_4 : decode cX6_here 4 = .ok (.aload_n 0, 1) := dk_42 (dk_at dksX6_here_0 4 rfl rfl)
theorem dX6_here_5 : decode cX6_here 5 = .ok (.getfield 126, 3) := dk_180 0 126 (dk_at dksX6_here_0 5 rfl rfl)
theorem dX6_here_8 : decode cX6_here 8 = .ok (.if_icmp .ge 19, 3) := dk_162 0 19 (dk_at dksX6_here_0 8 rfl rfl)
theorem dX6_here_11 : decode cX6_here 11 = .ok (.aload_n 0, 1) := dk_42 (dk_at dksX6_here_0 11 rfl rfl)
theorem dX6_here_12 : decode cX6_here 12 = .ok (.getfield 31, 3) := dk_180 0 31 (dk_at dksX6_here_0 12 rfl rfl)
theorem dX6_here_15 : decode cX6_here 15 = .ok (.aload_n 0, 1) := dk_42 (dk_at dksX6_here_0 15 rfl rfl)
theorem dX6_here_16 : decode cX6_here 16 = .ok (.getfield 123, 3) := dk_180 0 123 (dk_at dksX6_here_0 16 rfl rfl)
theorem dX6_here_19 : decode cX6_here 19 = .ok (.baload, 1) := dk_51 (dk_at dksX6_here_0 19 rfl rfl)
theorem dX6_here_20 : decode cX6_here 20 = .ok (.sipush 255, 3) := dk_17 0 255 (dk_at dksX6_here_0 20 rfl rfl)
theorem dX6_here_23 : decode cX6_here 23 = .ok (.iand, 1) := dk_126 (dk_at dksX6_here_0 23 rfl rfl)
theorem dX6_here_24 : decode cX6_here 24 = .ok (.goto 4, 3) := dk_167 0 4 (dk_at dksX6_here_1 0 rfl rfl)
theorem dX6_here_27 : decode cX6_here 27 = .ok (.iconst (-1), 1) := dk_2 (dk_at dksX6_here_1 3 rfl rfl)
theorem dX6_here_28 : decode cX6_here 28 = .ok (.ireturn, 1) := dk_172 (dk_at dksX6_here_1 4 rfl rfl)
abbrev cX6_wrongAt : ByteArray := prog_20_method_19_code
def yX6_wrongAt : MethodName := ⟨RX6, "wrongAt", "(II)Z"⟩
def dkwX6_wrongAt_0 : List UInt8 := [42, 17, 252, 24, 27, 104, 28, 100, 181, 0, 133, 3, 172]
abbrev dktX6_wrongAt_0 : List UInt8 := dkwX6_wrongAt_0 ++ []
theorem dksX6_wrongAt_0 : cX6_wrongAt.data.toList.drop 0 = dktX6_wrongAt_0 := by decide +kernel
theorem dX6_wrongAt_0 : decode cX6_wrongAt 0 = .ok (.aload_n 0, 1) := dk_42 (dk_at dksX6_wrongAt_0 0 rfl rfl)
theorem dX6_wrongAt_1 : decode cX6_wrongAt 1 = .ok (.sipush (-1000), 3) := dk_17 252 24 (dk_at dksX6_wrongAt_0 1 rfl rfl)
theorem dX6_wrongAt_4 : decode cX6_wrongAt 4 = .ok (.iload_n 1, 1) := dk_27 (dk_at dksX6_wrongAt_0 4 rfl rfl)
theorem dX6_wrongAt_5 : decode cX6_wrongAt 5 = .ok (.imul, 1) := dk_104 (dk_at dksX6_wrongAt_0 5 rfl rfl)
theorem dX6_wrongAt_6 : decode cX6_wrongAt 6 = .ok (.iload_n 2, 1) := dk_28 (dk_at dksX6_wrongAt_0 6 rfl rfl)
theorem dX6_wrongAt_7 : decode cX6_wrongAt 7 = .ok (.isub, 1) := dk_100 (dk_at dksX6_wrongAt_0 7 rfl rfl)
theorem dX6_wrongAt_8 : decode cX6_wrongAt 8 = .ok (.putfield 133, 3) := dk_181 0 133 (dk_at dksX6_wrongAt_0 8 rfl rfl)
theorem dX6_wrongAt_11 : decode cX6_wrongAt 11 = .ok (.iconst 0, 1) := dk_3 (dk_at dksX6_wrongAt_0 11 rfl rfl)
theorem dX6_wrongAt_12 : decode cX6_wrongAt 12 = .ok (.ireturn, 1) := dk_172 (dk_at dksX6_wrongAt_0 12 rfl rfl)
abbrev cX6_readsSum : ByteArray := prog_20_method_30_code
def yX6_readsSum : MethodName := ⟨RX6, "readsSum", "()Z"⟩
def dkwX6_readsSum_7 : List UInt8 := [167, 255, 107]
abbrev dktX6_readsSum_7 : List UInt8 := dkwX6_readsSum_7 ++ []
def dkwX6_readsSum_6 : List UInt8 := [182, 0, 183, 153, 0, 13, 42, 4, 42, 180, 0, 123, 182, 0, 136, 172, 42, 4, 182, 0, 179, 4, 172]
abbrev dktX6_readsSum_6 : List UInt8 := dkwX6_readsSum_6 ++ dktX6_readsSum_7
def dkwX6_readsSum_5 : List UInt8 := [180, 0, 150, 4, 100, 181, 0, 150, 42, 42, 180, 0, 123, 4, 96, 181, 0, 123, 167, 0, 28, 42, 27]
abbrev dktX6_readsSum_5 : List UInt8 := dkwX6_readsSum_5 ++ dktX6_readsSum_6
def dkwX6_readsSum_4 : List UInt8 := [182, 0, 183, 153, 0, 41, 42, 4, 182, 0, 179, 42, 42, 180, 0, 153, 4, 100, 181, 0, 153, 42, 42]
abbrev dktX6_readsSum_4 : List UInt8 := dkwX6_readsSum_4 ++ dktX6_readsSum_5
def dkwX6_readsSum_3 : List UInt8 := [96, 181, 0, 123, 42, 182, 0, 173, 154, 0, 85, 3, 172, 42, 182, 0, 129, 16, 93, 160, 0, 49, 42, 27]
abbrev dktX6_readsSum_3 : List UInt8 := dkwX6_readsSum_3 ++ dktX6_readsSum_4
def dkwX6_readsSum_2 : List UInt8 := [180, 0, 153, 18, 149, 28, 104, 79, 42, 42, 180, 0, 153, 4, 96, 181, 0, 153, 42, 42, 180, 0, 123, 4]
abbrev dktX6_readsSum_2 : List UInt8 := dkwX6_readsSum_2 ++ dktX6_readsSum_3
def dkwX6_readsSum_1 : List UInt8 := [159, 0, 59, 42, 28, 7, 162, 0, 7, 4, 167, 0, 4, 3, 182, 0, 179, 42, 180, 0, 38, 42]
abbrev dktX6_readsSum_1 : List UInt8 := dkwX6_readsSum_1 ++ dktX6_readsSum_2
def dkwX6_readsSum_0 : List UInt8 := [42, 180, 0, 153, 60, 42, 182, 0, 173, 154, 0, 5, 3, 172, 42, 182, 0, 129, 184, 0, 176, 61, 28, 2]
abbrev dktX6_readsSum_0 : List UInt8 := dkwX6_readsSum_0 ++ dktX6_readsSum_1
theorem dksX6_readsSum_0 : cX6_readsSum.data.toList.drop 0 = dktX6_readsSum_0 := by decide +kernel
theorem dksX6_readsSum_1 : cX6_readsSum.data.toList.drop 24 = dktX6_readsSum_1 := dk_seg dksX6_readsSum_0 24 rfl rfl
theorem dksX6_readsSum_2 : cX6_readsSum.data.toList.drop 46 = dktX6_readsSum_2 := dk_seg dksX6_readsSum_1 22 rfl rfl
theorem dksX6_readsSum_3 : cX6_readsSum.data.toList.drop 70 = dktX6_readsSum_3 := dk_seg dksX6_readsSum_2 24 rfl rfl
theorem dksX6_readsSum_4 : cX6_readsSum.data.toList.drop 94 = dktX6_readsSum_4 := dk_seg dksX6_readsSum_3 24 rfl rfl
theorem dksX6_readsSum_5 : cX6_readsSum.data.toList.drop 117 = dktX6_readsSum_5 := dk_seg dksX6_readsSum_4 23 rfl rfl
theorem dksX6_readsSum_6 : cX6_readsSum.data.toList.drop 140 = dktX6_readsSum_6 := dk_seg dksX6_readsSum_5 23 rfl rfl
theorem dksX6_readsSum_7 : cX6_readsSum.data.toList.drop 163 = dktX6_readsSum_7 := dk_seg dksX6_readsSum_6 23 rfl rfl
theorem dX6_readsSum_0 : decode cX6_readsSum 0 = .ok (.aload_n 0, 1) := dk_42 (dk_at dksX6_readsSum_0 0 rfl rfl)
theorem dX6_readsSum_1 : decode cX6_readsSum 1 = .ok (.getfield 153, 3) := dk_180 0 153 (dk_at dksX6_readsSum_0 1 rfl rfl)
theorem dX6_readsSum_4 : decode cX6_readsSum 4 = .ok (.istore_n 1, 1) := dk_60 (dk_at dksX6_readsSum_0 4 rfl rfl)
theorem dX6_readsSum_5 : decode cX6_readsSum 5 = .ok (.aload_n 0, 1) := dk_42 (dk_at dksX6_readsSum_0 5 rfl rfl)
theorem dX6_readsSum_6 : decode cX6_readsSum 6 = .ok (.invokevirtual 173, 3) := dk_182 0 173 (dk_at dksX6_readsSum_0 6 rfl rfl)
theorem dX6_readsSum_9 : decode cX6_readsSum 9 = .ok (.ifCond .ne 5, 3) := dk_154 0 5 (dk_at dksX6_readsSum_0 9 rfl rfl)
theorem dX6_readsSum_12 : decode cX6_readsSum 12 = .ok (.iconst 0, 1) := dk_3 (dk_at dksX6_readsSum_0 12 rfl rfl)
theorem dX6_readsSum_13 : decode cX6_readsSum 13 = .ok (.ireturn, 1) := dk_172 (dk_at dksX6_readsSum_0 13 rfl rfl)
theorem dX6_readsSum_14 : decode cX6_readsSum 14 = .ok (.aload_n 0, 1) := dk_42 (dk_at dksX6_readsSum_0 14 rfl rfl)
theorem dX6_readsSum_15 : decode cX6_readsSum 15 = .ok (.invokevirtual 129, 3) := dk_182 0 129 (dk_at dksX6_readsSum_0 15 rfl rfl)
theorem dX6_readsSum_18 : decode cX6_readsSum 18 = .ok (.invokestatic 176, 3) := dk_184 0 176 (dk_at dksX6_readsSum_0 18 rfl rfl)
theorem dX6_readsSum_21 : decode cX6_readsSum 21 = .ok (.istore_n 2, 1) := dk_61 (dk_at dksX6_readsSum_0 21 rfl rfl)
theorem dX6_readsSum_22 : decode cX6_readsSum 22 = .ok (.iload_n 2, 1) := dk_28 (dk_at dksX6_readsSum_0 22 rfl rfl)
theorem dX6_readsSum_23 : decode cX6_readsSum 23 = .ok (.iconst (-1), 1) := dk_2 (dk_at dksX6_readsSum_0 23 rfl rfl)
theorem dX6_readsSum_24 : decode cX6_readsSum 24 = .ok (.if_icmp .eq 59, 3) := dk_159 0 59 (dk_at dksX6_readsSum_1 0 rfl rfl)
theorem dX6_readsSum_27 : decode cX6_readsSum 27 = .ok (.aload_n 0, 1) := dk_42 (dk_at dksX6_readsSum_1 3 rfl rfl)
theorem dX6_readsSum_28 : decode cX6_readsSum 28 = .ok (.iload_n 2, 1) := dk_28 (dk_at dksX6_readsSum_1 4 rfl rfl)
theorem dX6_readsSum_29 : decode cX6_readsSum 29 = .ok (.iconst 4, 1) := dk_7 (dk_at dksX6_readsSum_1 5 rfl rfl)
theorem dX6_readsSum_30 : decode cX6_readsSum 30 = .ok (.if_icmp .ge 7, 3) := dk_162 0 7 (dk_at dksX6_readsSum_1 6 rfl rfl)
theorem dX6_readsSum_33 : decode cX6_readsSum 33 = .ok (.iconst 1, 1) := dk_4 (dk_at dksX6_readsSum_1 9 rfl rfl)
theorem dX6_readsSum_34 : decode cX6_readsSum 34 = .ok (.goto 4, 3) := dk_167 0 4 (dk_at dksX6_readsSum_1 10 rfl rfl)
theorem dX6_readsSum_37 : decode cX6_readsSum 37 = .ok (.iconst 0, 1) := dk_3 (dk_at dksX6_readsSum_1 13 rfl rfl)
theorem dX6_readsSum_38 : decode cX6_readsSum 38 = .ok (.invokevirtual 179, 3) := dk_182 0 179 (dk_at dksX6_readsSum_1 14 rfl rfl)
theorem dX6_readsSum_41 : decode cX6_readsSum 41 = .ok (.aload_n 0, 1) := dk_42 (dk_at dksX6_readsSum_1 17 rfl rfl)
theorem dX6_readsSum_42 : decode cX6_readsSum 42 = .ok (.getfield 38, 3) := dk_180 0 38 (dk_at dksX6_readsSum_1 18 rfl rfl)
theorem dX6_readsSum_45 : decode cX6_readsSum 45 = .ok (.aload_n 0, 1) := dk_42 (dk_at dksX6_readsSum_1 21 rfl rfl)
theorem dX6_readsSum_46 : decode cX6_readsSum 46 = .ok (.getfield 153, 3) := dk_180 0 153 (dk_at dksX6_readsSum_2 0 rfl rfl)
theorem dX6_readsSum_49 : decode cX6_readsSum 49 = .ok (.ldc 149, 2) := dk_18 149 (dk_at dksX6_readsSum_2 3 rfl rfl)
theorem dX6_readsSum_51 : decode cX6_readsSum 51 = .ok (.iload_n 2, 1) := dk_28 (dk_at dksX6_readsSum_2 5 rfl rfl)
theorem dX6_readsSum_52 : decode cX6_readsSum 52 = .ok (.imul, 1) := dk_104 (dk_at dksX6_readsSum_2 6 rfl rfl)
theorem dX6_readsSum_53 : decode cX6_readsSum 53 = .ok (.iastore, 1) := dk_79 (dk_at dksX6_readsSum_2 7 rfl rfl)
theorem dX6_readsSum_54 : decode cX6_readsSum 54 = .ok (.aload_n 0, 1) := dk_42 (dk_at dksX6_readsSum_2 8 rfl rfl)
theorem dX6_readsSum_55 : decode cX6_readsSum 55 = .ok (.aload_n 0, 1) := dk_42 (dk_at dksX6_readsSum_2 9 rfl rfl)
theorem dX6_readsSum_56 : decode cX6_readsSum 56 = .ok (.getfield 153, 3) := dk_180 0 153 (dk_at dksX6_readsSum_2 10 rfl rfl)
theorem dX6_readsSum_59 : decode cX6_readsSum 59 = .ok (.iconst 1, 1) := dk_4 (dk_at dksX6_readsSum_2 13 rfl rfl)
theorem dX6_readsSum_60 : decode cX6_readsSum 60 = .ok (.iadd, 1) := dk_96 (dk_at dksX6_readsSum_2 14 rfl rfl)
theorem dX6_readsSum_61 : decode cX6_readsSum 61 = .ok (.putfield 153, 3) := dk_181 0 153 (dk_at dksX6_readsSum_2 15 rfl rfl)
theorem dX6_readsSum_64 : decode cX6_readsSum 64 = .ok (.aload_n 0, 1) := dk_42 (dk_at dksX6_readsSum_2 18 rfl rfl)
theorem dX6_readsSum_65 : decode cX6_readsSum 65 = .ok (.aload_n 0, 1) := dk_42 (dk_at dksX6_readsSum_2 19 rfl rfl)
theorem dX6_readsSum_66 : decode cX6_readsSum 66 = .ok (.getfield 123, 3) := dk_180 0 123 (dk_at dksX6_readsSum_2 20 rfl rfl)
theorem dX6_readsSum_69 : decode cX6_readsSum 69 = .ok (.iconst 1, 1) := dk_4 (dk_at dksX6_readsSum_2 23 rfl rfl)
theorem dX6_readsSum_70 : decode cX6_readsSum 70 = .ok (.iadd, 1) := dk_96 (dk_at dksX6_readsSum_3 0 rfl rfl)
theorem dX6_readsSum_71 : decode cX6_readsSum 71 = .ok (.putfield 123, 3) := dk_181 0 123 (dk_at dksX6_readsSum_3 1 rfl rfl)
theorem dX6_readsSum_74 : decode cX6_readsSum 74 = .ok (.aload_n 0, 1) := dk_42 (dk_at dksX6_readsSum_3 4 rfl rfl)
theorem dX6_readsSum_75 : decode cX6_readsSum 75 = .ok (.invokevirtual 173, 3) := dk_182 0 173 (dk_at dksX6_readsSum_3 5 rfl rfl)
theorem dX6_readsSum_78 : decode cX6_readsSum 78 = .ok (.ifCond .ne 85, 3) := dk_154 0 85 (dk_at dksX6_readsSum_3 8 rfl rfl)
theorem dX6_readsSum_81 : decode cX6_readsSum 81 = .ok (.iconst 0, 1) := dk_3 (dk_at dksX6_readsSum_3 11 rfl rfl)
theorem dX6_readsSum_82 : decode cX6_readsSum 82 = .ok (.ireturn, 1) := dk_172 (dk_at dksX6_readsSum_3 12 rfl rfl)
theorem dX6_readsSum_83 : decode cX6_readsSum 83 = .ok (.aload_n 0, 1) := dk_42 (dk_at dksX6_readsSum_3 13 rfl rfl)
theorem dX6_readsSum_84 : decode cX6_readsSum 84 = .ok (.invokevirtual 129, 3) := dk_182 0 129 (dk_at dksX6_readsSum_3 14 rfl rfl)
theorem dX6_readsSum_87 : decode cX6_readsSum 87 = .ok (.bipush 93, 2) := dk_16 93 (dk_at dksX6_readsSum_3 17 rfl rfl)
theorem dX6_readsSum_89 : decode cX6_readsSum 89 = .ok (.if_icmp .ne 49, 3) := dk_160 0 49 (dk_at dksX6_readsSum_3 19 rfl rfl)
theorem dX6_readsSum_92 : decode cX6_readsSum 92 = .ok (.aload_n 0, 1) := dk_42 (dk_at dksX6_readsSum_3 22 rfl rfl)
theorem dX6_readsSum_93 : decode cX6_readsSum 93 = .ok (.iload_n 1, 1) := dk_27 (dk_at dksX6_readsSum_3 23 rfl rfl)
theorem dX6_readsSum_94 : decode cX6_readsSum 94 = .ok (.invokevirtual 183, 3) := dk_182 0 183 (dk_at dksX6_readsSum_4 0 rfl rfl)
theorem dX6_readsSum_97 : decode cX6_readsSum 97 = .ok (.ifCond .eq 41, 3) := dk_153 0 41 (dk_at dksX6_readsSum_4 3 rfl rfl)
theorem dX6_readsSum_100 : decode cX6_readsSum 100 = .ok (.aload_n 0, 1) := dk_42 (dk_at dksX6_readsSum_4 6 rfl rfl)
theorem dX6_readsSum_101 : decode cX6_readsSum 101 = .ok (.iconst 1, 1) := dk_4 (dk_at dksX6_readsSum_4 7 rfl rfl)
theorem dX6_readsSum_102 : decode cX6_readsSum 102 = .ok (.invokevirtual 179, 3) := dk_182 0 179 (dk_at dksX6_readsSum_4 8 rfl rfl)
theorem dX6_readsSum_105 : decode cX6_readsSum 105 = .ok (.aload_n 0, 1) := dk_42 (dk_at dksX6_readsSum_4 11 rfl rfl)
theorem dX6_readsSum_106 : decode cX6_readsSum 106 = .ok (.aload_n 0, 1) := dk_42 (dk_at dksX6_readsSum_4 12 rfl rfl)
theorem dX6_readsSum_107 : decode cX6_readsSum 107 = .ok (.getfield 153, 3) := dk_180 0 153 (dk_at dksX6_readsSum_4 13 rfl rfl)
theorem dX6_readsSum_110 : decode cX6_readsSum 110 = .ok (.iconst 1, 1) := dk_4 (dk_at dksX6_readsSum_4 16 rfl rfl)
theorem dX6_readsSum_111 : decode cX6_readsSum 111 = .ok (.isub, 1) := dk_100 (dk_at dksX6_readsSum_4 17 rfl rfl)
theorem dX6_readsSum_112 : decode cX6_readsSum 112 = .ok (.putfield 153, 3) := dk_181 0 153 (dk_at dksX6_readsSum_4 18 rfl rfl)
theorem dX6_readsSum_115 : decode cX6_readsSum 115 = .ok (.aload_n 0, 1) := dk_42 (dk_at dksX6_readsSum_4 21 rfl rfl)
theorem dX6_readsSum_116 : decode cX6_readsSum 116 = .ok (.aload_n 0, 1) := dk_42 (dk_at dksX6_readsSum_4 22 rfl rfl)
theorem dX6_readsSum_117 : decode cX6_readsSum 117 = .ok (.getfield 150, 3) := dk_180 0 150 (dk_at dksX6_readsSum_5 0 rfl rfl)
theorem dX6_readsSum_120 : decode cX6_readsSum 120 = .ok (.iconst 1, 1) := dk_4 (dk_at dksX6_readsSum_5 3 rfl rfl)
theorem dX6_readsSum_121 : decode cX6_readsSum 121 = .ok (.isub, 1) := dk_100 (dk_at dksX6_readsSum_5 4 rfl rfl)
theorem dX6_readsSum_122 : decode cX6_readsSum 122 = .ok (.putfield 150, 3) := dk_181 0 150 (dk_at dksX6_readsSum_5 5 rfl rfl)
theorem dX6_readsSum_125 : decode cX6_readsSum 125 = .ok (.aload_n 0, 1) := dk_42 (dk_at dksX6_readsSum_5 8 rfl rfl)
theorem dX6_readsSum_126 : decode cX6_readsSum 126 = .ok (.aload_n 0, 1) := dk_42 (dk_at dksX6_readsSum_5 9 rfl rfl)
theorem dX6_readsSum_127 : decode cX6_readsSum 127 = .ok (.getfield 123, 3) := dk_180 0 123 (dk_at dksX6_readsSum_5 10 rfl rfl)
theorem dX6_readsSum_130 : decode cX6_readsSum 130 = .ok (.iconst 1, 1) := dk_4 (dk_at dksX6_readsSum_5 13 rfl rfl)
theorem dX6_readsSum_131 : decode cX6_readsSum 131 = .ok (.iadd, 1) := dk_96 (dk_at dksX6_readsSum_5 14 rfl rfl)
theorem dX6_readsSum_132 : decode cX6_readsSum 132 = .ok (.putfield 123, 3) := dk_181 0 123 (dk_at dksX6_readsSum_5 15 rfl rfl)
theorem dX6_readsSum_135 : decode cX6_readsSum 135 = .ok (.goto 28, 3) := dk_167 0 28 (dk_at dksX6_readsSum_5 18 rfl rfl)
theorem dX6_readsSum_138 : decode cX6_readsSum 138 = .ok (.aload_n 0, 1) := dk_42 (dk_at dksX6_readsSum_5 21 rfl rfl)
theorem dX6_readsSum_139 : decode cX6_readsSum 139 = .ok (.iload_n 1, 1) := dk_27 (dk_at dksX6_readsSum_5 22 rfl rfl)
theorem dX6_readsSum_140 : decode cX6_readsSum 140 = .ok (.invokevirtual 183, 3) := dk_182 0 183 (dk_at dksX6_readsSum_6 0 rfl rfl)
theorem dX6_readsSum_143 : decode cX6_readsSum 143 = .ok (.ifCond .eq 13, 3) := dk_153 0 13 (dk_at dksX6_readsSum_6 3 rfl rfl)
theorem dX6_readsSum_146 : decode cX6_readsSum 146 = .ok (.aload_n 0, 1) := dk_42 (dk_at dksX6_readsSum_6 6 rfl rfl)
theorem dX6_readsSum_147 : decode cX6_readsSum 147 = .ok (.iconst 1, 1) := dk_4 (dk_at dksX6_readsSum_6 7 rfl rfl)
theorem dX6_readsSum_148 : decode cX6_readsSum 148 = .ok (.aload_n 0, 1) := dk_42 (dk_at dksX6_readsSum_6 8 rfl rfl)
theorem dX6_readsSum_149 : decode cX6_readsSum 149 = .ok (.getfield 123, 3) := dk_180 0 123 (dk_at dksX6_readsSum_6 9 rfl rfl)
theorem dX6_readsSum_152 : decode cX6_readsSum 152 = .ok (.invokevirtual 136, 3) := dk_182 0 136 (dk_at dksX6_readsSum_6 12 rfl rfl)
theorem dX6_readsSum_155 : decode cX6_readsSum 155 = .ok (.ireturn, 1) := dk_172 (dk_at dksX6_readsSum_6 15 rfl rfl)
theorem dX6_readsSum_156 : decode cX6_readsSum 156 = .ok (.aload_n 0, 1) := dk_42 (dk_at dksX6_readsSum_6 16 rfl rfl)
theorem dX6_readsSum_157 : decode cX6_readsSum 157 = .ok (.iconst 1, 1) := dk_4 (dk_at dksX6_readsSum_6 17 rfl rfl)
theorem dX6_readsSum_158 : decode cX6_readsSum 158 = .ok (.invokevirtual 179, 3) := dk_182 0 179 (dk_at dksX6_readsSum_6 18 rfl rfl)
theorem dX6_readsSum_161 : decode cX6_readsSum 161 = .ok (.iconst 1, 1) := dk_4 (dk_at dksX6_readsSum_6 21 rfl rfl)
theorem dX6_readsSum_162 : decode cX6_readsSum 162 = .ok (.ireturn, 1) := dk_172 (dk_at dksX6_readsSum_6 22 rfl rfl)
theorem dX6_readsSum_163 : decode cX6_readsSum 163 = .ok (.goto (-149), 3) := dk_167 255 107 (dk_at dksX6_readsSum_7 0 rfl rfl)
abbrev cX6_readsFactor : ByteArray := prog_20_method_28_code
def yX6_readsFactor : MethodName := ⟨RX6, "readsFactor", "()Z"⟩
def dkwX6_readsFactor_3 : List UInt8 := [27, 182, 0, 159, 42, 42, 180, 0, 123, 4, 96, 181, 0, 123, 4, 172]
abbrev dktX6_readsFactor_3 : List UInt8 := dkwX6_readsFactor_3 ++ []
def dkwX6_readsFactor_2 : List UInt8 := [182, 0, 129, 184, 0, 170, 60, 27, 2, 160, 0, 13, 42, 4, 42, 180, 0, 123, 182, 0, 136, 172, 42, 4]
abbrev dktX6_readsFactor_2 : List UInt8 := dkwX6_readsFactor_2 ++ dktX6_readsFactor_3
def dkwX6_readsFactor_1 : List UInt8 := [153, 0, 23, 42, 182, 0, 167, 154, 0, 5, 3, 172, 42, 3, 42, 180, 0, 139, 182, 0, 159, 4, 172, 42]
abbrev dktX6_readsFactor_1 : List UInt8 := dkwX6_readsFactor_1 ++ dktX6_readsFactor_2
def dkwX6_readsFactor_0 : List UInt8 := [42, 182, 0, 129, 16, 91, 160, 0, 14, 42, 16, 14, 182, 0, 163, 154, 255, 241, 3, 172, 42, 182, 0, 142]
abbrev dktX6_readsFactor_0 : List UInt8 := dkwX6_readsFactor_0 ++ dktX6_readsFactor_1
theorem dksX6_readsFactor_0 : cX6_readsFactor.data.toList.drop 0 = dktX6_readsFactor_0 := by decide +kernel
theorem dksX6_readsFactor_1 : cX6_readsFactor.data.toList.drop 24 = dktX6_readsFactor_1 := dk_seg dksX6_readsFactor_0 24 rfl rfl
theorem dksX6_readsFactor_2 : cX6_readsFactor.data.toList.drop 48 = dktX6_readsFactor_2 := dk_seg dksX6_readsFactor_1 24 rfl rfl
theorem dksX6_readsFactor_3 : cX6_readsFactor.data.toList.drop 72 = dktX6_readsFactor_3 := dk_seg dksX6_readsFactor_2 24 rfl rfl
theorem dX6_readsFactor_0 : decode cX6_readsFactor 0 = .ok (.aload_n 0, 1) := dk_42 (dk_at dksX6_readsFactor_0 0 rfl rfl)
theorem dX6_readsFactor_1 : decode cX6_readsFactor 1 = .ok (.invokevirtual 129, 3) := dk_182 0 129 (dk_at dksX6_readsFactor_0 1 rfl rfl)
theorem dX6_readsFactor_4 : decode cX6_readsFactor 4 = .ok (.bipush 91, 2) := dk_16 91 (dk_at dksX6_readsFactor_0 4 rfl rfl)
theorem dX6_readsFactor_6 : decode cX6_readsFactor 6 = .ok (.if_icmp .ne 14, 3) := dk_160 0 14 (dk_at dksX6_readsFactor_0 6 rfl rfl)
theorem dX6_readsFactor_9 : decode cX6_readsFactor 9 = .ok (.aload_n 0, 1) := dk_42 (dk_at dksX6_readsFactor_0 9 rfl rfl)
theorem dX6_readsFactor_10 : decode cX6_readsFactor 10 = .ok (.bipush 14, 2) := dk_16 14 (dk_at dksX6_readsFactor_0 10 rfl rfl)
theorem dX6_readsFactor_12 : decode cX6_readsFactor 12 = .ok (.invokevirtual 163, 3) := dk_182 0 163 (dk_at dksX6_readsFactor_0 12 rfl rfl)
theorem dX6_readsFactor_15 : decode cX6_readsFactor 15 = .ok (.ifCond .ne (-15), 3) := dk_154 255 241 (dk_at dksX6_readsFactor_0 15 rfl rfl)
theorem dX6_readsFactor_18 : decode cX6_readsFactor 18 = .ok (.iconst 0, 1) := dk_3 (dk_at dksX6_readsFactor_0 18 rfl rfl)
theorem dX6_readsFactor_19 : decode cX6_readsFactor 19 = .ok (.ireturn, 1) := dk_172 (dk_at dksX6_readsFactor_0 19 rfl rfl)
theorem dX6_readsFactor_20 : decode cX6_readsFactor 20 = .ok (.aload_n 0, 1) := dk_42 (dk_at dksX6_readsFactor_0 20 rfl rfl)
theorem dX6_readsFactor_21 : decode cX6_readsFactor 21 = .ok (.invokevirtual 142, 3) := dk_182 0 142 (dk_at dksX6_readsFactor_0 21 rfl rfl)
theorem dX6_readsFactor_24 : decode cX6_readsFactor 24 = .ok (.ifCond .eq 23, 3) := dk_153 0 23 (dk_at dksX6_readsFactor_1 0 rfl rfl)
theorem dX6_readsFactor_27 : decode cX6_readsFactor 27 = .ok (.aload_n 0, 1) := dk_42 (dk_at dksX6_readsFactor_1 3 rfl rfl)
theorem dX6_readsFactor_28 : decode cX6_readsFactor 28 = .ok (.invokevirtual 167, 3) := dk_182 0 167 (dk_at dksX6_readsFactor_1 4 rfl rfl)
theorem dX6_readsFactor_31 : decode cX6_readsFactor 31 = .ok (.ifCond .ne 5, 3) := dk_154 0 5 (dk_at dksX6_readsFactor_1 7 rfl rfl)
theorem dX6_readsFactor_34 : decode cX6_readsFactor 34 = .ok (.iconst 0, 1) := dk_3 (dk_at dksX6_readsFactor_1 10 rfl rfl)
theorem dX6_readsFactor_35 : decode cX6_readsFactor 35 = .ok (.ireturn, 1) := dk_172 (dk_at dksX6_readsFactor_1 11 rfl rfl)
theorem dX6_readsFactor_36 : decode cX6_readsFactor 36 = .ok (.aload_n 0, 1) := dk_42 (dk_at dksX6_readsFactor_1 12 rfl rfl)
theorem dX6_readsFactor_37 : decode cX6_readsFactor 37 = .ok (.iconst 0, 1) := dk_3 (dk_at dksX6_readsFactor_1 13 rfl rfl)
theorem dX6_readsFactor_38 : decode cX6_readsFactor 38 = .ok (.aload_n 0, 1) := dk_42 (dk_at dksX6_readsFactor_1 14 rfl rfl)
theorem dX6_readsFactor_39 : decode cX6_readsFactor 39 = .ok (.getfield 139, 3) := dk_180 0 139 (dk_at dksX6_readsFactor_1 15 rfl rfl)
theorem dX6_readsFactor_42 : decode cX6_readsFactor 42 = .ok (.invokevirtual 159, 3) := dk_182 0 159 (dk_at dksX6_readsFactor_1 18 rfl rfl)
theorem dX6_readsFactor_45 : decode cX6_readsFactor 45 = .ok (.iconst 1, 1) := dk_4 (dk_at dksX6_readsFactor_1 21 rfl rfl)
theorem dX6_readsFactor_46 : decode cX6_readsFactor 46 = .ok (.ireturn, 1) := dk_172 (dk_at dksX6_readsFactor_1 22 rfl rfl)
theorem dX6_readsFactor_47 : decode cX6_readsFactor 47 = .ok (.aload_n 0, 1) := dk_42 (dk_at dksX6_readsFactor_1 23 rfl rfl)
theorem dX6_readsFactor_48 : decode cX6_readsFactor 48 = .ok (.invokevirtual 129, 3) := dk_182 0 129 (dk_at dksX6_readsFactor_2 0 rfl rfl)
theorem dX6_readsFactor_51 : decode cX6_readsFactor 51 = .ok (.invokestatic 170, 3) := dk_184 0 170 (dk_at dksX6_readsFactor_2 3 rfl rfl)
theorem dX6_readsFactor_54 : decode cX6_readsFactor 54 = .ok (.istore_n 1, 1) := dk_60 (dk_at dksX6_readsFactor_2 6 rfl rfl)
theorem dX6_readsFactor_55 : decode cX6_readsFactor 55 = .ok (.iload_n 1, 1) := dk_27 (dk_at dksX6_readsFactor_2 7 rfl rfl)
theorem dX6_readsFactor_56 : decode cX6_readsFactor 56 = .ok (.iconst (-1), 1) := dk_2 (dk_at dksX6_readsFactor_2 8 rfl rfl)
theorem dX6_readsFactor_57 : decode cX6_readsFactor 57 = .ok (.if_icmp .ne 13, 3) := dk_160 0 13 (dk_at dksX6_readsFactor_2 9 rfl rfl)
theorem dX6_readsFactor_60 : decode cX6_readsFactor 60 = .ok (.aload_n 0, 1) := dk_42 (dk_at dksX6_readsFactor_2 12 rfl rfl)
theorem dX6_readsFactor_61 : decode cX6_readsFactor 61 = .ok (.iconst 1, 1) := dk_4 (dk_at dksX6_readsFactor_2 13 rfl rfl)
theorem dX6_readsFactor_62 : decode cX6_readsFactor 62 = .ok (.aload_n 0, 1) := dk_42 (dk_at dksX6_readsFactor_2 14 rfl rfl)
theorem dX6_readsFactor_63 : decode cX6_readsFactor 63 = .ok (.getfield 123, 3) := dk_180 0 123 (dk_at dksX6_readsFactor_2 15 rfl rfl)
theorem dX6_readsFactor_66 : decode cX6_readsFactor 66 = .ok (.invokevirtual 136, 3) := dk_182 0 136 (dk_at dksX6_readsFactor_2 18 rfl rfl)
theorem dX6_readsFactor_69 : decode cX6_readsFactor 69 = .ok (.ireturn, 1) := dk_172 (dk_at dksX6_readsFactor_2 21 rfl rfl)
theorem dX6_readsFactor_70 : decode cX6_readsFactor 70 = .ok (.aload_n 0, 1) := dk_42 (dk_at dksX6_readsFactor_2 22 rfl rfl)
theorem dX6_readsFactor_71 : decode cX6_readsFactor 71 = .ok (.iconst 1, 1) := dk_4 (dk_at dksX6_readsFactor_2 23 rfl rfl)
theorem dX6_readsFactor_72 : decode cX6_readsFactor 72 = .ok (.iload_n 1, 1) := dk_27 (dk_at dksX6_readsFactor_3 0 rfl rfl)
theorem dX6_readsFactor_73 : decode cX6_readsFactor 73 = .ok (.invokevirtual 159, 3) := dk_182 0 159 (dk_at dksX6_readsFactor_3 1 rfl rfl)
theorem dX6_readsFactor_76 : decode cX6_readsFactor 76 = .ok (.aload_n 0, 1) := dk_42 (dk_at dksX6_readsFactor_3 4 rfl rfl)
theorem dX6_readsFactor_77 : decode cX6_readsFactor 77 = .ok (.aload_n 0, 1) := dk_42 (dk_at dksX6_readsFactor_3 5 rfl rfl)
theorem dX6_readsFactor_78 : decode cX6_readsFactor 78 = .ok (.getfield 123, 3) := dk_180 0 123 (dk_at dksX6_readsFactor_3 6 rfl rfl)
theorem dX6_readsFactor_81 : decode cX6_readsFactor 81 = .ok (.iconst 1, 1) := dk_4 (dk_at dksX6_readsFactor_3 9 rfl rfl)
theorem dX6_readsFactor_82 : decode cX6_readsFactor 82 = .ok (.iadd, 1) := dk_96 (dk_at dksX6_readsFactor_3 10 rfl rfl)
theorem dX6_readsFactor_83 : decode cX6_readsFactor 83 = .ok (.putfield 123, 3) := dk_181 0 123 (dk_at dksX6_readsFactor_3 11 rfl rfl)
theorem dX6_readsFactor_86 : decode cX6_readsFactor 86 = .ok (.iconst 1, 1) := dk_4 (dk_at dksX6_readsFactor_3 14 rfl rfl)
theorem dX6_readsFactor_87 : decode cX6_readsFactor 87 = .ok (.ireturn, 1) := dk_172 (dk_at dksX6_readsFactor_3 15 rfl rfl)
abbrev cX6_opens : ByteArray := prog_20_method_23_code
def yX6_opens : MethodName := ⟨RX6, "opens", "(I)Z"⟩
def dkwX6_opens_2 : List UInt8 := [96, 181, 0, 153, 42, 42, 180, 0, 123, 4, 96, 181, 0, 123, 4, 172]
abbrev dktX6_opens_2 : List UInt8 := dkwX6_opens_2 ++ []
def dkwX6_opens_1 : List UInt8 := [4, 96, 181, 0, 150, 42, 180, 0, 38, 42, 180, 0, 153, 18, 149, 27, 104, 79, 42, 42, 180, 0, 153, 4]
abbrev dktX6_opens_1 : List UInt8 := dkwX6_opens_1 ++ dktX6_opens_2
def dkwX6_opens_0 : List UInt8 := [42, 180, 0, 150, 16, 6, 160, 0, 13, 42, 8, 42, 180, 0, 123, 182, 0, 136, 172, 42, 42, 180, 0, 150]
abbrev dktX6_opens_0 : List UInt8 := dkwX6_opens_0 ++ dktX6_opens_1
theorem dksX6_opens_0 : cX6_opens.data.toList.drop 0 = dktX6_opens_0 := by decide +kernel
theorem dksX6_opens_1 : cX6_opens.data.toList.drop 24 = dktX6_opens_1 := dk_seg dksX6_opens_0 24 rfl rfl
theorem dksX6_opens_2 : cX6_opens.data.toList.drop 48 = dktX6_opens_2 := dk_seg dksX6_opens_1 24 rfl rfl
theorem dX6_opens_0 : decode cX6_opens 0 = .ok (.aload_n 0, 1) := dk_42 (dk_at dksX6_opens_0 0 rfl rfl)
theorem dX6_opens_1 : decode cX6_opens 1 = .ok (.getfield 150, 3) := dk_180 0 150 (dk_at dksX6_opens_0 1 rfl rfl)
theorem dX6_opens_4 : decode cX6_opens 4 = .ok (.bipush 6, 2) := dk_16 6 (dk_at dksX6_opens_0 4 rfl rfl)
theorem dX6_opens_6 : decode cX6_opens 6 = .ok (.if_icmp .ne 13, 3) := dk_160 0 13 (dk_at dksX6_opens_0 6 rfl rfl)
theorem dX6_opens_9 : decode cX6_opens 9 = .ok (.aload_n 0, 1) := dk_42 (dk_at dksX6_opens_0 9 rfl rfl)
theorem dX6_opens_10 : decode cX6_opens 10 = .ok (.iconst 5, 1) := dk_8 (dk_at dksX6_opens_0 10 rfl rfl)
theorem dX6_opens_11 : decode cX6_opens 11 = .ok (.aload_n 0, 1) := dk_42 (dk_at dksX6_opens_0 11 rfl rfl)
theorem dX6_opens_12 : decode cX6_opens 12 = .ok (.getfield 123, 3) := dk_180 0 123 (dk_at dksX6_opens_0 12 rfl rfl)
theorem dX6_opens_15 : decode cX6_opens 15 = .ok (.invokevirtual 136, 3) := dk_182 0 136 (dk_at dksX6_opens_0 15 rfl rfl)
theorem dX6_opens_18 : decode cX6_opens 18 = .ok (.ireturn, 1) := dk_172 (dk_at dksX6_opens_0 18 rfl rfl)
theorem dX6_opens_19 : decode cX6_opens 19 = .ok (.aload_n 0, 1) := dk_42 (dk_at dksX6_opens_0 19 rfl rfl)
theorem dX6_opens_20 : decode cX6_opens 20 = .ok (.aload_n 0, 1) := dk_42 (dk_at dksX6_opens_0 20 rfl rfl)
theorem dX6_opens_21 : decode cX6_opens 21 = .ok (.getfield 150, 3) := dk_180 0 150 (dk_at dksX6_opens_0 21 rfl rfl)
theorem dX6_opens_24 : decode cX6_opens 24 = .ok (.iconst 1, 1) := dk_4 (dk_at dksX6_opens_1 0 rfl rfl)
theorem dX6_opens_25 : decode cX6_opens 25 = .ok (.iadd, 1) := dk_96 (dk_at dksX6_opens_1 1 rfl rfl)
theorem dX6_opens_26 : decode cX6_opens 26 = .ok (.putfield 150, 3) := dk_181 0 150 (dk_at dksX6_opens_1 2 rfl rfl)
theorem dX6_opens_29 : decode cX6_opens 29 = .ok (.aload_n 0, 1) := dk_42 (dk_at dksX6_opens_1 5 rfl rfl)
theorem dX6_opens_30 : decode cX6_opens 30 = .ok (.getfield 38, 3) := dk_180 0 38 (dk_at dksX6_opens_1 6 rfl rfl)
theorem dX6_opens_33 : decode cX6_opens 33 = .ok (.aload_n 0, 1) := dk_42 (dk_at dksX6_opens_1 9 rfl rfl)
theorem dX6_opens_34 : decode cX6_opens 34 = .ok (.getfield 153, 3) := dk_180 0 153 (dk_at dksX6_opens_1 10 rfl rfl)
theorem dX6_opens_37 : decode cX6_opens 37 = .ok (.ldc 149, 2) := dk_18 149 (dk_at dksX6_opens_1 13 rfl rfl)
theorem dX6_opens_39 : decode cX6_opens 39 = .ok (.iload_n 1, 1) := dk_27 (dk_at dksX6_opens_1 15 rfl rfl)
theorem dX6_opens_40 : decode cX6_opens 40 = .ok (.imul, 1) := dk_104 (dk_at dksX6_opens_1 16 rfl rfl)
theorem dX6_opens_41 : decode cX6_opens 41 = .ok (.iastore, 1) := dk_79 (dk_at dksX6_opens_1 17 rfl rfl)
theorem dX6_opens_42 : decode cX6_opens 42 = .ok (.aload_n 0, 1) := dk_42 (dk_at dksX6_opens_1 18 rfl rfl)
theorem dX6_opens_43 : decode cX6_opens 43 = .ok (.aload_n 0, 1) := dk_42 (dk_at dksX6_opens_1 19 rfl rfl)
theorem dX6_opens_44 : decode cX6_opens 44 = .ok (.getfield 153, 3) := dk_180 0 153 (dk_at dksX6_opens_1 20 rfl rfl)
theorem dX6_opens_47 : decode cX6_opens 47 = .ok (.iconst 1, 1) := dk_4 (dk_at dksX6_opens_1 23 rfl rfl)
theorem dX6_opens_48 : decode cX6_opens 48 = .ok (.iadd, 1) := dk_96 (dk_at dksX6_opens_2 0 rfl rfl)
theorem dX6_opens_49 : decode cX6_opens 49 = .ok (.putfield 153, 3) := dk_181 0 153 (dk_at dksX6_opens_2 1 rfl rfl)
theorem dX6_opens_52 : decode cX6_opens 52 = .ok (.aload_n 0, 1) := dk_42 (dk_at dksX6_opens_2 4 rfl rfl)
theorem dX6_opens_53 : decode cX6_opens 53 = .ok (.aload_n 0, 1) := dk_42 (dk_at dksX6_opens_2 5 rfl rfl)
theorem dX6_opens_54 : decode cX6_opens 54 = .ok (.getfield 123, 3) := dk_180 0 123 (dk_at dksX6_opens_2 6 rfl rfl)
theorem dX6_opens_57 : decode cX6_opens 57 = .ok (.iconst 1, 1) := dk_4 (dk_at dksX6_opens_2 9 rfl rfl)
theorem dX6_opens_58 : decode cX6_opens 58 = .ok (.iadd, 1) := dk_96 (dk_at dksX6_opens_2 10 rfl rfl)
theorem dX6_opens_59 : decode cX6_opens 59 = .ok (.putfield 123, 3) := dk_181 0 123 (dk_at dksX6_opens_2 11 rfl rfl)
theorem dX6_opens_62 : decode cX6_opens 62 = .ok (.iconst 1, 1) := dk_4 (dk_at dksX6_opens_2 14 rfl rfl)
theorem dX6_opens_63 : decode cX6_opens 63 = .ok (.ireturn, 1) := dk_172 (dk_at dksX6_opens_2 15 rfl rfl)
abbrev cX6_isDigit : ByteArray := prog_20_method_18_code
def yX6_isDigit : MethodName := ⟨RX6, "isDigit", "()Z"⟩
def dkwX6_isDigit_0 : List UInt8 := [42, 182, 0, 129, 16, 48, 161, 0, 16, 42, 182, 0, 129, 16, 57, 163, 0, 7, 4, 167, 0, 4, 3, 172]
abbrev dktX6_isDigit_0 : List UInt8 := dkwX6_isDigit_0 ++ []
theorem dksX6_isDigit_0 : cX6_isDigit.data.toList.drop 0 = dktX6_isDigit_0 := by decide +kernel
theorem dX6_isDigit_0 : decode cX6_isDigit 0 = .ok (.aload_n 0, 1) := dk_42 (dk_at dksX6_isDigit_0 0 rfl rfl)
theorem dX6_isDigit_1 : decode cX6_isDigit 1 = .ok (.invokevirtual 129, 3) := dk_182 0 129 (dk_at dksX6_isDigit_0 1 rfl rfl)
theorem dX6_isDigit_4 : decode cX6_isDigit 4 = .ok (.bipush 48, 2) := dk_16 48 (dk_at dksX6_isDigit_0 4 rfl rfl)
theorem dX6_isDigit_6 : decode cX6_isDigit 6 = .ok (.if_icmp .lt 16, 3) := dk_161 0 16 (dk_at dksX6_isDigit_0 6 rfl rfl)
theorem dX6_isDigit_9 : decode cX6_isDigit 9 = .ok (.aload_n 0, 1) := dk_42 (dk_at dksX6_isDigit_0 9 rfl rfl)
theorem dX6_isDigit_10 : decode cX6_isDigit 10 = .ok (.invokevirtual 129, 3) := dk_182 0 129 (dk_at dksX6_isDigit_0 10 rfl rfl)
theorem dX6_isDigit_13 : decode cX6_isDigit 13 = .ok (.bipush 57, 2) := dk_16 57 (dk_at dksX6_isDigit_0 13 rfl rfl)
theorem dX6_isDigit_15 : decode cX6_isDigit 15 = .ok (.if_icmp .gt 7, 3) := dk_163 0 7 (dk_at dksX6_isDigit_0 15 rfl rfl)
theorem dX6_isDigit_18 : decode cX6_isDigit 18 = .ok (.iconst 1, 1) := dk_4 (dk_at dksX6_isDigit_0 18 rfl rfl)
theorem dX6_isDigit_19 : decode cX6_isDigit 19 = .ok (.goto 4, 3) := dk_167 0 4 (dk_at dksX6_isDigit_0 19 rfl rfl)
theorem dX6_isDigit_22 : decode cX6_isDigit 22 = .ok (.iconst 0, 1) := dk_3 (dk_at dksX6_isDigit_0 22 rfl rfl)
theorem dX6_isDigit_23 : decode cX6_isDigit 23 = .ok (.ireturn, 1) := dk_172 (dk_at dksX6_isDigit_0 23 rfl rfl)
abbrev cX6_readsNumber : ByteArray := prog_20_method_21_code
def yX6_readsNumber : MethodName := ⟨RX6, "readsNumber", "()Z"⟩
def dkwX6_readsNumber_3 : List UInt8 := [172]
abbrev dktX6_readsNumber_3 : List UInt8 := dkwX6_readsNumber_3 ++ []
def dkwX6_readsNumber_2 : List UInt8 := [182, 0, 129, 96, 16, 48, 100, 181, 0, 139, 42, 42, 180, 0, 123, 4, 96, 181, 0, 123, 167, 255, 200, 4]
abbrev dktX6_readsNumber_2 : List UInt8 := dkwX6_readsNumber_2 ++ dktX6_readsNumber_3
def dkwX6_readsNumber_1 : List UInt8 := [160, 0, 13, 42, 5, 42, 180, 0, 123, 182, 0, 136, 172, 42, 16, 10, 42, 180, 0, 139, 104, 42]
abbrev dktX6_readsNumber_1 : List UInt8 := dkwX6_readsNumber_1 ++ dktX6_readsNumber_2
def dkwX6_readsNumber_0 : List UInt8 := [42, 180, 0, 123, 60, 42, 3, 181, 0, 139, 42, 182, 0, 142, 153, 0, 55, 42, 180, 0, 123, 27, 8, 96]
abbrev dktX6_readsNumber_0 : List UInt8 := dkwX6_readsNumber_0 ++ dktX6_readsNumber_1
theorem dksX6_readsNumber_0 : cX6_readsNumber.data.toList.drop 0 = dktX6_readsNumber_0 := by decide +kernel
theorem dksX6_readsNumber_1 : cX6_readsNumber.data.toList.drop 24 = dktX6_readsNumber_1 := dk_seg dksX6_readsNumber_0 24 rfl rfl
theorem dksX6_readsNumber_2 : cX6_readsNumber.data.toList.drop 46 = dktX6_readsNumber_2 := dk_seg dksX6_readsNumber_1 22 rfl rfl
theorem dksX6_readsNumber_3 : cX6_readsNumber.data.toList.drop 70 = dktX6_readsNumber_3 := dk_seg dksX6_readsNumber_2 24 rfl rfl
theorem dX6_readsNumber_0 : decode cX6_readsNumber 0 = .ok (.aload_n 0, 1) := dk_42 (dk_at dksX6_readsNumber_0 0 rfl rfl)
theorem dX6_readsNumber_1 : decode cX6_readsNumber 1 = .ok (.getfield 123, 3) := dk_180 0 123 (dk_at dksX6_readsNumber_0 1 rfl rfl)
theorem dX6_readsNumber_4 : decode cX6_readsNumber 4 = .ok (.istore_n 1, 1) := dk_60 (dk_at dksX6_readsNumber_0 4 rfl rfl)
theorem dX6_readsNumber_5 : decode cX6_readsNumber 5 = .ok (.aload_n 0, 1) := dk_42 (dk_at dksX6_readsNumber_0 5 rfl rfl)
theorem dX6_readsNumber_6 : decode cX6_readsNumber 6 = .ok (.iconst 0, 1) := dk_3 (dk_at dksX6_readsNumber_0 6 rfl rfl)
theorem dX6_readsNumber_7 : decode cX6_readsNumber 7 = .ok (.putfield 139, 3) := dk_181 0 139 (dk_at dksX6_readsNumber_0 7 rfl rfl)
theorem dX6_readsNumber_10 : decode cX6_readsNumber 10 = .ok (.aload_n 0, 1) := dk_42 (dk_at dksX6_readsNumber_0 10 rfl rfl)
theorem dX6_readsNumber_11 : decode cX6_readsNumber 11 = .ok (.invokevirtual 142, 3) := dk_182 0 142 (dk_at dksX6_readsNumber_0 11 rfl rfl)
theorem dX6_readsNumber_14 : decode cX6_readsNumber 14 = .ok (.ifCond .eq 55, 3) := dk_153 0 55 (dk_at dksX6_readsNumber_0 14 rfl rfl)
theorem dX6_readsNumber_17 : decode cX6_readsNumber 17 = .ok (.aload_n 0, 1) := dk_42 (dk_at dksX6_readsNumber_0 17 rfl rfl)
theorem dX6_readsNumber_18 : decode cX6_readsNumber 18 = .ok (.getfield 123, 3) := dk_180 0 123 (dk_at dksX6_readsNumber_0 18 rfl rfl)
theorem dX6_readsNumber_21 : decode cX6_readsNumber 21 = .ok (.iload_n 1, 1) := dk_27 (dk_at dksX6_readsNumber_0 21 rfl rfl)
theorem dX6_readsNumber_22 : decode cX6_readsNumber 22 = .ok (.iconst 5, 1) := dk_8 (dk_at dksX6_readsNumber_0 22 rfl rfl)
theorem dX6_readsNumber_23 : decode cX6_readsNumber 23 = .ok (.iadd, 1) := dk_96 (dk_at dksX6_readsNumber_0 23 rfl rfl)
theorem dX6_readsNumber_24 : decode cX6_readsNumber 24 = .ok (.if_icmp .ne 13, 3) := dk_160 0 13 (dk_at dksX6_readsNumber_1 0 rfl rfl)
theorem dX6_readsNumber_27 : decode cX6_readsNumber 27 = .ok (.aload_n 0, 1) := dk_42 (dk_at dksX6_readsNumber_1 3 rfl rfl)
theorem dX6_readsNumber_28 : decode cX6_readsNumber 28 = .ok (.iconst 2, 1) := dk_5 (dk_at dksX6_readsNumber_1 4 rfl rfl)
theorem dX6_readsNumber_29 : decode cX6_readsNumber 29 = .ok (.aload_n 0, 1) := dk_42 (dk_at dksX6_readsNumber_1 5 rfl rfl)
theorem dX6_readsNumber_30 : decode cX6_readsNumber 30 = .ok (.getfield 123, 3) := dk_180 0 123 (dk_at dksX6_readsNumber_1 6 rfl rfl)
theorem dX6_readsNumber_33 : decode cX6_readsNumber 33 = .ok (.invokevirtual 136, 3) := dk_182 0 136 (dk_at dksX6_readsNumber_1 9 rfl rfl)
theorem dX6_readsNumber_36 : decode cX6_readsNumber 36 = .ok (.ireturn, 1) := dk_172 (dk_at dksX6_readsNumber_1 12 rfl rfl)
theorem dX6_readsNumber_37 : decode cX6_readsNumber 37 = .ok (.aload_n 0, 1) := dk_42 (dk_at dksX6_readsNumber_1 13 rfl rfl)
theorem dX6_readsNumber_38 : decode cX6_readsNumber 38 = .ok (.bipush 10, 2) := dk_16 10 (dk_at dksX6_readsNumber_1 14 rfl rfl)
theorem dX6_readsNumber_40 : decode cX6_readsNumber 40 = .ok (.aload_n 0, 1) := dk_42 (dk_at dksX6_readsNumber_1 16 rfl rfl)
theorem dX6_readsNumber_41 : decode cX6_readsNumber 41 = .ok (.getfield 139, 3) := dk_180 0 139 (dk_at dksX6_readsNumber_1 17 rfl rfl)
theorem dX6_readsNumber_44 : decode cX6_readsNumber 44 = .ok (.imul, 1) := dk_104 (dk_at dksX6_readsNumber_1 20 rfl rfl)
theorem dX6_readsNumber_45 : decode cX6_readsNumber 45 = .ok (.aload_n 0, 1) := dk_42 (dk_at dksX6_readsNumber_1 21 rfl rfl)
theorem dX6_readsNumber_46 : decode cX6_readsNumber 46 = .ok (.invokevirtual 129, 3) := dk_182 0 129 (dk_at dksX6_readsNumber_2 0 rfl rfl)
theorem dX6_readsNumber_49 : decode cX6_readsNumber 49 = .ok (.iadd, 1) := dk_96 (dk_at dksX6_readsNumber_2 3 rfl rfl)
theorem dX6_readsNumber_50 : decode cX6_readsNumber 50 = .ok (.bipush 48, 2) := dk_16 48 (dk_at dksX6_readsNumber_2 4 rfl rfl)
theorem dX6_readsNumber_52 : decode cX6_readsNumber 52 = .ok (.isub, 1) := dk_100 (dk_at dksX6_readsNumber_2 6 rfl rfl)
theorem dX6_readsNumber_53 : decode cX6_readsNumber 53 = .ok (.putfield 139, 3) := dk_181 0 139 (dk_at dksX6_readsNumber_2 7 rfl rfl)
theorem dX6_readsNumber_56 : decode cX6_readsNumber 56 = .ok (.aload_n 0, 1) := dk_42 (dk_at dksX6_readsNumber_2 10 rfl rfl)
theorem dX6_readsNumber_57 : decode cX6_readsNumber 57 = .ok (.aload_n 0, 1) := dk_42 (dk_at dksX6_readsNumber_2 11 rfl rfl)
theorem dX6_readsNumber_58 : decode cX6_readsNumber 58 = .ok (.getfield 123, 3) := dk_180 0 123 (dk_at dksX6_readsNumber_2 12 rfl rfl)
theorem dX6_readsNumber_61 : decode cX6_readsNumber 61 = .ok (.iconst 1, 1) := dk_4 (dk_at dksX6_readsNumber_2 15 rfl rfl)
theorem dX6_readsNumber_62 : decode cX6_readsNumber 62 = .ok (.iadd, 1) := dk_96 (dk_at dksX6_readsNumber_2 16 rfl rfl)
theorem dX6_readsNumber_63 : decode cX6_readsNumber 63 = .ok (.putfield 123, 3) := dk_181 0 123 (dk_at dksX6_readsNumber_2 17 rfl rfl)
theorem dX6_readsNumber_66 : decode cX6_readsNumber 66 = .ok (.goto (-56), 3) := dk_167 255 200 (dk_at dksX6_readsNumber_2 20 rfl rfl)
theorem dX6_readsNumber_69 : decode cX6_readsNumber 69 = .ok (.iconst 1, 1) := dk_4 (dk_at dksX6_readsNumber_2 23 rfl rfl)
theorem dX6_readsNumber_70 : decode cX6_readsNumber 70 = .ok (.ireturn, 1) := dk_172 (dk_at dksX6_readsNumber_3 0 rfl rfl)
abbrev cX6_notes : ByteArray := prog_20_method_22_code
def yX6_notes : MethodName := ⟨RX6, "notes", "(II)V"⟩
def dkwX6_notes_1 : List UInt8 := [181, 0, 146, 177]
abbrev dktX6_notes_1 : List UInt8 := dkwX6_notes_1 ++ []
def dkwX6_notes_0 : List UInt8 := [42, 180, 0, 35, 42, 180, 0, 146, 18, 149, 27, 104, 28, 96, 79, 42, 42, 180, 0, 146, 4, 96]
abbrev dktX6_notes_0 : List UInt8 := dkwX6_notes_0 ++ dktX6_notes_1
theorem dksX6_notes_0 : cX6_notes.data.toList.drop 0 = dktX6_notes_0 := by decide +kernel
theorem dksX6_notes_1 : cX6_notes.data.toList.drop 22 = dktX6_notes_1 := dk_seg dksX6_notes_0 22 rfl rfl
theorem dX6_notes_0 : decode cX6_notes 0 = .ok (.aload_n 0, 1) := dk_42 (dk_at dksX6_notes_0 0 rfl rfl)
theorem dX6_notes_1 : decode cX6_notes 1 = .ok (.getfield 35, 3) := dk_180 0 35 (dk_at dksX6_notes_0 1 rfl rfl)
theorem dX6_notes_4 : decode cX6_notes 4 = .ok (.aload_n 0, 1) := dk_42 (dk_at dksX6_notes_0 4 rfl rfl)
theorem dX6_notes_5 : decode cX6_notes 5 = .ok (.getfield 146, 3) := dk_180 0 146 (dk_at dksX6_notes_0 5 rfl rfl)
theorem dX6_notes_8 : decode cX6_notes 8 = .ok (.ldc 149, 2) := dk_18 149 (dk_at dksX6_notes_0 8 rfl rfl)
theorem dX6_notes_10 : decode cX6_notes 10 = .ok (.iload_n 1, 1) := dk_27 (dk_at dksX6_notes_0 10 rfl rfl)
theorem dX6_notes_11 : decode cX6_notes 11 = .ok (.imul, 1) := dk_104 (dk_at dksX6_notes_0 11 rfl rfl)
theorem dX6_notes_12 : decode cX6_notes 12 = .ok (.iload_n 2, 1) := dk_28 (dk_at dksX6_notes_0 12 rfl rfl)
theorem dX6_notes_13 : decode cX6_notes 13 = .ok (.iadd, 1) := dk_96 (dk_at dksX6_notes_0 13 rfl rfl)
theorem dX6_notes_14 : decode cX6_notes 14 = .ok (.iastore, 1) := dk_79 (dk_at dksX6_notes_0 14 rfl rfl)
theorem dX6_notes_15 : decode cX6_notes 15 = .ok (.aload_n 0, 1) := dk_42 (dk_at dksX6_notes_0 15 rfl rfl)
theorem dX6_notes_16 : decode cX6_notes 16 = .ok (.aload_n 0, 1) := dk_42 (dk_at dksX6_notes_0 16 rfl rfl)
theorem dX6_notes_17 : decode cX6_notes 17 = .ok (.getfield 146, 3) := dk_180 0 146 (dk_at dksX6_notes_0 17 rfl rfl)
theorem dX6_notes_20 : decode cX6_notes 20 = .ok (.iconst 1, 1) := dk_4 (dk_at dksX6_notes_0 20 rfl rfl)
theorem dX6_notes_21 : decode cX6_notes 21 = .ok (.iadd, 1) := dk_96 (dk_at dksX6_notes_0 21 rfl rfl)
theorem dX6_notes_22 : decode cX6_notes 22 = .ok (.putfield 146, 3) := dk_181 0 146 (dk_at dksX6_notes_1 0 rfl rfl)
theorem dX6_notes_25 : decode cX6_notes 25 = .ok (.return_, 1) := dk_177 (dk_at dksX6_notes_1 3 rfl rfl)
abbrev cX6_factOf : ByteArray := prog_20_method_25_code
def yX6_factOf : MethodName := ⟨RX6, "factOf", "(I)I"⟩
def dkwX6_factOf_3 : List UInt8 := [2, 172]
abbrev dktX6_factOf_3 : List UInt8 := dkwX6_factOf_3 ++ []
def dkwX6_factOf_2 : List UInt8 := [3, 172, 4, 172, 5, 172, 6, 172, 7, 172, 8, 172, 16, 6, 172, 16, 7, 172, 16, 8, 172, 16, 9, 172]
abbrev dktX6_factOf_2 : List UInt8 := dkwX6_factOf_2 ++ dktX6_factOf_3
def dkwX6_factOf_1 : List UInt8 := [170, 0, 0, 0, 0, 0, 119, 0, 0, 0, 100, 0, 0, 0, 119, 0, 0, 0, 101, 0, 0, 0, 119, 0, 0, 0, 103, 0, 0, 0, 105, 0, 0, 0, 99, 0, 0, 0, 119, 0, 0, 0, 119, 0, 0, 0, 119, 0, 0, 0, 119, 0, 0, 0, 119, 0, 0, 0, 107, 0, 0, 0, 110, 0, 0, 0, 95, 0, 0, 0, 97, 0, 0, 0, 119, 0, 0, 0, 119, 0, 0, 0, 113, 0, 0, 0, 119, 0, 0, 0, 119, 0, 0, 0, 116]
abbrev dktX6_factOf_1 : List UInt8 := dkwX6_factOf_1 ++ dktX6_factOf_2
def dkwX6_factOf_0 : List UInt8 := [26]
abbrev dktX6_factOf_0 : List UInt8 := dkwX6_factOf_0 ++ dktX6_factOf_1
theorem dksX6_factOf_0 : cX6_factOf.data.toList.drop 0 = dktX6_factOf_0 := by decide +kernel
theorem dksX6_factOf_1 : cX6_factOf.data.toList.drop 1 = dktX6_factOf_1 := dk_seg dksX6_factOf_0 1 rfl rfl
theorem dksX6_factOf_2 : cX6_factOf.data.toList.drop 96 = dktX6_factOf_2 := dk_seg dksX6_factOf_1 95 rfl rfl
theorem dksX6_factOf_3 : cX6_factOf.data.toList.drop 120 = dktX6_factOf_3 := dk_seg dksX6_factOf_2 24 rfl rfl
theorem dX6_factOf_0 : decode cX6_factOf 0 = .ok (.iload_n 0, 1) := dk_26 (dk_at dksX6_factOf_0 0 rfl rfl)
theorem dX6_factOf_1 : decode cX6_factOf 1 = .ok (.tableswitch 119 100 119 #[101, 119, 103, 105, 99, 119, 119, 119, 119, 119, 107, 110, 95, 97, 119, 119, 113, 119, 119, 116], 95) := by decide +kernel
theorem dX6_factOf_96 : decode cX6_factOf 96 = .ok (.iconst 0, 1) := dk_3 (dk_at dksX6_factOf_2 0 rfl rfl)
theorem dX6_factOf_97 : decode cX6_factOf 97 = .ok (.ireturn, 1) := dk_172 (dk_at dksX6_factOf_2 1 rfl rfl)
theorem dX6_factOf_98 : decode cX6_factOf 98 = .ok (.iconst 1, 1) := dk_4 (dk_at dksX6_factOf_2 2 rfl rfl)
theorem dX6_factOf_99 : decode cX6_factOf 99 = .ok (.ireturn, 1) := dk_172 (dk_at dksX6_factOf_2 3 rfl rfl)
theorem dX6_factOf_100 : decode cX6_factOf 100 = .ok (.iconst 2, 1) := dk_5 (dk_at dksX6_factOf_2 4 rfl rfl)
theorem dX6_factOf_101 : decode cX6_factOf 101 = .ok (.ireturn, 1) := dk_172 (dk_at dksX6_factOf_2 5 rfl rfl)
theorem dX6_factOf_102 : decode cX6_factOf 102 = .ok (.iconst 3, 1) := dk_6 (dk_at dksX6_factOf_2 6 rfl rfl)
theorem dX6_factOf_103 : decode cX6_factOf 103 = .ok (.ireturn, 1) := dk_172 (dk_at dksX6_factOf_2 7 rfl rfl)
theorem dX6_factOf_104 : decode cX6_factOf 104 = .ok (.iconst 4, 1) := dk_7 (dk_at dksX6_factOf_2 8 rfl rfl)
theorem dX6_factOf_105 : decode cX6_factOf 105 = .ok (.ireturn, 1) := dk_172 (dk_at dksX6_factOf_2 9 rfl rfl)
theorem dX6_factOf_106 : decode cX6_factOf 106 = .ok (.iconst 5, 1) := dk_8 (dk_at dksX6_factOf_2 10 rfl rfl)
theorem dX6_factOf_107 : decode cX6_factOf 107 = .ok (.ireturn, 1) := dk_172 (dk_at dksX6_factOf_2 11 rfl rfl)
theorem dX6_factOf_108 : decode cX6_factOf 108 = .ok (.bipush 6, 2) := dk_16 6 (dk_at dksX6_factOf_2 12 rfl rfl)
theorem dX6_factOf_110 : decode cX6_factOf 110 = .ok (.ireturn, 1) := dk_172 (dk_at dksX6_factOf_2 14 rfl rfl)
theorem dX6_factOf_111 : decode cX6_factOf 111 = .ok (.bipush 7, 2) := dk_16 7 (dk_at dksX6_factOf_2 15 rfl rfl)
theorem dX6_factOf_113 : decode cX6_factOf 113 = .ok (.ireturn, 1) := dk_172 (dk_at dksX6_factOf_2 17 rfl rfl)
theorem dX6_factOf_114 : decode cX6_factOf 114 = .ok (.bipush 8, 2) := dk_16 8 (dk_at dksX6_factOf_2 18 rfl rfl)
theorem dX6_factOf_116 : decode cX6_factOf 116 = .ok (.ireturn, 1) := dk_172 (dk_at dksX6_factOf_2 20 rfl rfl)
theorem dX6_factOf_117 : decode cX6_factOf 117 = .ok (.bipush 9, 2) := dk_16 9 (dk_at dksX6_factOf_2 21 rfl rfl)
theorem dX6_factOf_119 : decode cX6_factOf 119 = .ok (.ireturn, 1) := dk_172 (dk_at dksX6_factOf_2 23 rfl rfl)
theorem dX6_factOf_120 : decode cX6_factOf 120 = .ok (.iconst (-1), 1) := dk_2 (dk_at dksX6_factOf_3 0 rfl rfl)
theorem dX6_factOf_121 : decode cX6_factOf 121 = .ok (.ireturn, 1) := dk_172 (dk_at dksX6_factOf_3 1 rfl rfl)
abbrev cX6_sumSign : ByteArray := prog_20_method_26_code
def yX6_sumSign : MethodName := ⟨RX6, "sumSign", "(I)I"⟩
def dkwX6_sumSign_2 : List UInt8 := [16, 6, 167, 0, 4, 2, 172]
abbrev dktX6_sumSign_2 : List UInt8 := dkwX6_sumSign_2 ++ []
def dkwX6_sumSign_1 : List UInt8 := [160, 0, 7, 7, 167, 0, 25, 26, 16, 47, 160, 0, 7, 8, 167, 0, 15, 26, 16, 37, 160, 0, 8]
abbrev dktX6_sumSign_1 : List UInt8 := dkwX6_sumSign_1 ++ dktX6_sumSign_2
def dkwX6_sumSign_0 : List UInt8 := [26, 16, 43, 160, 0, 7, 5, 167, 0, 45, 26, 16, 45, 160, 0, 7, 6, 167, 0, 35, 26, 16, 42]
abbrev dktX6_sumSign_0 : List UInt8 := dkwX6_sumSign_0 ++ dktX6_sumSign_1
theorem dksX6_sumSign_0 : cX6_sumSign.data.toList.drop 0 = dktX6_sumSign_0 := by decide +kernel
theorem dksX6_sumSign_1 : cX6_sumSign.data.toList.drop 23 = dktX6_sumSign_1 := dk_seg dksX6_sumSign_0 23 rfl rfl
theorem dksX6_sumSign_2 : cX6_sumSign.data.toList.drop 46 = dktX6_sumSign_2 := dk_seg dksX6_sumSign_1 23 rfl rfl
theorem dX6_sumSign_0 : decode cX6_sumSign 0 = .ok (.iload_n 0, 1) := dk_26 (dk_at dksX6_sumSign_0 0 rfl rfl)
theorem dX6_sumSign_1 : decode cX6_sumSign 1 = .ok (.bipush 43, 2) := dk_16 43 (dk_at dksX6_sumSign_0 1 rfl rfl)
theorem dX6_sumSign_3 : decode cX6_sumSign 3 = .ok (.if_icmp .ne 7, 3) := dk_160 0 7 (dk_at dksX6_sumSign_0 3 rfl rfl)
theorem dX6_sumSign_6 : decode cX6_sumSign 6 = .ok (.iconst 2, 1) := dk_5 (dk_at dksX6_sumSign_0 6 rfl rfl)
theorem dX6_sumSign_7 : decode cX6_sumSign 7 = .ok (.goto 45, 3) := dk_167 0 45 (dk_at dksX6_sumSign_0 7 rfl rfl)
theorem dX6_sumSign_10 : decode cX6_sumSign 10 = .ok (.iload_n 0, 1) := dk_26 (dk_at dksX6_sumSign_0 10 rfl rfl)
theorem dX6_sumSign_11 : decode cX6_sumSign 11 = .ok (.bipush 45, 2) := dk_16 45 (dk_at dksX6_sumSign_0 11 rfl rfl)
theorem dX6_sumSign_13 : decode cX6_sumSign 13 = .ok (.if_icmp .ne 7, 3) := dk_160 0 7 (dk_at dksX6_sumSign_0 13 rfl rfl)
theorem dX6_sumSign_16 : decode cX6_sumSign 16 = .ok (.iconst 3, 1) := dk_6 (dk_at dksX6_sumSign_0 16 rfl rfl)
theorem dX6_sumSign_17 : decode cX6_sumSign 17 = .ok (.goto 35, 3) := dk_167 0 35 (dk_at dksX6_sumSign_0 17 rfl rfl)
theorem dX6_sumSign_20 : decode cX6_sumSign 20 = .ok (.iload_n 0, 1) := dk_26 (dk_at dksX6_sumSign_0 20 rfl rfl)
theorem dX6_sumSign_21 : decode cX6_sumSign 21 = .ok (.bipush 42, 2) := dk_16 42 (dk_at dksX6_sumSign_0 21 rfl rfl)
theorem dX6_sumSign_23 : decode cX6_sumSign 23 = .ok (.if_icmp .ne 7, 3) := dk_160 0 7 (dk_at dksX6_sumSign_1 0 rfl rfl)
theorem dX6_sumSign_26 : decode cX6_sumSign 26 = .ok (.iconst 4, 1) := dk_7 (dk_at dksX6_sumSign_1 3 rfl rfl)
theorem dX6_sumSign_27 : decode cX6_sumSign 27 = .ok (.goto 25, 3) := dk_167 0 25 (dk_at dksX6_sumSign_1 4 rfl rfl)
theorem dX6_sumSign_30 : decode cX6_sumSign 30 = .ok (.iload_n 0, 1) := dk_26 (dk_at dksX6_sumSign_1 7 rfl rfl)
theorem dX6_sumSign_31 : decode cX6_sumSign 31 = .ok (.bipush 47, 2) := dk_16 47 (dk_at dksX6_sumSign_1 8 rfl rfl)
theorem dX6_sumSign_33 : decode cX6_sumSign 33 = .ok (.if_icmp .ne 7, 3) := dk_160 0 7 (dk_at dksX6_sumSign_1 10 rfl rfl)
theorem dX6_sumSign_36 : decode cX6_sumSign 36 = .ok (.iconst 5, 1) := dk_8 (dk_at dksX6_sumSign_1 13 rfl rfl)
theorem dX6_sumSign_37 : decode cX6_sumSign 37 = .ok (.goto 15, 3) := dk_167 0 15 (dk_at dksX6_sumSign_1 14 rfl rfl)
theorem dX6_sumSign_40 : decode cX6_sumSign 40 = .ok (.iload_n 0, 1) := dk_26 (dk_at dksX6_sumSign_1 17 rfl rfl)
theorem dX6_sumSign_41 : decode cX6_sumSign 41 = .ok (.bipush 37, 2) := dk_16 37 (dk_at dksX6_sumSign_1 18 rfl rfl)
theorem dX6_sumSign_43 : decode cX6_sumSign 43 = .ok (.if_icmp .ne 8, 3) := dk_160 0 8 (dk_at dksX6_sumSign_1 20 rfl rfl)
theorem dX6_sumSign_46 : decode cX6_sumSign 46 = .ok (.bipush 6, 2) := dk_16 6 (dk_at dksX6_sumSign_2 0 rfl rfl)
theorem dX6_sumSign_48 : decode cX6_sumSign 48 = .ok (.goto 4, 3) := dk_167 0 4 (dk_at dksX6_sumSign_2 2 rfl rfl)
theorem dX6_sumSign_51 : decode cX6_sumSign 51 = .ok (.iconst (-1), 1) := dk_2 (dk_at dksX6_sumSign_2 5 rfl rfl)
theorem dX6_sumSign_52 : decode cX6_sumSign 52 = .ok (.ireturn, 1) := dk_172 (dk_at dksX6_sumSign_2 6 rfl rfl)
abbrev cX6_closesSums : ByteArray := prog_20_method_27_code
def yX6_closesSums : MethodName := ⟨RX6, "closesSums", "(Z)V"⟩
def dkwX6_closesSums_2 : List UInt8 := [42, 42, 180, 0, 153, 4, 100, 181, 0, 153, 167, 255, 200, 177]
abbrev dktX6_closesSums_2 : List UInt8 := dkwX6_closesSums_2 ++ []
def dkwX6_closesSums_1 : List UInt8 := [182, 0, 156, 5, 159, 0, 11, 42, 182, 0, 156, 6, 160, 0, 25, 42, 42, 182, 0, 156, 3, 182, 0, 159]
abbrev dktX6_closesSums_1 : List UInt8 := dkwX6_closesSums_1 ++ dktX6_closesSums_2
def dkwX6_closesSums_0 : List UInt8 := [42, 182, 0, 156, 7, 161, 0, 12, 42, 182, 0, 156, 16, 6, 164, 0, 23, 27, 153, 0, 41, 42]
abbrev dktX6_closesSums_0 : List UInt8 := dkwX6_closesSums_0 ++ dktX6_closesSums_1
theorem dksX6_closesSums_0 : cX6_closesSums.data.toList.drop 0 = dktX6_closesSums_0 := by decide +kernel
theorem dksX6_closesSums_1 : cX6_closesSums.data.toList.drop 22 = dktX6_closesSums_1 := dk_seg dksX6_closesSums_0 22 rfl rfl
theorem dksX6_closesSums_2 : cX6_closesSums.data.toList.drop 46 = dktX6_closesSums_2 := dk_seg dksX6_closesSums_1 24 rfl rfl
theorem dX6_closesSums_0 : decode cX6_closesSums 0 = .ok (.aload_n 0, 1) := dk_42 (dk_at dksX6_closesSums_0 0 rfl rfl)
theorem dX6_closesSums_1 : decode cX6_closesSums 1 = .ok (.invokevirtual 156, 3) := dk_182 0 156 (dk_at dksX6_closesSums_0 1 rfl rfl)
theorem dX6_closesSums_4 : decode cX6_closesSums 4 = .ok (.iconst 4, 1) := dk_7 (dk_at dksX6_closesSums_0 4 rfl rfl)
theorem dX6_closesSums_5 : decode cX6_closesSums 5 = .ok (.if_icmp .lt 12, 3) := dk_161 0 12 (dk_at dksX6_closesSums_0 5 rfl rfl)
theorem dX6_closesSums_8 : decode cX6_closesSums 8 = .ok (.aload_n 0, 1) := dk_42 (dk_at dksX6_closesSums_0 8 rfl rfl)
theorem dX6_closesSums_9 : decode cX6_closesSums 9 = .ok (.invokevirtual 156, 3) := dk_182 0 156 (dk_at dksX6_closesSums_0 9 rfl rfl)
theorem dX6_closesSums_12 : decode cX6_closesSums 12 = .ok (.bipush 6, 2) := dk_16 6 (dk_at dksX6_closesSums_0 12 rfl rfl)
theorem dX6_closesSums_14 : decode cX6_closesSums 14 = .ok (.if_icmp .le 23, 3) := dk_164 0 23 (dk_at dksX6_closesSums_0 14 rfl rfl)
theorem dX6_closesSums_17 : decode cX6_closesSums 17 = .ok (.iload_n 1, 1) := dk_27 (dk_at dksX6_closesSums_0 17 rfl rfl)
theorem dX6_closesSums_18 : decode cX6_closesSums 18 = .ok (.ifCond .eq 41, 3) := dk_153 0 41 (dk_at dksX6_closesSums_0 18 rfl rfl)
theorem dX6_closesSums_21 : decode cX6_closesSums 21 = .ok (.aload_n 0, 1) := dk_42 (dk_at dksX6_closesSums_0 21 rfl rfl)
theorem dX6_closesSums_22 : decode cX6_closesSums 22 = .ok (.invokevirtual 156, 3) := dk_182 0 156 (dk_at dksX6_closesSums_1 0 rfl rfl)
theorem dX6_closesSums_25 : decode cX6_closesSums 25 = .ok (.iconst 2, 1) := dk_5 (dk_at dksX6_closesSums_1 3 rfl rfl)
theorem dX6_closesSums_26 : decode cX6_closesSums 26 = .ok (.if_icmp .eq 11, 3) := dk_159 0 11 (dk_at dksX6_closesSums_1 4 rfl rfl)
theorem dX6_closesSums_29 : decode cX6_closesSums 29 = .ok (.aload_n 0, 1) := dk_42 (dk_at dksX6_closesSums_1 7 rfl rfl)
theorem dX6_closesSums_30 : decode cX6_closesSums 30 = .ok (.invokevirtual 156, 3) := dk_182 0 156 (dk_at dksX6_closesSums_1 8 rfl rfl)
theorem dX6_closesSums_33 : decode cX6_closesSums 33 = .ok (.iconst 3, 1) := dk_6 (dk_at dksX6_closesSums_1 11 rfl rfl)
theorem dX6_closesSums_34 : decode cX6_closesSums 34 = .ok (.if_icmp .ne 25, 3) := dk_160 0 25 (dk_at dksX6_closesSums_1 12 rfl rfl)
theorem dX6_closesSums_37 : decode cX6_closesSums 37 = .ok (.aload_n 0, 1) := dk_42 (dk_at dksX6_closesSums_1 15 rfl rfl)
theorem dX6_closesSums_38 : decode cX6_closesSums 38 = .ok (.aload_n 0, 1) := dk_42 (dk_at dksX6_closesSums_1 16 rfl rfl)
theorem dX6_closesSums_39 : decode cX6_closesSums 39 = .ok (.invokevirtual 156, 3) := dk_182 0 156 (dk_at dksX6_closesSums_1 17 rfl rfl)
theorem dX6_closesSums_42 : decode cX6_closesSums 42 = .ok (.iconst 0, 1) := dk_3 (dk_at dksX6_closesSums_1 20 rfl rfl)
theorem dX6_closesSums_43 : decode cX6_closesSums 43 = .ok (.invokevirtual 159, 3) := dk_182 0 159 (dk_at dksX6_closesSums_1 21 rfl rfl)
theorem dX6_closesSums_46 : decode cX6_closesSums 46 = .ok (.aload_n 0, 1) := dk_42 (dk_at dksX6_closesSums_2 0 rfl rfl)
theorem dX6_closesSums_47 : decode cX6_closesSums 47 = .ok (.aload_n 0, 1) := dk_42 (dk_at dksX6_closesSums_2 1 rfl rfl)
theorem dX6_closesSums_48 : decode cX6_closesSums 48 = .ok (.getfield 153, 3) := dk_180 0 153 (dk_at dksX6_closesSums_2 2 rfl rfl)
theorem dX6_closesSums_51 : decode cX6_closesSums 51 = .ok (.iconst 1, 1) := dk_4 (dk_at dksX6_closesSums_2 5 rfl rfl)
theorem dX6_closesSums_52 : decode cX6_closesSums 52 = .ok (.isub, 1) := dk_100 (dk_at dksX6_closesSums_2 6 rfl rfl)
theorem dX6_closesSums_53 : decode cX6_closesSums 53 = .ok (.putfield 153, 3) := dk_181 0 153 (dk_at dksX6_closesSums_2 7 rfl rfl)
theorem dX6_closesSums_56 : decode cX6_closesSums 56 = .ok (.goto (-56), 3) := dk_167 255 200 (dk_at dksX6_closesSums_2 10 rfl rfl)
theorem dX6_closesSums_59 : decode cX6_closesSums 59 = .ok (.return_, 1) := dk_177 (dk_at dksX6_closesSums_2 13 rfl rfl)
abbrev cX6_waitTop : ByteArray := prog_20_method_24_code
def yX6_waitTop : MethodName := ⟨RX6, "waitTop", "()I"⟩
def dkwX6_waitTop_1 : List UInt8 := [108, 172]
abbrev dktX6_waitTop_1 : List UInt8 := dkwX6_waitTop_1 ++ []
def dkwX6_waitTop_0 : List UInt8 := [42, 180, 0, 153, 154, 0, 7, 2, 167, 0, 17, 42, 180, 0, 38, 42, 180, 0, 153, 4, 100, 46, 18, 149]
abbrev dktX6_waitTop_0 : List UInt8 := dkwX6_waitTop_0 ++ dktX6_waitTop_1
theorem dksX6_waitTop_0 : cX6_waitTop.data.toList.drop 0 = dktX6_waitTop_0 := by decide +kernel
theorem dksX6_waitTop_1 : cX6_waitTop.data.toList.drop 24 = dktX6_waitTop_1 := dk_seg dksX6_waitTop_0 24 rfl rfl
theorem dX6_waitTop_0 : decode cX6_waitTop 0 = .ok (.aload_n 0, 1) := dk_42 (dk_at dksX6_waitTop_0 0 rfl rfl)
theorem dX6_waitTop_1 : decode cX6_waitTop 1 = .ok (.getfield 153, 3) := dk_180 0 153 (dk_at dksX6_waitTop_0 1 rfl rfl)
theorem dX6_waitTop_4 : decode cX6_waitTop 4 = .ok (.ifCond .ne 7, 3) := dk_154 0 7 (dk_at dksX6_waitTop_0 4 rfl rfl)
theorem dX6_waitTop_7 : decode cX6_waitTop 7 = .ok (.iconst (-1), 1) := dk_2 (dk_at dksX6_waitTop_0 7 rfl rfl)
theorem dX6_waitTop_8 : decode cX6_waitTop 8 = .ok (.goto 17, 3) := dk_167 0 17 (dk_at dksX6_waitTop_0 8 rfl rfl)
theorem dX6_waitTop_11 : decode cX6_waitTop 11 = .ok (.aload_n 0, 1) := dk_42 (dk_at dksX6_waitTop_0 11 rfl rfl)
theorem dX6_waitTop_12 : decode cX6_waitTop 12 = .ok (.getfield 38, 3) := dk_180 0 38 (dk_at dksX6_waitTop_0 12 rfl rfl)
theorem dX6_waitTop_15 : decode cX6_waitTop 15 = .ok (.aload_n 0, 1) := dk_42 (dk_at dksX6_waitTop_0 15 rfl rfl)
theorem dX6_waitTop_16 : decode cX6_waitTop 16 = .ok (.getfield 153, 3) := dk_180 0 153 (dk_at dksX6_waitTop_0 16 rfl rfl)
theorem dX6_waitTop_19 : decode cX6_waitTop 19 = .ok (.iconst 1, 1) := dk_4 (dk_at dksX6_waitTop_0 19 rfl rfl)
theorem dX6_waitTop_20 : decode cX6_waitTop 20 = .ok (.isub, 1) := dk_100 (dk_at dksX6_waitTop_0 20 rfl rfl)
theorem dX6_waitTop_21 : decode cX6_waitTop 21 = .ok (.iaload, 1) := dk_46 (dk_at dksX6_waitTop_0 21 rfl rfl)
theorem dX6_waitTop_22 : decode cX6_waitTop 22 = .ok (.ldc 149, 2) := dk_18 149 (dk_at dksX6_waitTop_0 22 rfl rfl)
theorem dX6_waitTop_24 : decode cX6_waitTop 24 = .ok (.idiv, 1) := dk_108 (dk_at dksX6_waitTop_1 0 rfl rfl)
theorem dX6_waitTop_25 : decode cX6_waitTop 25 = .ok (.ireturn, 1) := dk_172 (dk_at dksX6_waitTop_1 1 rfl rfl)
abbrev cX6_hasOpenSum : ByteArray := prog_20_method_29_code
def yX6_hasOpenSum : MethodName := ⟨RX6, "hasOpenSum", "(I)Z"⟩
def dkwX6_hasOpenSum_1 : List UInt8 := [4, 172, 132, 2, 1, 167, 255, 229, 3, 172]
abbrev dktX6_hasOpenSum_1 : List UInt8 := dkwX6_hasOpenSum_1 ++ []
def dkwX6_hasOpenSum_0 : List UInt8 := [27, 61, 28, 42, 180, 0, 153, 162, 0, 25, 42, 180, 0, 38, 28, 46, 18, 149, 108, 16, 14, 160, 0, 5]
abbrev dktX6_hasOpenSum_0 : List UInt8 := dkwX6_hasOpenSum_0 ++ dktX6_hasOpenSum_1
theorem dksX6_hasOpenSum_0 : cX6_hasOpenSum.data.toList.drop 0 = dktX6_hasOpenSum_0 := by decide +kernel
theorem dksX6_hasOpenSum_1 : cX6_hasOpenSum.data.toList.drop 24 = dktX6_hasOpenSum_1 := dk_seg dksX6_hasOpenSum_0 24 rfl rfl
theorem dX6_hasOpenSum_0 : decode cX6_hasOpenSum 0 = .ok (.iload_n 1, 1) := dk_27 (dk_at dksX6_hasOpenSum_0 0 rfl rfl)
theorem dX6_hasOpenSum_1 : decode cX6_hasOpenSum 1 = .ok (.istore_n 2, 1) := dk_61 (dk_at dksX6_hasOpenSum_0 1 rfl rfl)
theorem dX6_hasOpenSum_2 : decode cX6_hasOpenSum 2 = .ok (.iload_n 2, 1) := dk_28 (dk_at dksX6_hasOpenSum_0 2 rfl rfl)
theorem dX6_hasOpenSum_3 : decode cX6_hasOpenSum 3 = .ok (.aload_n 0, 1) := dk_42 (dk_at dksX6_hasOpenSum_0 3 rfl rfl)
theorem dX6_hasOpenSum_4 : decode cX6_hasOpenSum 4 = .ok (.getfield 153, 3) := dk_180 0 153 (dk_at dksX6_hasOpenSum_0 4 rfl rfl)
theorem dX6_hasOpenSum_7 : decode cX6_hasOpenSum 7 = .ok (.if_icmp .ge 25, 3) := dk_162 0 25 (dk_at dksX6_hasOpenSum_0 7 rfl rfl)
theorem dX6_hasOpenSum_10 : decode cX6_hasOpenSum 10 = .ok (.aload_n 0, 1) := dk_42 (dk_at dksX6_hasOpenSum_0 10 rfl rfl)
theorem dX6_hasOpenSum_11 : decode cX6_hasOpenSum 11 = .ok (.getfield 38, 3) := dk_180 0 38 (dk_at dksX6_hasOpenSum_0 11 rfl rfl)
theorem dX6_hasOpenSum_14 : decode cX6_hasOpenSum 14 = .ok (.iload_n 2, 1) := dk_28 (dk_at dksX6_hasOpenSum_0 14 rfl rfl)
theorem dX6_hasOpenSum_15 : decode cX6_hasOpenSum 15 = .ok (.iaload, 1) := dk_46 (dk_at dksX6_hasOpenSum_0 15 rfl rfl)
theorem dX6_hasOpenSum_16 : decode cX6_hasOpenSum 16 = .ok (.ldc 149, 2) := dk_18 149 (dk_at dksX6_hasOpenSum_0 16 rfl rfl)
theorem dX6_hasOpenSum_18 : decode cX6_hasOpenSum 18 = .ok (.idiv, 1) := dk_108 (dk_at dksX6_hasOpenSum_0 18 rfl rfl)
theorem dX6_hasOpenSum_19 : decode cX6_hasOpenSum 19 = .ok (.bipush 14, 2) := dk_16 14 (dk_at dksX6_hasOpenSum_0 19 rfl rfl)
theorem dX6_hasOpenSum_21 : decode cX6_hasOpenSum 21 = .ok (.if_icmp .ne 5, 3) := dk_160 0 5 (dk_at dksX6_hasOpenSum_0 21 rfl rfl)
theorem dX6_hasOpenSum_24 : decode cX6_hasOpenSum 24 = .ok (.iconst 1, 1) := dk_4 (dk_at dksX6_hasOpenSum_1 0 rfl rfl)
theorem dX6_hasOpenSum_25 : decode cX6_hasOpenSum 25 = .ok (.ireturn, 1) := dk_172 (dk_at dksX6_hasOpenSum_1 1 rfl rfl)
theorem dX6_hasOpenSum_26 : decode cX6_hasOpenSum 26 = .ok (.iinc 2 1, 3) := dk_132 2 1 (dk_at dksX6_hasOpenSum_1 2 rfl rfl)
theorem dX6_hasOpenSum_29 : decode cX6_hasOpenSum 29 = .ok (.goto (-27), 3) := dk_167 255 229 (dk_at dksX6_hasOpenSum_1 5 rfl rfl)
theorem dX6_hasOpenSum_32 : decode cX6_hasOpenSum 32 = .ok (.iconst 0, 1) := dk_3 (dk_at dksX6_hasOpenSum_1 8 rfl rfl)
theorem dX6_hasOpenSum_33 : decode cX6_hasOpenSum 33 = .ok (.ireturn, 1) := dk_172 (dk_at dksX6_hasOpenSum_1 9 rfl rfl)
abbrev cX6_readsCondition : ByteArray := prog_20_method_35_code
def yX6_readsCondition : MethodName := ⟨RX6, "readsCondition", "()Z"⟩
def dkwX6_readsCondition_9 : List UInt8 := [16, 11, 167, 0, 5, 16, 12, 182, 0, 198, 167, 255, 78]
abbrev dktX6_readsCondition_9 : List UInt8 := dkwX6_readsCondition_9 ++ []
def dkwX6_readsCondition_8 : List UInt8 := [16, 124, 160, 0, 7, 4, 167, 0, 4, 3, 182, 0, 195, 42, 42, 182, 0, 129, 16, 38, 160, 0, 8]
abbrev dktX6_readsCondition_8 : List UInt8 := dkwX6_readsCondition_8 ++ dktX6_readsCondition_9
def dkwX6_readsCondition_7 : List UInt8 := [182, 0, 129, 16, 124, 159, 0, 13, 42, 4, 42, 180, 0, 123, 182, 0, 136, 172, 42, 42, 182, 0, 129]
abbrev dktX6_readsCondition_7 : List UInt8 := dkwX6_readsCondition_7 ++ dktX6_readsCondition_8
def dkwX6_readsCondition_6 : List UInt8 := [154, 0, 5, 4, 172, 42, 182, 0, 189, 167, 255, 199, 42, 182, 0, 129, 16, 38, 159, 0, 22, 42]
abbrev dktX6_readsCondition_6 : List UInt8 := dkwX6_readsCondition_6 ++ dktX6_readsCondition_7
def dkwX6_readsCondition_5 : List UInt8 := [42, 180, 0, 150, 4, 100, 181, 0, 150, 42, 42, 180, 0, 123, 4, 96, 181, 0, 123, 42, 180, 0, 153]
abbrev dktX6_readsCondition_5 : List UInt8 := dkwX6_readsCondition_5 ++ dktX6_readsCondition_6
def dkwX6_readsCondition_4 : List UInt8 := [182, 0, 129, 16, 41, 160, 0, 54, 42, 4, 182, 0, 195, 42, 42, 180, 0, 153, 4, 100, 181, 0, 153, 42]
abbrev dktX6_readsCondition_4 : List UInt8 := dkwX6_readsCondition_4 ++ dktX6_readsCondition_5
def dkwX6_readsCondition_3 : List UInt8 := [167, 0, 5, 16, 13, 182, 0, 163, 154, 255, 218, 3, 172, 42, 182, 0, 192, 154, 0, 5, 3, 172, 42]
abbrev dktX6_readsCondition_3 : List UInt8 := dkwX6_readsCondition_3 ++ dktX6_readsCondition_4
def dkwX6_readsCondition_2 : List UInt8 := [159, 0, 12, 42, 182, 0, 129, 16, 40, 160, 0, 28, 42, 42, 182, 0, 129, 16, 33, 160, 0, 8, 16, 10]
abbrev dktX6_readsCondition_2 : List UInt8 := dkwX6_readsCondition_2 ++ dktX6_readsCondition_3
def dkwX6_readsCondition_1 : List UInt8 := [42, 3, 181, 0, 153, 42, 16, 13, 182, 0, 163, 154, 0, 5, 3, 172, 42, 182, 0, 129, 16, 33]
abbrev dktX6_readsCondition_1 : List UInt8 := dkwX6_readsCondition_1 ++ dktX6_readsCondition_2
def dkwX6_readsCondition_0 : List UInt8 := [42, 182, 0, 129, 16, 40, 159, 0, 13, 42, 4, 42, 180, 0, 123, 182, 0, 136, 172, 42, 3, 181, 0, 150]
abbrev dktX6_readsCondition_0 : List UInt8 := dkwX6_readsCondition_0 ++ dktX6_readsCondition_1
theorem dksX6_readsCondition_0 : cX6_readsCondition.data.toList.drop 0 = dktX6_readsCondition_0 := by decide +kernel
theorem dksX6_readsCondition_1 : cX6_readsCondition.data.toList.drop 24 = dktX6_readsCondition_1 := dk_seg dksX6_readsCondition_0 24 rfl rfl
theorem dksX6_readsCondition_2 : cX6_readsCondition.data.toList.drop 46 = dktX6_readsCondition_2 := dk_seg dksX6_readsCondition_1 22 rfl rfl
theorem dksX6_readsCondition_3 : cX6_readsCondition.data.toList.drop 70 = dktX6_readsCondition_3 := dk_seg dksX6_readsCondition_2 24 rfl rfl
theorem dksX6_readsCondition_4 : cX6_readsCondition.data.toList.drop 93 = dktX6_readsCondition_4 := dk_seg dksX6_readsCondition_3 23 rfl rfl
theorem dksX6_readsCondition_5 : cX6_readsCondition.data.toList.drop 117 = dktX6_readsCondition_5 := dk_seg dksX6_readsCondition_4 24 rfl rfl
theorem dksX6_readsCondition_6 : cX6_readsCondition.data.toList.drop 140 = dktX6_readsCondition_6 := dk_seg dksX6_readsCondition_5 23 rfl rfl
theorem dksX6_readsCondition_7 : cX6_readsCondition.data.toList.drop 162 = dktX6_readsCondition_7 := dk_seg dksX6_readsCondition_6 22 rfl rfl
theorem dksX6_readsCondition_8 : cX6_readsCondition.data.toList.drop 185 = dktX6_readsCondition_8 := dk_seg dksX6_readsCondition_7 23 rfl rfl
theorem dksX6_readsCondition_9 : cX6_readsCondition.data.toList.drop 208 = dktX6_readsCondition_9 := dk_seg dksX6_readsCondition_8 23 rfl rfl
theorem dX6_readsCondition_0 : decode cX6_readsCondition 0 = .ok (.aload_n 0, 1) := dk_42 (dk_at dksX6_readsCondition_0 0 rfl rfl)
theorem dX6_readsCondition_1 : decode cX6_readsCondition 1 = .ok (.invokevirtual 129, 3) := dk_182 0 129 (dk_at dksX6_readsCondition_0 1 rfl rfl)
theorem dX6_readsCondition_4 : decode cX6_readsCondition 4 = .ok (.bipush 40, 2) := dk_16 40 (dk_at dksX6_readsCondition_0 4 rfl rfl)
theorem dX6_readsCondition_6 : decode cX6_readsCondition 6 = .ok (.if_icmp .eq 13, 3) := dk_159 0 13 (dk_at dksX6_readsCondition_0 6 rfl rfl)
theorem dX6_readsCondition_9 : decode cX6_readsCondition 9 = .ok (.aload_n 0, 1) := dk_42 (dk_at dksX6_readsCondition_0 9 rfl rfl)
theorem dX6_readsCondition_10 : decode cX6_readsCondition 10 = .ok (.iconst 1, 1) := dk_4 (dk_at dksX6_readsCondition_0 10 rfl rfl)
theorem dX6_readsCondition_11 : decode cX6_readsCondition 11 = .ok (.aload_n 0, 1) := dk_42 (dk_at dksX6_readsCondition_0 11 rfl rfl)
theorem dX6_readsCondition_12 : decode cX6_readsCondition 12 = .ok (.getfield 123, 3) := dk_180 0 123 (dk_at dksX6_readsCondition_0 12 rfl rfl)
theorem dX6_readsCondition_15 : decode cX6_readsCondition 15 = .ok (.invokevirtual 136, 3) := dk_182 0 136 (dk_at dksX6_readsCondition_0 15 rfl rfl)
theorem dX6_readsCondition_18 : decode cX6_readsCondition 18 = .ok (.ireturn, 1) := dk_172 (dk_at dksX6_readsCondition_0 18 rfl rfl)
theorem dX6_readsCondition_19 : decode cX6_readsCondition 19 = .ok (.aload_n 0, 1) := dk_42 (dk_at dksX6_readsCondition_0 19 rfl rfl)
theorem dX6_readsCondition_20 : decode cX6_readsCondition 20 = .ok (.iconst 0, 1) := dk_3 (dk_at dksX6_readsCondition_0 20 rfl rfl)
theorem dX6_readsCondition_21 : decode cX6_readsCondition 21 = .ok (.putfield 150, 3) := dk_181 0 150 (dk_at dksX6_readsCondition_0 21 rfl rfl)
theorem dX6_readsCondition_24 : decode cX6_readsCondition 24 = .ok (.aload_n 0, 1) := dk_42 (dk_at dksX6_readsCondition_1 0 rfl rfl)
theorem dX6_readsCondition_25 : decode cX6_readsCondition 25 = .ok (.iconst 0, 1) := dk_3 (dk_at dksX6_readsCondition_1 1 rfl rfl)
theorem dX6_readsCondition_26 : decode cX6_readsCondition 26 = .ok (.putfield 153, 3) := dk_181 0 153 (dk_at dksX6_readsCondition_1 2 rfl rfl)
theorem dX6_readsCondition_29 : decode cX6_readsCondition 29 = .ok (.aload_n 0, 1) := dk_42 (dk_at dksX6_readsCondition_1 5 rfl rfl)
theorem dX6_readsCondition_30 : decode cX6_readsCondition 30 = .ok (.bipush 13, 2) := dk_16 13 (dk_at dksX6_readsCondition_1 6 rfl rfl)
theorem dX6_readsCondition_32 : decode cX6_readsCondition 32 = .ok (.invokevirtual 163, 3) := dk_182 0 163 (dk_at dksX6_readsCondition_1 8 rfl rfl)
theorem dX6_readsCondition_35 : decode cX6_readsCondition 35 = .ok (.ifCond .ne 5, 3) := dk_154 0 5 (dk_at dksX6_readsCondition_1 11 rfl rfl)
theorem dX6_readsCondition_38 : decode cX6_readsCondition 38 = .ok (.iconst 0, 1) := dk_3 (dk_at dksX6_readsCondition_1 14 rfl rfl)
theorem dX6_readsCondition_39 : decode cX6_readsCondition 39 = .ok (.ireturn, 1) := dk_172 (dk_at dksX6_readsCondition_1 15 rfl rfl)
theorem dX6_readsCondition_40 : decode cX6_readsCondition 40 = .ok (.aload_n 0, 1) := dk_42 (dk_at dksX6_readsCondition_1 16 rfl rfl)
theorem dX6_readsCondition_41 : decode cX6_readsCondition 41 = .ok (.invokevirtual 129, 3) := dk_182 0 129 (dk_at dksX6_readsCondition_1 17 rfl rfl)
theorem dX6_readsCondition_44 : decode cX6_readsCondition 44 = .ok (.bipush 33, 2) := dk_16 33 (dk_at dksX6_readsCondition_1 20 rfl rfl)
theorem dX6_readsCondition_46 : decode cX6_readsCondition 46 = .ok (.if_icmp .eq 12, 3) := dk_159 0 12 (dk_at dksX6_readsCondition_2 0 rfl rfl)
theorem dX6_readsCondition_49 : decode cX6_readsCondition 49 = .ok (.aload_n 0, 1) := dk_42 (dk_at dksX6_readsCondition_2 3 rfl rfl)
theorem dX6_readsCondition_50 : decode cX6_readsCondition 50 = .ok (.invokevirtual 129, 3) := dk_182 0 129 (dk_at dksX6_readsCondition_2 4 rfl rfl)
theorem dX6_readsCondition_53 : decode cX6_readsCondition 53 = .ok (.bipush 40, 2) := dk_16 40 (dk_at dksX6_readsCondition_2 7 rfl rfl)
theorem dX6_readsCondition_55 : decode cX6_readsCondition 55 = .ok (.if_icmp .ne 28, 3) := dk_160 0 28 (dk_at dksX6_readsCondition_2 9 rfl rfl)
theorem dX6_readsCondition_58 : decode cX6_readsCondition 58 = .ok (.aload_n 0, 1) := dk_42 (dk_at dksX6_readsCondition_2 12 rfl rfl)
theorem dX6_readsCondition_59 : decode cX6_readsCondition 59 = .ok (.aload_n 0, 1) := dk_42 (dk_at dksX6_readsCondition_2 13 rfl rfl)
theorem dX6_readsCondition_60 : decode cX6_readsCondition 60 = .ok (.invokevirtual 129, 3) := dk_182 0 129 (dk_at dksX6_readsCondition_2 14 rfl rfl)
theorem dX6_readsCondition_63 : decode cX6_readsCondition 63 = .ok (.bipush 33, 2) := dk_16 33 (dk_at dksX6_readsCondition_2 17 rfl rfl)
theorem dX6_readsCondition_65 : decode cX6_readsCondition 65 = .ok (.if_icmp .ne 8, 3) := dk_160 0 8 (dk_at dksX6_readsCondition_2 19 rfl rfl)
theorem dX6_readsCondition_68 : decode cX6_readsCondition 68 = .ok (.bipush 10, 2) := dk_16 10 (dk_at dksX6_readsCondition_2 22 rfl rfl)
theorem dX6_readsCondition_70 : decode cX6_readsCondition 70 = .ok (.goto 5, 3) := dk_167 0 5 (dk_at dksX6_readsCondition_3 0 rfl rfl)
theorem dX6_readsCondition_73 : decode cX6_readsCondition 73 = .ok (.bipush 13, 2) := dk_16 13 (dk_at dksX6_readsCondition_3 3 rfl rfl)
theorem dX6_readsCondition_75 : decode cX6_readsCondition 75 = .ok (.invokevirtual 163, 3) := dk_182 0 163 (dk_at dksX6_readsCondition_3 5 rfl rfl)
theorem dX6_readsCondition_78 : decode cX6_readsCondition 78 = .ok (.ifCond .ne (-38), 3) := dk_154 255 218 (dk_at dksX6_readsCondition_3 8 rfl rfl)
theorem dX6_readsCondition_81 : decode cX6_readsCondition 81 = .ok (.iconst 0, 1) := dk_3 (dk_at dksX6_readsCondition_3 11 rfl rfl)
theorem dX6_readsCondition_82 : decode cX6_readsCondition 82 = .ok (.ireturn, 1) := dk_172 (dk_at dksX6_readsCondition_3 12 rfl rfl)
theorem dX6_readsCondition_83 : decode cX6_readsCondition 83 = .ok (.aload_n 0, 1) := dk_42 (dk_at dksX6_readsCondition_3 13 rfl rfl)
theorem dX6_readsCondition_84 : decode cX6_readsCondition 84 = .ok (.invokevirtual 192, 3) := dk_182 0 192 (dk_at dksX6_readsCondition_3 14 rfl rfl)
theorem dX6_readsCondition_87 : decode cX6_readsCondition 87 = .ok (.ifCond .ne 5, 3) := dk_154 0 5 (dk_at dksX6_readsCondition_3 17 rfl rfl)
theorem dX6_readsCondition_90 : decode cX6_readsCondition 90 = .ok (.iconst 0, 1) := dk_3 (dk_at dksX6_readsCondition_3 20 rfl rfl)
theorem dX6_readsCondition_91 : decode cX6_readsCondition 91 = .ok (.ireturn, 1) := dk_172 (dk_at dksX6_readsCondition_3 21 rfl rfl)
theorem dX6_readsCondition_92 : decode cX6_readsCondition 92 = .ok (.aload_n 0, 1) := dk_42 (dk_at dksX6_readsCondition_3 22 rfl rfl)
theorem dX6_readsCondition_93 : decode cX6_readsCondition 93 = .ok (.invokevirtual 129, 3) := dk_182 0 129 (dk_at dksX6_readsCondition_4 0 rfl rfl)
theorem dX6_readsCondition_96 : decode cX6_readsCondition 96 = .ok (.bipush 41, 2) := dk_16 41 (dk_at dksX6_readsCondition_4 3 rfl rfl)
theorem dX6_readsCondition_98 : decode cX6_readsCondition 98 = .ok (.if_icmp .ne 54, 3) := dk_160 0 54 (dk_at dksX6_readsCondition_4 5 rfl rfl)
theorem dX6_readsCondition_101 : decode cX6_readsCondition 101 = .ok (.aload_n 0, 1) := dk_42 (dk_at dksX6_readsCondition_4 8 rfl rfl)
theorem dX6_readsCondition_102 : decode cX6_readsCondition 102 = .ok (.iconst 1, 1) := dk_4 (dk_at dksX6_readsCondition_4 9 rfl rfl)
theorem dX6_readsCondition_103 : decode cX6_readsCondition 103 = .ok (.invokevirtual 195, 3) := dk_182 0 195 (dk_at dksX6_readsCondition_4 10 rfl rfl)
theorem dX6_readsCondition_106 : decode cX6_readsCondition 106 = .ok (.aload_n 0, 1) := dk_42 (dk_at dksX6_readsCondition_4 13 rfl rfl)
theorem dX6_readsCondition_107 : decode cX6_readsCondition 107 = .ok (.aload_n 0, 1) := dk_42 (dk_at dksX6_readsCondition_4 14 rfl rfl)
theorem dX6_readsCondition_108 : decode cX6_readsCondition 108 = .ok (.getfield 153, 3) := dk_180 0 153 (dk_at dksX6_readsCondition_4 15 rfl rfl)
theorem dX6_readsCondition_111 : decode cX6_readsCondition 111 = .ok (.iconst 1, 1) := dk_4 (dk_at dksX6_readsCondition_4 18 rfl rfl)
theorem dX6_readsCondition_112 : decode cX6_readsCondition 112 = .ok (.isub, 1) := dk_100 (dk_at dksX6_readsCondition_4 19 rfl rfl)
theorem dX6_readsCondition_113 : decode cX6_readsCondition 113 = .ok (.putfield 153, 3) := dk_181 0 153 (dk_at dksX6_readsCondition_4 20 rfl rfl)
theorem dX6_readsCondition_116 : decode cX6_readsCondition 116 = .ok (.aload_n 0, 1) := dk_42 (dk_at dksX6_readsCondition_4 23 rfl rfl)
theorem dX6_readsCondition_117 : decode cX6_readsCondition 117 = .ok (.aload_n 0, 1) := dk_42 (dk_at dksX6_readsCondition_5 0 rfl rfl)
theorem dX6_readsCondition_118 : decode cX6_readsCondition 118 = .ok (.getfield 150, 3) := dk_180 0 150 (dk_at dksX6_readsCondition_5 1 rfl rfl)
theorem dX6_readsCondition_121 : decode cX6_readsCondition 121 = .ok (.iconst 1, 1) := dk_4 (dk_at dksX6_readsCondition_5 4 rfl rfl)
theorem dX6_readsCondition_122 : decode cX6_readsCondition 122 = .ok (.isub, 1) := dk_100 (dk_at dksX6_readsCondition_5 5 rfl rfl)
theorem dX6_readsCondition_123 : decode cX6_readsCondition 123 = .ok (.putfield 150, 3) := dk_181 0 150 (dk_at dksX6_readsCondition_5 6 rfl rfl)
theorem dX6_readsCondition_126 : decode cX6_readsCondition 126 = .ok (.aload_n 0, 1) := dk_42 (dk_at dksX6_readsCondition_5 9 rfl rfl)
theorem dX6_readsCondition_127 : decode cX6_readsCondition 127 = .ok (.aload_n 0, 1) := dk_42 (dk_at dksX6_readsCondition_5 10 rfl rfl)
theorem dX6_readsCondition_128 : decode cX6_readsCondition 128 = .ok (.getfield 123, 3) := dk_180 0 123 (dk_at dksX6_readsCondition_5 11 rfl rfl)
theorem dX6_readsCondition_131 : decode cX6_readsCondition 131 = .ok (.iconst 1, 1) := dk_4 (dk_at dksX6_readsCondition_5 14 rfl rfl)
theorem dX6_readsCondition_132 : decode cX6_readsCondition 132 = .ok (.iadd, 1) := dk_96 (dk_at dksX6_readsCondition_5 15 rfl rfl)
theorem dX6_readsCondition_133 : decode cX6_readsCondition 133 = .ok (.putfield 123, 3) := dk_181 0 123 (dk_at dksX6_readsCondition_5 16 rfl rfl)
theorem dX6_readsCondition_136 : decode cX6_readsCondition 136 = .ok (.aload_n 0, 1) := dk_42 (dk_at dksX6_readsCondition_5 19 rfl rfl)
theorem dX6_readsCondition_137 : decode cX6_readsCondition 137 = .ok (.getfield 153, 3) := dk_180 0 153 (dk_at dksX6_readsCondition_5 20 rfl rfl)
theorem dX6_readsCondition_140 : decode cX6_readsCondition 140 = .ok (.ifCond .ne 5, 3) := dk_154 0 5 (dk_at dksX6_readsCondition_6 0 rfl rfl)
theorem dX6_readsCondition_143 : decode cX6_readsCondition 143 = .ok (.iconst 1, 1) := dk_4 (dk_at dksX6_readsCondition_6 3 rfl rfl)
theorem dX6_readsCondition_144 : decode cX6_readsCondition 144 = .ok (.ireturn, 1) := dk_172 (dk_at dksX6_readsCondition_6 4 rfl rfl)
theorem dX6_readsCondition_145 : decode cX6_readsCondition 145 = .ok (.aload_n 0, 1) := dk_42 (dk_at dksX6_readsCondition_6 5 rfl rfl)
theorem dX6_readsCondition_146 : decode cX6_readsCondition 146 = .ok (.invokevirtual 189, 3) := dk_182 0 189 (dk_at dksX6_readsCondition_6 6 rfl rfl)
theorem dX6_readsCondition_149 : decode cX6_readsCondition 149 = .ok (.goto (-57), 3) := dk_167 255 199 (dk_at dksX6_readsCondition_6 9 rfl rfl)
theorem dX6_readsCondition_152 : decode cX6_readsCondition 152 = .ok (.aload_n 0, 1) := dk_42 (dk_at dksX6_readsCondition_6 12 rfl rfl)
theorem dX6_readsCondition_153 : decode cX6_readsCondition 153 = .ok (.invokevirtual 129, 3) := dk_182 0 129 (dk_at dksX6_readsCondition_6 13 rfl rfl)
theorem dX6_readsCondition_156 : decode cX6_readsCondition 156 = .ok (.bipush 38, 2) := dk_16 38 (dk_at dksX6_readsCondition_6 16 rfl rfl)
theorem dX6_readsCondition_158 : decode cX6_readsCondition 158 = .ok (.if_icmp .eq 22, 3) := dk_159 0 22 (dk_at dksX6_readsCondition_6 18 rfl rfl)
theorem dX6_readsCondition_161 : decode cX6_readsCondition 161 = .ok (.aload_n 0, 1) := dk_42 (dk_at dksX6_readsCondition_6 21 rfl rfl)
theorem dX6_readsCondition_162 : decode cX6_readsCondition 162 = .ok (.invokevirtual 129, 3) := dk_182 0 129 (dk_at dksX6_readsCondition_7 0 rfl rfl)
theorem dX6_readsCondition_165 : decode cX6_readsCondition 165 = .ok (.bipush 124, 2) := dk_16 124 (dk_at dksX6_readsCondition_7 3 rfl rfl)
theorem dX6_readsCondition_167 : decode cX6_readsCondition 167 = .ok (.if_icmp .eq 13, 3) := dk_159 0 13 (dk_at dksX6_readsCondition_7 5 rfl rfl)
theorem dX6_readsCondition_170 : decode cX6_readsCondition 170 = .ok (.aload_n 0, 1) := dk_42 (dk_at dksX6_readsCondition_7 8 rfl rfl)
theorem dX6_readsCondition_171 : decode cX6_readsCondition 171 = .ok (.iconst 1, 1) := dk_4 (dk_at dksX6_readsCondition_7 9 rfl rfl)
theorem dX6_readsCondition_172 : decode cX6_readsCondition 172 = .ok (.aload_n 0, 1) := dk_42 (dk_at dksX6_readsCondition_7 10 rfl rfl)
theorem dX6_readsCondition_173 : decode cX6_readsCondition 173 = .ok (.getfield 123, 3) := dk_180 0 123 (dk_at dksX6_readsCondition_7 11 rfl rfl)
theorem dX6_readsCondition_176 : decode cX6_readsCondition 176 = .ok (.invokevirtual 136, 3) := dk_182 0 136 (dk_at dksX6_readsCondition_7 14 rfl rfl)
theorem dX6_readsCondition_179 : decode cX6_readsCondition 179 = .ok (.ireturn, 1) := dk_172 (dk_at dksX6_readsCondition_7 17 rfl rfl)
theorem dX6_readsCondition_180 : decode cX6_readsCondition 180 = .ok (.aload_n 0, 1) := dk_42 (dk_at dksX6_readsCondition_7 18 rfl rfl)
theorem dX6_readsCondition_181 : decode cX6_readsCondition 181 = .ok (.aload_n 0, 1) := dk_42 (dk_at dksX6_readsCondition_7 19 rfl rfl)
theorem dX6_readsCondition_182 : decode cX6_readsCondition 182 = .ok (.invokevirtual 129, 3) := dk_182 0 129 (dk_at dksX6_readsCondition_7 20 rfl rfl)
theorem dX6_readsCondition_185 : decode cX6_readsCondition 185 = .ok (.bipush 124, 2) := dk_16 124 (dk_at dksX6_readsCondition_8 0 rfl rfl)
theorem dX6_readsCondition_187 : decode cX6_readsCondition 187 = .ok (.if_icmp .ne 7, 3) := dk_160 0 7 (dk_at dksX6_readsCondition_8 2 rfl rfl)
theorem dX6_readsCondition_190 : decode cX6_readsCondition 190 = .ok (.iconst 1, 1) := dk_4 (dk_at dksX6_readsCondition_8 5 rfl rfl)
theorem dX6_readsCondition_191 : decode cX6_readsCondition 191 = .ok (.goto 4, 3) := dk_167 0 4 (dk_at dksX6_readsCondition_8 6 rfl rfl)
theorem dX6_readsCondition_194 : decode cX6_readsCondition 194 = .ok (.iconst 0, 1) := dk_3 (dk_at dksX6_readsCondition_8 9 rfl rfl)
theorem dX6_readsCondition_195 : decode cX6_readsCondition 195 = .ok (.invokevirtual 195, 3) := dk_182 0 195 (dk_at dksX6_readsCondition_8 10 rfl rfl)
theorem dX6_readsCondition_198 : decode cX6_readsCondition 198 = .ok (.aload_n 0, 1) := dk_42 (dk_at dksX6_readsCondition_8 13 rfl rfl)
theorem dX6_readsCondition_199 : decode cX6_readsCondition 199 = .ok (.aload_n 0, 1) := dk_42 (dk_at dksX6_readsCondition_8 14 rfl rfl)
theorem dX6_readsCondition_200 : decode cX6_readsCondition 200 = .ok (.invokevirtual 129, 3) := dk_182 0 129 (dk_at dksX6_readsCondition_8 15 rfl rfl)
theorem dX6_readsCondition_203 : decode cX6_readsCondition 203 = .ok (.bipush 38, 2) := dk_16 38 (dk_at dksX6_readsCondition_8 18 rfl rfl)
theorem dX6_readsCondition_205 : decode cX6_readsCondition 205 = .ok (.if_icmp .ne 8, 3) := dk_160 0 8 (dk_at dksX6_readsCondition_8 20 rfl rfl)
theorem dX6_readsCondition_208 : decode cX6_readsCondition 208 = .ok (.bipush 11, 2) := dk_16 11 (dk_at dksX6_readsCondition_9 0 rfl rfl)
theorem dX6_readsCondition_210 : decode cX6_readsCondition 210 = .ok (.goto 5, 3) := dk_167 0 5 (dk_at dksX6_readsCondition_9 2 rfl rfl)
theorem dX6_readsCondition_213 : decode cX6_readsCondition 213 = .ok (.bipush 12, 2) := dk_16 12 (dk_at dksX6_readsCondition_9 5 rfl rfl)
theorem dX6_readsCondition_215 : decode cX6_readsCondition 215 = .ok (.invokevirtual 198, 3) := dk_182 0 198 (dk_at dksX6_readsCondition_9 7 rfl rfl)
theorem dX6_readsCondition_218 : decode cX6_readsCondition 218 = .ok (.goto (-178), 3) := dk_167 255 78 (dk_at dksX6_readsCondition_9 10 rfl rfl)
abbrev cX6_readsCompared : ByteArray := prog_20_method_34_code
def yX6_readsCompared : MethodName := ⟨RX6, "readsCompared", "()Z"⟩
def dkwX6_readsCompared_4 : List UInt8 := [182, 0, 189, 4, 172]
abbrev dktX6_readsCompared_4 : List UInt8 := dkwX6_readsCompared_4 ++ []
def dkwX6_readsCompared_3 : List UInt8 := [180, 0, 123, 4, 96, 181, 0, 123, 42, 182, 0, 186, 154, 0, 5, 3, 172, 42, 27, 3, 182, 0, 159, 42]
abbrev dktX6_readsCompared_3 : List UInt8 := dkwX6_readsCompared_3 ++ dktX6_readsCompared_4
def dkwX6_readsCompared_2 : List UInt8 := [167, 0, 4, 2, 60, 27, 2, 160, 0, 13, 42, 4, 42, 180, 0, 123, 182, 0, 136, 172, 42, 42]
abbrev dktX6_readsCompared_2 : List UInt8 := dkwX6_readsCompared_2 ++ dktX6_readsCompared_3
def dkwX6_readsCompared_1 : List UInt8 := [182, 0, 129, 16, 62, 160, 0, 8, 16, 8, 167, 0, 18, 42, 182, 0, 129, 16, 61, 160, 0, 8, 16, 9]
abbrev dktX6_readsCompared_1 : List UInt8 := dkwX6_readsCompared_1 ++ dktX6_readsCompared_2
def dkwX6_readsCompared_0 : List UInt8 := [42, 182, 0, 186, 154, 0, 5, 3, 172, 42, 182, 0, 129, 16, 60, 160, 0, 8, 16, 7, 167, 0, 32, 42]
abbrev dktX6_readsCompared_0 : List UInt8 := dkwX6_readsCompared_0 ++ dktX6_readsCompared_1
theorem dksX6_readsCompared_0 : cX6_readsCompared.data.toList.drop 0 = dktX6_readsCompared_0 := by decide +kernel
theorem dksX6_readsCompared_1 : cX6_readsCompared.data.toList.drop 24 = dktX6_readsCompared_1 := dk_seg dksX6_readsCompared_0 24 rfl rfl
theorem dksX6_readsCompared_2 : cX6_readsCompared.data.toList.drop 48 = dktX6_readsCompared_2 := dk_seg dksX6_readsCompared_1 24 rfl rfl
theorem dksX6_readsCompared_3 : cX6_readsCompared.data.toList.drop 70 = dktX6_readsCompared_3 := dk_seg dksX6_readsCompared_2 22 rfl rfl
theorem dksX6_readsCompared_4 : cX6_readsCompared.data.toList.drop 94 = dktX6_readsCompared_4 := dk_seg dksX6_readsCompared_3 24 rfl rfl
theorem dX6_readsCompared_0 : decode cX6_readsCompared 0 = .ok (.aload_n 0, 1) := dk_42 (dk_at dksX6_readsCompared_0 0 rfl rfl)
theorem dX6_readsCompared_1 : decode cX6_readsCompared 1 = .ok (.invokevirtual 186, 3) := dk_182 0 186 (dk_at dksX6_readsCompared_0 1 rfl rfl)
theorem dX6_readsCompared_4 : decode cX6_readsCompared 4 = .ok (.ifCond .ne 5, 3) := dk_154 0 5 (dk_at dksX6_readsCompared_0 4 rfl rfl)
theorem dX6_readsCompared_7 : decode cX6_readsCompared 7 = .ok (.iconst 0, 1) := dk_3 (dk_at dksX6_readsCompared_0 7 rfl rfl)
theorem dX6_readsCompared_8 : decode cX6_readsCompared 8 = .ok (.ireturn, 1) := dk_172 (dk_at dksX6_readsCompared_0 8 rfl rfl)
theorem dX6_readsCompared_9 : decode cX6_readsCompared 9 = .ok (.aload_n 0, 1) := dk_42 (dk_at dksX6_readsCompared_0 9 rfl rfl)
theorem dX6_readsCompared_10 : decode cX6_readsCompared 10 = .ok (.invokevirtual 129, 3) := dk_182 0 129 (dk_at dksX6_readsCompared_0 10 rfl rfl)
theorem dX6_readsCompared_13 : decode cX6_readsCompared 13 = .ok (.bipush 60, 2) := dk_16 60 (dk_at dksX6_readsCompared_0 13 rfl rfl)
theorem dX6_readsCompared_15 : decode cX6_readsCompared 15 = .ok (.if_icmp .ne 8, 3) := dk_160 0 8 (dk_at dksX6_readsCompared_0 15 rfl rfl)
theorem dX6_readsCompared_18 : decode cX6_readsCompared 18 = .ok (.bipush 7, 2) := dk_16 7 (dk_at dksX6_readsCompared_0 18 rfl rfl)
theorem dX6_readsCompared_20 : decode cX6_readsCompared 20 = .ok (.goto 32, 3) := dk_167 0 32 (dk_at dksX6_readsCompared_0 20 rfl rfl)
theorem dX6_readsCompared_23 : decode cX6_readsCompared 23 = .ok (.aload_n 0, 1) := dk_42 (dk_at dksX6_readsCompared_0 23 rfl rfl)
theorem dX6_readsCompared_24 : decode cX6_readsCompared 24 = .ok (.invokevirtual 129, 3) := dk_182 0 129 (dk_at dksX6_readsCompared_1 0 rfl rfl)
theorem dX6_readsCompared_27 : decode cX6_readsCompared 27 = .ok (.bipush 62, 2) := dk_16 62 (dk_at dksX6_readsCompared_1 3 rfl rfl)
theorem dX6_readsCompared_29 : decode cX6_readsCompared 29 = .ok (.if_icmp .ne 8, 3) := dk_160 0 8 (dk_at dksX6_readsCompared_1 5 rfl rfl)
theorem dX6_readsCompared_32 : decode cX6_readsCompared 32 = .ok (.bipush 8, 2) := dk_16 8 (dk_at dksX6_readsCompared_1 8 rfl rfl)
theorem dX6_readsCompared_34 : decode cX6_readsCompared 34 = .ok (.goto 18, 3) := dk_167 0 18 (dk_at dksX6_readsCompared_1 10 rfl rfl)
theorem dX6_readsCompared_37 : decode cX6_readsCompared 37 = .ok (.aload_n 0, 1) := dk_42 (dk_at dksX6_readsCompared_1 13 rfl rfl)
theorem dX6_readsCompared_38 : decode cX6_readsCompared 38 = .ok (.invokevirtual 129, 3) := dk_182 0 129 (dk_at dksX6_readsCompared_1 14 rfl rfl)
theorem dX6_readsCompared_41 : decode cX6_readsCompared 41 = .ok (.bipush 61, 2) := dk_16 61 (dk_at dksX6_readsCompared_1 17 rfl rfl)
theorem dX6_readsCompared_43 : decode cX6_readsCompared 43 = .ok (.if_icmp .ne 8, 3) := dk_160 0 8 (dk_at dksX6_readsCompared_1 19 rfl rfl)
theorem dX6_readsCompared_46 : decode cX6_readsCompared 46 = .ok (.bipush 9, 2) := dk_16 9 (dk_at dksX6_readsCompared_1 22 rfl rfl)
theorem dX6_readsCompared_48 : decode cX6_readsCompared 48 = .ok (.goto 4, 3) := dk_167 0 4 (dk_at dksX6_readsCompared_2 0 rfl rfl)
theorem dX6_readsCompared_51 : decode cX6_readsCompared 51 = .ok (.iconst (-1), 1) := dk_2 (dk_at dksX6_readsCompared_2 3 rfl rfl)
theorem dX6_readsCompared_52 : decode cX6_readsCompared 52 = .ok (.istore_n 1, 1) := dk_60 (dk_at dksX6_readsCompared_2 4 rfl rfl)
theorem dX6_readsCompared_53 : decode cX6_readsCompared 53 = .ok (.iload_n 1, 1) := dk_27 (dk_at dksX6_readsCompared_2 5 rfl rfl)
theorem dX6_readsCompared_54 : decode cX6_readsCompared 54 = .ok (.iconst (-1), 1) := dk_2 (dk_at dksX6_readsCompared_2 6 rfl rfl)
theorem dX6_readsCompared_55 : decode cX6_readsCompared 55 = .ok (.if_icmp .ne 13, 3) := dk_160 0 13 (dk_at dksX6_readsCompared_2 7 rfl rfl)
theorem dX6_readsCompared_58 : decode cX6_readsCompared 58 = .ok (.aload_n 0, 1) := dk_42 (dk_at dksX6_readsCompared_2 10 rfl rfl)
theorem dX6_readsCompared_59 : decode cX6_readsCompared 59 = .ok (.iconst 1, 1) := dk_4 (dk_at dksX6_readsCompared_2 11 rfl rfl)
theorem dX6_readsCompared_60 : decode cX6_readsCompared 60 = .ok (.aload_n 0, 1) := dk_42 (dk_at dksX6_readsCompared_2 12 rfl rfl)
theorem dX6_readsCompared_61 : decode cX6_readsCompared 61 = .ok (.getfield 123, 3) := dk_180 0 123 (dk_at dksX6_readsCompared_2 13 rfl rfl)
theorem dX6_readsCompared_64 : decode cX6_readsCompared 64 = .ok (.invokevirtual 136, 3) := dk_182 0 136 (dk_at dksX6_readsCompared_2 16 rfl rfl)
theorem dX6_readsCompared_67 : decode cX6_readsCompared 67 = .ok (.ireturn, 1) := dk_172 (dk_at dksX6_readsCompared_2 19 rfl rfl)
theorem dX6_readsCompared_68 : decode cX6_readsCompared 68 = .ok (.aload_n 0, 1) := dk_42 (dk_at dksX6_readsCompared_2 20 rfl rfl)
theorem dX6_readsCompared_69 : decode cX6_readsCompared 69 = .ok (.aload_n 0, 1) := dk_42 (dk_at dksX6_readsCompared_2 21 rfl rfl)
theorem dX6_readsCompared_70 : decode cX6_readsCompared 70 = .ok (.getfield 123, 3) := dk_180 0 123 (dk_at dksX6_readsCompared_3 0 rfl rfl)
theorem dX6_readsCompared_73 : decode cX6_readsCompared 73 = .ok (.iconst 1, 1) := dk_4 (dk_at dksX6_readsCompared_3 3 rfl rfl)
theorem dX6_readsCompared_74 : decode cX6_readsCompared 74 = .ok (.iadd, 1) := dk_96 (dk_at dksX6_readsCompared_3 4 rfl rfl)
theorem dX6_readsCompared_75 : decode cX6_readsCompared 75 = .ok (.putfield 123, 3) := dk_181 0 123 (dk_at dksX6_readsCompared_3 5 rfl rfl)
theorem dX6_readsCompared_78 : decode cX6_readsCompared 78 = .ok (.aload_n 0, 1) := dk_42 (dk_at dksX6_readsCompared_3 8 rfl rfl)
theorem dX6_readsCompared_79 : decode cX6_readsCompared 79 = .ok (.invokevirtual 186, 3) := dk_182 0 186 (dk_at dksX6_readsCompared_3 9 rfl rfl)
theorem dX6_readsCompared_82 : decode cX6_readsCompared 82 = .ok (.ifCond .ne 5, 3) := dk_154 0 5 (dk_at dksX6_readsCompared_3 12 rfl rfl)
theorem dX6_readsCompared_85 : decode cX6_readsCompared 85 = .ok (.iconst 0, 1) := dk_3 (dk_at dksX6_readsCompared_3 15 rfl rfl)
theorem dX6_readsCompared_86 : decode cX6_readsCompared 86 = .ok (.ireturn, 1) := dk_172 (dk_at dksX6_readsCompared_3 16 rfl rfl)
theorem dX6_readsCompared_87 : decode cX6_readsCompared 87 = .ok (.aload_n 0, 1) := dk_42 (dk_at dksX6_readsCompared_3 17 rfl rfl)
theorem dX6_readsCompared_88 : decode cX6_readsCompared 88 = .ok (.iload_n 1, 1) := dk_27 (dk_at dksX6_readsCompared_3 18 rfl rfl)
theorem dX6_readsCompared_89 : decode cX6_readsCompared 89 = .ok (.iconst 0, 1) := dk_3 (dk_at dksX6_readsCompared_3 19 rfl rfl)
theorem dX6_readsCompared_90 : decode cX6_readsCompared 90 = .ok (.invokevirtual 159, 3) := dk_182 0 159 (dk_at dksX6_readsCompared_3 20 rfl rfl)
theorem dX6_readsCompared_93 : decode cX6_readsCompared 93 = .ok (.aload_n 0, 1) := dk_42 (dk_at dksX6_readsCompared_3 23 rfl rfl)
theorem dX6_readsCompared_94 : decode cX6_readsCompared 94 = .ok (.invokevirtual 189, 3) := dk_182 0 189 (dk_at dksX6_readsCompared_4 0 rfl rfl)
theorem dX6_readsCompared_97 : decode cX6_readsCompared 97 = .ok (.iconst 1, 1) := dk_4 (dk_at dksX6_readsCompared_4 3 rfl rfl)
theorem dX6_readsCompared_98 : decode cX6_readsCompared 98 = .ok (.ireturn, 1) := dk_172 (dk_at dksX6_readsCompared_4 4 rfl rfl)
abbrev cX6_endsPiece : ByteArray := prog_20_method_31_code
def yX6_endsPiece : MethodName := ⟨RX6, "endsPiece", "()V"⟩
def dkwX6_endsPiece_1 : List UInt8 := [181, 0, 153, 42, 42, 180, 0, 150, 4, 100, 181, 0, 150, 167, 255, 220, 177]
abbrev dktX6_endsPiece_1 : List UInt8 := dkwX6_endsPiece_1 ++ []
def dkwX6_endsPiece_0 : List UInt8 := [42, 182, 0, 156, 16, 10, 160, 0, 33, 42, 16, 10, 3, 182, 0, 159, 42, 42, 180, 0, 153, 4, 100]
abbrev dktX6_endsPiece_0 : List UInt8 := dkwX6_endsPiece_0 ++ dktX6_endsPiece_1
theorem dksX6_endsPiece_0 : cX6_endsPiece.data.toList.drop 0 = dktX6_endsPiece_0 := by decide +kernel
theorem dksX6_endsPiece_1 : cX6_endsPiece.data.toList.drop 23 = dktX6_endsPiece_1 := dk_seg dksX6_endsPiece_0 23 rfl rfl
theorem dX6_endsPiece_0 : decode cX6_endsPiece 0 = .ok (.aload_n 0, 1) := dk_42 (dk_at dksX6_endsPiece_0 0 rfl rfl)
theorem dX6_endsPiece_1 : decode cX6_endsPiece 1 = .ok (.invokevirtual 156, 3) := dk_182 0 156 (dk_at dksX6_endsPiece_0 1 rfl rfl)
theorem dX6_endsPiece_4 : decode cX6_endsPiece 4 = .ok (.bipush 10, 2) := dk_16 10 (dk_at dksX6_endsPiece_0 4 rfl rfl)
theorem dX6_endsPiece_6 : decode cX6_endsPiece 6 = .ok (.if_icmp .ne 33, 3) := dk_160 0 33 (dk_at dksX6_endsPiece_0 6 rfl rfl)
theorem dX6_endsPiece_9 : decode cX6_endsPiece 9 = .ok (.aload_n 0, 1) := dk_42 (dk_at dksX6_endsPiece_0 9 rfl rfl)
theorem dX6_endsPiece_10 : decode cX6_endsPiece 10 = .ok (.bipush 10, 2) := dk_16 10 (dk_at dksX6_endsPiece_0 10 rfl rfl)
theorem dX6_endsPiece_12 : decode cX6_endsPiece 12 = .ok (.iconst 0, 1) := dk_3 (dk_at dksX6_endsPiece_0 12 rfl rfl)
theorem dX6_endsPiece_13 : decode cX6_endsPiece 13 = .ok (.invokevirtual 159, 3) := dk_182 0 159 (dk_at dksX6_endsPiece_0 13 rfl rfl)
theorem dX6_endsPiece_16 : decode cX6_endsPiece 16 = .ok (.aload_n 0, 1) := dk_42 (dk_at dksX6_endsPiece_0 16 rfl rfl)
theorem dX6_endsPiece_17 : decode cX6_endsPiece 17 = .ok (.aload_n 0, 1) := dk_42 (dk_at dksX6_endsPiece_0 17 rfl rfl)
theorem dX6_endsPiece_18 : decode cX6_endsPiece 18 = .ok (.getfield 153, 3) := dk_180 0 153 (dk_at dksX6_endsPiece_0 18 rfl rfl)
theorem dX6_endsPiece_21 : decode cX6_endsPiece 21 = .ok (.iconst 1, 1) := dk_4 (dk_at dksX6_endsPiece_0 21 rfl rfl)
theorem dX6_endsPiece_22 : decode cX6_endsPiece 22 = .ok (.isub, 1) := dk_100 (dk_at dksX6_endsPiece_0 22 rfl rfl)
theorem dX6_endsPiece_23 : decode cX6_endsPiece 23 = .ok (.putfield 153, 3) := dk_181 0 153 (dk_at dksX6_endsPiece_1 0 rfl rfl)
theorem dX6_endsPiece_26 : decode cX6_endsPiece 26 = .ok (.aload_n 0, 1) := dk_42 (dk_at dksX6_endsPiece_1 3 rfl rfl)
theorem dX6_endsPiece_27 : decode cX6_endsPiece 27 = .ok (.aload_n 0, 1) := dk_42 (dk_at dksX6_endsPiece_1 4 rfl rfl)
theorem dX6_endsPiece_28 : decode cX6_endsPiece 28 = .ok (.getfield 150, 3) := dk_180 0 150 (dk_at dksX6_endsPiece_1 5 rfl rfl)
theorem dX6_endsPiece_31 : decode cX6_endsPiece 31 = .ok (.iconst 1, 1) := dk_4 (dk_at dksX6_endsPiece_1 8 rfl rfl)
theorem dX6_endsPiece_32 : decode cX6_endsPiece 32 = .ok (.isub, 1) := dk_100 (dk_at dksX6_endsPiece_1 9 rfl rfl)
theorem dX6_endsPiece_33 : decode cX6_endsPiece 33 = .ok (.putfield 150, 3) := dk_181 0 150 (dk_at dksX6_endsPiece_1 10 rfl rfl)
theorem dX6_endsPiece_36 : decode cX6_endsPiece 36 = .ok (.goto (-36), 3) := dk_167 255 220 (dk_at dksX6_endsPiece_1 13 rfl rfl)
theorem dX6_endsPiece_39 : decode cX6_endsPiece 39 = .ok (.return_, 1) := dk_177 (dk_at dksX6_endsPiece_1 16 rfl rfl)
abbrev cX6_lands : ByteArray := prog_20_method_32_code
def yX6_lands : MethodName := ⟨RX6, "lands", "(Z)V"⟩
def dkwX6_lands_3 : List UInt8 := [181, 0, 153, 167, 255, 186, 177]
abbrev dktX6_lands_3 : List UInt8 := dkwX6_lands_3 ++ []
def dkwX6_lands_2 : List UInt8 := [180, 0, 35, 28, 46, 18, 149, 108, 104, 42, 180, 0, 146, 96, 79, 42, 42, 180, 0, 153, 4, 100]
abbrev dktX6_lands_2 : List UInt8 := dkwX6_lands_2 ++ dktX6_lands_3
def dkwX6_lands_1 : List UInt8 := [180, 0, 38, 42, 180, 0, 153, 4, 100, 46, 18, 149, 112, 61, 42, 180, 0, 35, 28, 18, 149, 42]
abbrev dktX6_lands_1 : List UInt8 := dkwX6_lands_1 ++ dktX6_lands_2
def dkwX6_lands_0 : List UInt8 := [42, 182, 0, 156, 16, 11, 159, 0, 16, 27, 153, 0, 63, 42, 182, 0, 156, 16, 12, 160, 0, 54, 42]
abbrev dktX6_lands_0 : List UInt8 := dkwX6_lands_0 ++ dktX6_lands_1
theorem dksX6_lands_0 : cX6_lands.data.toList.drop 0 = dktX6_lands_0 := by decide +kernel
theorem dksX6_lands_1 : cX6_lands.data.toList.drop 23 = dktX6_lands_1 := dk_seg dksX6_lands_0 23 rfl rfl
theorem dksX6_lands_2 : cX6_lands.data.toList.drop 45 = dktX6_lands_2 := dk_seg dksX6_lands_1 22 rfl rfl
theorem dksX6_lands_3 : cX6_lands.data.toList.drop 67 = dktX6_lands_3 := dk_seg dksX6_lands_2 22 rfl rfl
theorem dX6_lands_0 : decode cX6_lands 0 = .ok (.aload_n 0, 1) := dk_42 (dk_at dksX6_lands_0 0 rfl rfl)
theorem dX6_lands_1 : decode cX6_lands 1 = .ok (.invokevirtual 156, 3) := dk_182 0 156 (dk_at dksX6_lands_0 1 rfl rfl)
theorem dX6_lands_4 : decode cX6_lands 4 = .ok (.bipush 11, 2) := dk_16 11 (dk_at dksX6_lands_0 4 rfl rfl)
theorem dX6_lands_6 : decode cX6_lands 6 = .ok (.if_icmp .eq 16, 3) := dk_159 0 16 (dk_at dksX6_lands_0 6 rfl rfl)
theorem dX6_lands_9 : decode cX6_lands 9 = .ok (.iload_n 1, 1) := dk_27 (dk_at dksX6_lands_0 9 rfl rfl)
theorem dX6_lands_10 : decode cX6_lands 10 = .ok (.ifCond .eq 63, 3) := dk_153 0 63 (dk_at dksX6_lands_0 10 rfl rfl)
theorem dX6_lands_13 : decode cX6_lands 13 = .ok (.aload_n 0, 1) := dk_42 (dk_at dksX6_lands_0 13 rfl rfl)
theorem dX6_lands_14 : decode cX6_lands 14 = .ok (.invokevirtual 156, 3) := dk_182 0 156 (dk_at dksX6_lands_0 14 rfl rfl)
theorem dX6_lands_17 : decode cX6_lands 17 = .ok (.bipush 12, 2) := dk_16 12 (dk_at dksX6_lands_0 17 rfl rfl)
theorem dX6_lands_19 : decode cX6_lands 19 = .ok (.if_icmp .ne 54, 3) := dk_160 0 54 (dk_at dksX6_lands_0 19 rfl rfl)
theorem dX6_lands_22 : decode cX6_lands 22 = .ok (.aload_n 0, 1) := dk_42 (dk_at dksX6_lands_0 22 rfl rfl)
theorem dX6_lands_23 : decode cX6_lands 23 = .ok (.getfield 38, 3) := dk_180 0 38 (dk_at dksX6_lands_1 0 rfl rfl)
theorem dX6_lands_26 : decode cX6_lands 26 = .ok (.aload_n 0, 1) := dk_42 (dk_at dksX6_lands_1 3 rfl rfl)
theorem dX6_lands_27 : decode cX6_lands 27 = .ok (.getfield 153, 3) := dk_180 0 153 (dk_at dksX6_lands_1 4 rfl rfl)
theorem dX6_lands_30 : decode cX6_lands 30 = .ok (.iconst 1, 1) := dk_4 (dk_at dksX6_lands_1 7 rfl rfl)
theorem dX6_lands_31 : decode cX6_lands 31 = .ok (.isub, 1) := dk_100 (dk_at dksX6_lands_1 8 rfl rfl)
theorem dX6_lands_32 : decode cX6_lands 32 = .ok (.iaload, 1) := dk_46 (dk_at dksX6_lands_1 9 rfl rfl)
theorem dX6_lands_33 : decode cX6_lands 33 = .ok (.ldc 149, 2) := dk_18 149 (dk_at dksX6_lands_1 10 rfl rfl)
theorem dX6_lands_35 : decode cX6_lands 35 = .ok (.irem, 1) := dk_112 (dk_at dksX6_lands_1 12 rfl rfl)
theorem dX6_lands_36 : decode cX6_lands 36 = .ok (.istore_n 2, 1) := dk_61 (dk_at dksX6_lands_1 13 rfl rfl)
theorem dX6_lands_37 : decode cX6_lands 37 = .ok (.aload_n 0, 1) := dk_42 (dk_at dksX6_lands_1 14 rfl rfl)
theorem dX6_lands_38 : decode cX6_lands 38 = .ok (.getfield 35, 3) := dk_180 0 35 (dk_at dksX6_lands_1 15 rfl rfl)
theorem dX6_lands_41 : decode cX6_lands 41 = .ok (.iload_n 2, 1) := dk_28 (dk_at dksX6_lands_1 18 rfl rfl)
theorem dX6_lands_42 : decode cX6_lands 42 = .ok (.ldc 149, 2) := dk_18 149 (dk_at dksX6_lands_1 19 rfl rfl)
theorem dX6_lands_44 : decode cX6_lands 44 = .ok (.aload_n 0, 1) := dk_42 (dk_at dksX6_lands_1 21 rfl rfl)
theorem dX6_lands_45 : decode cX6_lands 45 = .ok (.getfield 35, 3) := dk_180 0 35 (dk_at dksX6_lands_2 0 rfl rfl)
theorem dX6_lands_48 : decode cX6_lands 48 = .ok (.iload_n 2, 1) := dk_28 (dk_at dksX6_lands_2 3 rfl rfl)
theorem dX6_lands_49 : decode cX6_lands 49 = .ok (.iaload, 1) := dk_46 (dk_at dksX6_lands_2 4 rfl rfl)
theorem dX6_lands_50 : decode cX6_lands 50 = .ok (.ldc 149, 2) := dk_18 149 (dk_at dksX6_lands_2 5 rfl rfl)
theorem dX6_lands_52 : decode cX6_lands 52 = .ok (.idiv, 1) := dk_108 (dk_at dksX6_lands_2 7 rfl rfl)
theorem dX6_lands_53 : decode cX6_lands 53 = .ok (.imul, 1) := dk_104 (dk_at dksX6_lands_2 8 rfl rfl)
theorem dX6_lands_54 : decode cX6_lands 54 = .ok (.aload_n 0, 1) := dk_42 (dk_at dksX6_lands_2 9 rfl rfl)
theorem dX6_lands_55 : decode cX6_lands 55 = .ok (.getfield 146, 3) := dk_180 0 146 (dk_at dksX6_lands_2 10 rfl rfl)
theorem dX6_lands_58 : decode cX6_lands 58 = .ok (.iadd, 1) := dk_96 (dk_at dksX6_lands_2 13 rfl rfl)
theorem dX6_lands_59 : decode cX6_lands 59 = .ok (.iastore, 1) := dk_79 (dk_at dksX6_lands_2 14 rfl rfl)
theorem dX6_lands_60 : decode cX6_lands 60 = .ok (.aload_n 0, 1) := dk_42 (dk_at dksX6_lands_2 15 rfl rfl)
theorem dX6_lands_61 : decode cX6_lands 61 = .ok (.aload_n 0, 1) := dk_42 (dk_at dksX6_lands_2 16 rfl rfl)
theorem dX6_lands_62 : decode cX6_lands 62 = .ok (.getfield 153, 3) := dk_180 0 153 (dk_at dksX6_lands_2 17 rfl rfl)
theorem dX6_lands_65 : decode cX6_lands 65 = .ok (.iconst 1, 1) := dk_4 (dk_at dksX6_lands_2 20 rfl rfl)
theorem dX6_lands_66 : decode cX6_lands 66 = .ok (.isub, 1) := dk_100 (dk_at dksX6_lands_2 21 rfl rfl)
theorem dX6_lands_67 : decode cX6_lands 67 = .ok (.putfield 153, 3) := dk_181 0 153 (dk_at dksX6_lands_3 0 rfl rfl)
theorem dX6_lands_70 : decode cX6_lands 70 = .ok (.goto (-70), 3) := dk_167 255 186 (dk_at dksX6_lands_3 3 rfl rfl)
theorem dX6_lands_73 : decode cX6_lands 73 = .ok (.return_, 1) := dk_177 (dk_at dksX6_lands_3 6 rfl rfl)
abbrev cX6_jumps : ByteArray := prog_20_method_33_code
def yX6_jumps : MethodName := ⟨RX6, "jumps", "(I)V"⟩
def dkwX6_jumps_1 : List UInt8 := [96, 181, 0, 153, 42, 27, 3, 182, 0, 159, 42, 42, 180, 0, 123, 4, 96, 181, 0, 123, 177]
abbrev dktX6_jumps_1 : List UInt8 := dkwX6_jumps_1 ++ []
def dkwX6_jumps_0 : List UInt8 := [42, 180, 0, 38, 42, 180, 0, 153, 18, 149, 27, 104, 42, 180, 0, 146, 96, 79, 42, 42, 180, 0, 153, 4]
abbrev dktX6_jumps_0 : List UInt8 := dkwX6_jumps_0 ++ dktX6_jumps_1
theorem dksX6_jumps_0 : cX6_jumps.data.toList.drop 0 = dktX6_jumps_0 := by decide +kernel
theorem dksX6_jumps_1 : cX6_jumps.data.toList.drop 24 = dktX6_jumps_1 := dk_seg dksX6_jumps_0 24 rfl rfl
theorem dX6_jumps_0 : decode cX6_jumps 0 = .ok (.aload_n 0, 1) := dk_42 (dk_at dksX6_jumps_0 0 rfl rfl)
theorem dX6_jumps_1 : decode cX6_jumps 1 = .ok (.getfield 38, 3) := dk_180 0 38 (dk_at dksX6_jumps_0 1 rfl rfl)
theorem dX6_jumps_4 : decode cX6_jumps 4 = .ok (.aload_n 0, 1) := dk_42 (dk_at dksX6_jumps_0 4 rfl rfl)
theorem dX6_jumps_5 : decode cX6_jumps 5 = .ok (.getfield 153, 3) := dk_180 0 153 (dk_at dksX6_jumps_0 5 rfl rfl)
theorem dX6_jumps_8 : decode cX6_jumps 8 = .ok (.ldc 149, 2) := dk_18 149 (dk_at dksX6_jumps_0 8 rfl rfl)
theorem dX6_jumps_10 : decode cX6_jumps 10 = .ok (.iload_n 1, 1) := dk_27 (dk_at dksX6_jumps_0 10 rfl rfl)
theorem dX6_jumps_11 : decode cX6_jumps 11 = .ok (.imul, 1) := dk_104 (dk_at dksX6_jumps_0 11 rfl rfl)
theorem dX6_jumps_12 : decode cX6_jumps 12 = .ok (.aload_n 0, 1) := dk_42 (dk_at dksX6_jumps_0 12 rfl rfl)
theorem dX6_jumps_13 : decode cX6_jumps 13 = .ok (.getfield 146, 3) := dk_180 0 146 (dk_at dksX6_jumps_0 13 rfl rfl)
theorem dX6_jumps_16 : decode cX6_jumps 16 = .ok (.iadd, 1) := dk_96 (dk_at dksX6_jumps_0 16 rfl rfl)
theorem dX6_jumps_17 : decode cX6_jumps 17 = .ok (.iastore, 1) := dk_79 (dk_at dksX6_jumps_0 17 rfl rfl)
theorem dX6_jumps_18 : decode cX6_jumps 18 = .ok (.aload_n 0, 1) := dk_42 (dk_at dksX6_jumps_0 18 rfl rfl)
theorem dX6_jumps_19 : decode cX6_jumps 19 = .ok (.aload_n 0, 1) := dk_42 (dk_at dksX6_jumps_0 19 rfl rfl)
theorem dX6_jumps_20 : decode cX6_jumps 20 = .ok (.getfield 153, 3) := dk_180 0 153 (dk_at dksX6_jumps_0 20 rfl rfl)
theorem dX6_jumps_23 : decode cX6_jumps 23 = .ok (.iconst 1, 1) := dk_4 (dk_at dksX6_jumps_0 23 rfl rfl)
theorem dX6_jumps_24 : decode cX6_jumps 24 = .ok (.iadd, 1) := dk_96 (dk_at dksX6_jumps_1 0 rfl rfl)
theorem dX6_jumps_25 : decode cX6_jumps 25 = .ok (.putfield 153, 3) := dk_181 0 153 (dk_at dksX6_jumps_1 1 rfl rfl)
theorem dX6_jumps_28 : decode cX6_jumps 28 = .ok (.aload_n 0, 1) := dk_42 (dk_at dksX6_jumps_1 4 rfl rfl)
theorem dX6_jumps_29 : decode cX6_jumps 29 = .ok (.iload_n 1, 1) := dk_27 (dk_at dksX6_jumps_1 5 rfl rfl)
theorem dX6_jumps_30 : decode cX6_jumps 30 = .ok (.iconst 0, 1) := dk_3 (dk_at dksX6_jumps_1 6 rfl rfl)
theorem dX6_jumps_31 : decode cX6_jumps 31 = .ok (.invokevirtual 159, 3) := dk_182 0 159 (dk_at dksX6_jumps_1 7 rfl rfl)
theorem dX6_jumps_34 : decode cX6_jumps 34 = .ok (.aload_n 0, 1) := dk_42 (dk_at dksX6_jumps_1 10 rfl rfl)
theorem dX6_jumps_35 : decode cX6_jumps 35 = .ok (.aload_n 0, 1) := dk_42 (dk_at dksX6_jumps_1 11 rfl rfl)
theorem dX6_jumps_36 : decode cX6_jumps 36 = .ok (.getfield 123, 3) := dk_180 0 123 (dk_at dksX6_jumps_1 12 rfl rfl)
theorem dX6_jumps_39 : decode cX6_jumps 39 = .ok (.iconst 1, 1) := dk_4 (dk_at dksX6_jumps_1 15 rfl rfl)
theorem dX6_jumps_40 : decode cX6_jumps 40 = .ok (.iadd, 1) := dk_96 (dk_at dksX6_jumps_1 16 rfl rfl)
theorem dX6_jumps_41 : decode cX6_jumps 41 = .ok (.putfield 123, 3) := dk_181 0 123 (dk_at dksX6_jumps_1 17 rfl rfl)
theorem dX6_jumps_44 : decode cX6_jumps 44 = .ok (.return_, 1) := dk_177 (dk_at dksX6_jumps_1 20 rfl rfl)
abbrev cX6_takes : ByteArray := prog_20_method_20_code
def yX6_takes : MethodName := ⟨RX6, "takes", "(I)Z"⟩
def dkwX6_takes_1 : List UInt8 := [96, 181, 0, 123, 4, 172]
abbrev dktX6_takes_1 : List UInt8 := dkwX6_takes_1 ++ []
def dkwX6_takes_0 : List UInt8 := [42, 182, 0, 129, 27, 159, 0, 13, 42, 4, 42, 180, 0, 123, 182, 0, 136, 172, 42, 42, 180, 0, 123, 4]
abbrev dktX6_takes_0 : List UInt8 := dkwX6_takes_0 ++ dktX6_takes_1
theorem dksX6_takes_0 : cX6_takes.data.toList.drop 0 = dktX6_takes_0 := by decide +kernel
theorem dksX6_takes_1 : cX6_takes.data.toList.drop 24 = dktX6_takes_1 := dk_seg dksX6_takes_0 24 rfl rfl
theorem dX6_takes_0 : decode cX6_takes 0 = .ok (.aload_n 0, 1) := dk_42 (dk_at dksX6_takes_0 0 rfl rfl)
theorem dX6_takes_1 : decode cX6_takes 1 = .ok (.invokevirtual 129, 3) := dk_182 0 129 (dk_at dksX6_takes_0 1 rfl rfl)
theorem dX6_takes_4 : decode cX6_takes 4 = .ok (.iload_n 1, 1) := dk_27 (dk_at dksX6_takes_0 4 rfl rfl)
theorem dX6_takes_5 : decode cX6_takes 5 = .ok (.if_icmp .eq 13, 3) := dk_159 0 13 (dk_at dksX6_takes_0 5 rfl rfl)
theorem dX6_takes_8 : decode cX6_takes 8 = .ok (.aload_n 0, 1) := dk_42 (dk_at dksX6_takes_0 8 rfl rfl)
theorem dX6_takes_9 : decode cX6_takes 9 = .ok (.iconst 1, 1) := dk_4 (dk_at dksX6_takes_0 9 rfl rfl)
theorem dX6_takes_10 : decode cX6_takes 10 = .ok (.aload_n 0, 1) := dk_42 (dk_at dksX6_takes_0 10 rfl rfl)
theorem dX6_takes_11 : decode cX6_takes 11 = .ok (.getfield 123, 3) := dk_180 0 123 (dk_at dksX6_takes_0 11 rfl rfl)
theorem dX6_takes_14 : decode cX6_takes 14 = .ok (.invokevirtual 136, 3) := dk_182 0 136 (dk_at dksX6_takes_0 14 rfl rfl)
theorem dX6_takes_17 : decode cX6_takes 17 = .ok (.ireturn, 1) := dk_172 (dk_at dksX6_takes_0 17 rfl rfl)
theorem dX6_takes_18 : decode cX6_takes 18 = .ok (.aload_n 0, 1) := dk_42 (dk_at dksX6_takes_0 18 rfl rfl)
theorem dX6_takes_19 : decode cX6_takes 19 = .ok (.aload_n 0, 1) := dk_42 (dk_at dksX6_takes_0 19 rfl rfl)
theorem dX6_takes_20 : decode cX6_takes 20 = .ok (.getfield 123, 3) := dk_180 0 123 (dk_at dksX6_takes_0 20 rfl rfl)
theorem dX6_takes_23 : decode cX6_takes 23 = .ok (.iconst 1, 1) := dk_4 (dk_at dksX6_takes_0 23 rfl rfl)
theorem dX6_takes_24 : decode cX6_takes 24 = .ok (.iadd, 1) := dk_96 (dk_at dksX6_takes_1 0 rfl rfl)
theorem dX6_takes_25 : decode cX6_takes 25 = .ok (.putfield 123, 3) := dk_181 0 123 (dk_at dksX6_takes_1 1 rfl rfl)
theorem dX6_takes_28 : decode cX6_takes 28 = .ok (.iconst 1, 1) := dk_4 (dk_at dksX6_takes_1 4 rfl rfl)
theorem dX6_takes_29 : decode cX6_takes 29 = .ok (.ireturn, 1) := dk_172 (dk_at dksX6_takes_1 5 rfl rfl)
abbrev cX6_orders : ByteArray := prog_20_method_49_code
def yX6_orders : MethodName := ⟨RX6, "orders", "(I)I"⟩
def dkwX6_orders_4 : List UInt8 := [180, 0, 236, 172, 42, 182, 1, 2, 42, 180, 0, 133, 172]
abbrev dktX6_orders_4 : List UInt8 := dkwX6_orders_4 ++ []
def dkwX6_orders_3 : List UInt8 := [153, 0, 7, 4, 167, 0, 4, 3, 61, 167, 255, 219, 42, 3, 181, 0, 116, 28, 153, 0, 8, 42]
abbrev dktX6_orders_3 : List UInt8 := dkwX6_orders_3 ++ dktX6_orders_4
def dkwX6_orders_2 : List UInt8 := [180, 0, 123, 42, 180, 0, 126, 162, 0, 28, 42, 16, 59, 182, 0, 213, 153, 0, 14, 42, 182, 0, 255]
abbrev dktX6_orders_2 : List UInt8 := dkwX6_orders_2 ++ dktX6_orders_3
def dkwX6_orders_1 : List UInt8 := [182, 0, 207, 42, 3, 181, 0, 236, 42, 182, 0, 252, 42, 182, 0, 255, 61, 28, 153, 0, 39, 42]
abbrev dktX6_orders_1 : List UInt8 := dkwX6_orders_1 ++ dktX6_orders_2
def dkwX6_orders_0 : List UInt8 := [27, 4, 17, 0, 160, 184, 0, 104, 153, 0, 11, 27, 42, 180, 0, 116, 164, 0, 5, 2, 172, 42, 27]
abbrev dktX6_orders_0 : List UInt8 := dkwX6_orders_0 ++ dktX6_orders_1
theorem dksX6_orders_0 : cX6_orders.data.toList.drop 0 = dktX6_orders_0 := by decide +kernel
theorem dksX6_orders_1 : cX6_orders.data.toList.drop 23 = dktX6_orders_1 := dk_seg dksX6_orders_0 23 rfl rfl
theorem dksX6_orders_2 : cX6_orders.data.toList.drop 45 = dktX6_orders_2 := dk_seg dksX6_orders_1 22 rfl rfl
theorem dksX6_orders_3 : cX6_orders.data.toList.drop 68 = dktX6_orders_3 := dk_seg dksX6_orders_2 23 rfl rfl
theorem dksX6_orders_4 : cX6_orders.data.toList.drop 90 = dktX6_orders_4 := dk_seg dksX6_orders_3 22 rfl rfl
theorem dX6_orders_0 : decode cX6_orders 0 = .ok (.iload_n 1, 1) := dk_27 (dk_at dksX6_orders_0 0 rfl rfl)
theorem dX6_orders_1 : decode cX6_orders 1 = .ok (.iconst 1, 1) := dk_4 (dk_at dksX6_orders_0 1 rfl rfl)
theorem dX6_orders_2 : decode cX6_orders 2 = .ok (.sipush 160, 3) := dk_17 0 160 (dk_at dksX6_orders_0 2 rfl rfl)
theorem dX6_orders_5 : decode cX6_orders 5 = .ok (.invokestatic 104, 3) := dk_184 0 104 (dk_at dksX6_orders_0 5 rfl rfl)
theorem dX6_orders_8 : decode cX6_orders 8 = .ok (.ifCond .eq 11, 3) := dk_153 0 11 (dk_at dksX6_orders_0 8 rfl rfl)
theorem dX6_orders_11 : decode cX6_orders 11 = .ok (.iload_n 1, 1) := dk_27 (dk_at dksX6_orders_0 11 rfl rfl)
theorem dX6_orders_12 : decode cX6_orders 12 = .ok (.aload_n 0, 1) := dk_42 (dk_at dksX6_orders_0 12 rfl rfl)
theorem dX6_orders_13 : decode cX6_orders 13 = .ok (.getfield 116, 3) := dk_180 0 116 (dk_at dksX6_orders_0 13 rfl rfl)
theorem dX6_orders_16 : decode cX6_orders 16 = .ok (.if_icmp .le 5, 3) := dk_164 0 5 (dk_at dksX6_orders_0 16 rfl rfl)
theorem dX6_orders_19 : decode cX6_orders 19 = .ok (.iconst (-1), 1) := dk_2 (dk_at dksX6_orders_0 19 rfl rfl)
theorem dX6_orders_20 : decode cX6_orders 20 = .ok (.ireturn, 1) := dk_172 (dk_at dksX6_orders_0 20 rfl rfl)
theorem dX6_orders_21 : decode cX6_orders 21 = .ok (.aload_n 0, 1) := dk_42 (dk_at dksX6_orders_0 21 rfl rfl)
theorem dX6_orders_22 : decode cX6_orders 22 = .ok (.iload_n 1, 1) := dk_27 (dk_at dksX6_orders_0 22 rfl rfl)
theorem dX6_orders_23 : decode cX6_orders 23 = .ok (.invokevirtual 207, 3) := dk_182 0 207 (dk_at dksX6_orders_1 0 rfl rfl)
theorem dX6_orders_26 : decode cX6_orders 26 = .ok (.aload_n 0, 1) := dk_42 (dk_at dksX6_orders_1 3 rfl rfl)
theorem dX6_orders_27 : decode cX6_orders 27 = .ok (.iconst 0, 1) := dk_3 (dk_at dksX6_orders_1 4 rfl rfl)
theorem dX6_orders_28 : decode cX6_orders 28 = .ok (.putfield 236, 3) := dk_181 0 236 (dk_at dksX6_orders_1 5 rfl rfl)
theorem dX6_orders_31 : decode cX6_orders 31 = .ok (.aload_n 0, 1) := dk_42 (dk_at dksX6_orders_1 8 rfl rfl)
theorem dX6_orders_32 : decode cX6_orders 32 = .ok (.invokevirtual 252, 3) := dk_182 0 252 (dk_at dksX6_orders_1 9 rfl rfl)
theorem dX6_orders_35 : decode cX6_orders 35 = .ok (.aload_n 0, 1) := dk_42 (dk_at dksX6_orders_1 12 rfl rfl)
theorem dX6_orders_36 : decode cX6_orders 36 = .ok (.invokevirtual 255, 3) := dk_182 0 255 (dk_at dksX6_orders_1 13 rfl rfl)
theorem dX6_orders_39 : decode cX6_orders 39 = .ok (.istore_n 2, 1) := dk_61 (dk_at dksX6_orders_1 16 rfl rfl)
theorem dX6_orders_40 : decode cX6_orders 40 = .ok (.iload_n 2, 1) := dk_28 (dk_at dksX6_orders_1 17 rfl rfl)
theorem dX6_orders_41 : decode cX6_orders 41 = .ok (.ifCond .eq 39, 3) := dk_153 0 39 (dk_at dksX6_orders_1 18 rfl rfl)
theorem dX6_orders_44 : decode cX6_orders 44 = .ok (.aload_n 0, 1) := dk_42 (dk_at dksX6_orders_1 21 rfl rfl)
theorem dX6_orders_45 : decode cX6_orders 45 = .ok (.getfield 123, 3) := dk_180 0 123 (dk_at dksX6_orders_2 0 rfl rfl)
theorem dX6_orders_48 : decode cX6_orders 48 = .ok (.aload_n 0, 1) := dk_42 (dk_at dksX6_orders_2 3 rfl rfl)
theorem dX6_orders_49 : decode cX6_orders 49 = .ok (.getfield 126, 3) := dk_180 0 126 (dk_at dksX6_orders_2 4 rfl rfl)
theorem dX6_orders_52 : decode cX6_orders 52 = .ok (.if_icmp .ge 28, 3) := dk_162 0 28 (dk_at dksX6_orders_2 7 rfl rfl)
theorem dX6_orders_55 : decode cX6_orders 55 = .ok (.aload_n 0, 1) := dk_42 (dk_at dksX6_orders_2 10 rfl rfl)
theorem dX6_orders_56 : decode cX6_orders 56 = .ok (.bipush 59, 2) := dk_16 59 (dk_at dksX6_orders_2 11 rfl rfl)
theorem dX6_orders_58 : decode cX6_orders 58 = .ok (.invokevirtual 213, 3) := dk_182 0 213 (dk_at dksX6_orders_2 13 rfl rfl)
theorem dX6_orders_61 : decode cX6_orders 61 = .ok (.ifCond .eq 14, 3) := dk_153 0 14 (dk_at dksX6_orders_2 16 rfl rfl)
theorem dX6_orders_64 : decode cX6_orders 64 = .ok (.aload_n 0, 1) := dk_42 (dk_at dksX6_orders_2 19 rfl rfl)
theorem dX6_orders_65 : decode cX6_orders 65 = .ok (.invokevirtual 255, 3) := dk_182 0 255 (dk_at dksX6_orders_2 20 rfl rfl)
theorem dX6_orders_68 : decode cX6_orders 68 = .ok (.ifCond .eq 7, 3) := dk_153 0 7 (dk_at dksX6_orders_3 0 rfl rfl)
theorem dX6_orders_71 : decode cX6_orders 71 = .ok (.iconst 1, 1) := dk_4 (dk_at dksX6_orders_3 3 rfl rfl)
theorem dX6_orders_72 : decode cX6_orders 72 = .ok (.goto 4, 3) := dk_167 0 4 (dk_at dksX6_orders_3 4 rfl rfl)
theorem dX6_orders_75 : decode cX6_orders 75 = .ok (.iconst 0, 1) := dk_3 (dk_at dksX6_orders_3 7 rfl rfl)
theorem dX6_orders_76 : decode cX6_orders 76 = .ok (.istore_n 2, 1) := dk_61 (dk_at dksX6_orders_3 8 rfl rfl)
theorem dX6_orders_77 : decode cX6_orders 77 = .ok (.goto (-37), 3) := dk_167 255 219 (dk_at dksX6_orders_3 9 rfl rfl)
theorem dX6_orders_80 : decode cX6_orders 80 = .ok (.aload_n 0, 1) := dk_42 (dk_at dksX6_orders_3 12 rfl rfl)
theorem dX6_orders_81 : decode cX6_orders 81 = .ok (.iconst 0, 1) := dk_3 (dk_at dksX6_orders_3 13 rfl rfl)
theorem dX6_orders_82 : decode cX6_orders 82 = .ok (.putfield 116, 3) := dk_181 0 116 (dk_at dksX6_orders_3 14 rfl rfl)
theorem dX6_orders_85 : decode cX6_orders 85 = .ok (.iload_n 2, 1) := dk_28 (dk_at dksX6_orders_3 17 rfl rfl)
theorem dX6_orders_86 : decode cX6_orders 86 = .ok (.ifCond .eq 8, 3) := dk_153 0 8 (dk_at dksX6_orders_3 18 rfl rfl)
theorem dX6_orders_89 : decode cX6_orders 89 = .ok (.aload_n 0, 1) := dk_42 (dk_at dksX6_orders_3 21 rfl rfl)
theorem dX6_orders_90 : decode cX6_orders 90 = .ok (.getfield 236, 3) := dk_180 0 236 (dk_at dksX6_orders_4 0 rfl rfl)
theorem dX6_orders_93 : decode cX6_orders 93 = .ok (.ireturn, 1) := dk_172 (dk_at dksX6_orders_4 3 rfl rfl)
theorem dX6_orders_94 : decode cX6_orders 94 = .ok (.aload_n 0, 1) := dk_42 (dk_at dksX6_orders_4 4 rfl rfl)
theorem dX6_orders_95 : decode cX6_orders 95 = .ok (.invokevirtual 258, 3) := dk_182 1 2 (dk_at dksX6_orders_4 5 rfl rfl)
theorem dX6_orders_98 : decode cX6_orders 98 = .ok (.aload_n 0, 1) := dk_42 (dk_at dksX6_orders_4 8 rfl rfl)
theorem dX6_orders_99 : decode cX6_orders 99 = .ok (.getfield 133, 3) := dk_180 0 133 (dk_at dksX6_orders_4 9 rfl rfl)
theorem dX6_orders_102 : decode cX6_orders 102 = .ok (.ireturn, 1) := dk_172 (dk_at dksX6_orders_4 12 rfl rfl)
abbrev cX6_laysAside : ByteArray := prog_20_method_47_code
def yX6_laysAside : MethodName := ⟨RX6, "laysAside", "()V"⟩
def dkwX6_laysAside_2 : List UInt8 := [132, 1, 1, 167, 255, 223, 177]
abbrev dktX6_laysAside_2 : List UInt8 := dkwX6_laysAside_2 ++ []
def dkwX6_laysAside_1 : List UInt8 := [42, 180, 0, 25, 27, 42, 180, 0, 19, 27, 46, 79, 42, 180, 0, 28, 27, 42, 180, 0, 22, 27, 46, 79]
abbrev dktX6_laysAside_1 : List UInt8 := dkwX6_laysAside_1 ++ dktX6_laysAside_2
def dkwX6_laysAside_0 : List UInt8 := [42, 42, 180, 0, 108, 181, 0, 246, 42, 42, 180, 0, 227, 181, 0, 249, 3, 60, 27, 16, 16, 162, 0, 33]
abbrev dktX6_laysAside_0 : List UInt8 := dkwX6_laysAside_0 ++ dktX6_laysAside_1
theorem dksX6_laysAside_0 : cX6_laysAside.data.toList.drop 0 = dktX6_laysAside_0 := by decide +kernel
theorem dksX6_laysAside_1 : cX6_laysAside.data.toList.drop 24 = dktX6_laysAside_1 := dk_seg dksX6_laysAside_0 24 rfl rfl
theorem dksX6_laysAside_2 : cX6_laysAside.data.toList.drop 48 = dktX6_laysAside_2 := dk_seg dksX6_laysAside_1 24 rfl rfl
theorem dX6_laysAside_0 : decode cX6_laysAside 0 = .ok (.aload_n 0, 1) := dk_42 (dk_at dksX6_laysAside_0 0 rfl rfl)
theorem dX6_laysAside_1 : decode cX6_laysAside 1 = .ok (.aload_n 0, 1) := dk_42 (dk_at dksX6_laysAside_0 1 rfl rfl)
theorem dX6_laysAside_2 : decode cX6_laysAside 2 = .ok (.getfield 108, 3) := dk_180 0 108 (dk_at dksX6_laysAside_0 2 rfl rfl)
theorem dX6_laysAside_5 : decode cX6_laysAside 5 = .ok (.putfield 246, 3) := dk_181 0 246 (dk_at dksX6_laysAside_0 5 rfl rfl)
theorem dX6_laysAside_8 : decode cX6_laysAside 8 = .ok (.aload_n 0, 1) := dk_42 (dk_at dksX6_laysAside_0 8 rfl rfl)
theorem dX6_laysAside_9 : decode cX6_laysAside 9 = .ok (.aload_n 0, 1) := dk_42 (dk_at dksX6_laysAside_0 9 rfl rfl)
theorem dX6_laysAside_10 : decode cX6_laysAside 10 = .ok (.getfield 227, 3) := dk_180 0 227 (dk_at dksX6_laysAside_0 10 rfl rfl)
theorem dX6_laysAside_13 : decode cX6_laysAside 13 = .ok (.putfield 249, 3) := dk_181 0 249 (dk_at dksX6_laysAside_0 13 rfl rfl)
theorem dX6_laysAside_16 : decode cX6_laysAside 16 = .ok (.iconst 0, 1) := dk_3 (dk_at dksX6_laysAside_0 16 rfl rfl)
theorem dX6_laysAside_17 : decode cX6_laysAside 17 = .ok (.istore_n 1, 1) := dk_60 (dk_at dksX6_laysAside_0 17 rfl rfl)
theorem dX6_laysAside_18 : decode cX6_laysAside 18 = .ok (.iload_n 1, 1) := dk_27 (dk_at dksX6_laysAside_0 18 rfl rfl)
theorem dX6_laysAside_19 : decode cX6_laysAside 19 = .ok (.bipush 16, 2) := dk_16 16 (dk_at dksX6_laysAside_0 19 rfl rfl)
theorem dX6_laysAside_21 : decode cX6_laysAside 21 = .ok (.if_icmp .ge 33, 3) := dk_162 0 33 (dk_at dksX6_laysAside_0 21 rfl rfl)
theorem dX6_laysAside_24 : decode cX6_laysAside 24 = .ok (.aload_n 0, 1) := dk_42 (dk_at dksX6_laysAside_1 0 rfl rfl)
theorem dX6_laysAside_25 : decode cX6_laysAside 25 = .ok (.getfield 25, 3) := dk_180 0 25 (dk_at dksX6_laysAside_1 1 rfl rfl)
theorem dX6_laysAside_28 : decode cX6_laysAside 28 = .ok (.iload_n 1, 1) := dk_27 (dk_at dksX6_laysAside_1 4 rfl rfl)
theorem dX6_laysAside_29 : decode cX6_laysAside 29 = .ok (.aload_n 0, 1) := dk_42 (dk_at dksX6_laysAside_1 5 rfl rfl)
theorem dX6_laysAside_30 : decode cX6_laysAside 30 = .ok (.getfield 19, 3) := dk_180 0 19 (dk_at dksX6_laysAside_1 6 rfl rfl)
theorem dX6_laysAside_33 : decode cX6_laysAside 33 = .ok (.iload_n 1, 1) := dk_27 (dk_at dksX6_laysAside_1 9 rfl rfl)
theorem dX6_laysAside_34 : decode cX6_laysAside 34 = .ok (.iaload, 1) := dk_46 (dk_at dksX6_laysAside_1 10 rfl rfl)
theorem dX6_laysAside_35 : decode cX6_laysAside 35 = .ok (.iastore, 1) := dk_79 (dk_at dksX6_laysAside_1 11 rfl rfl)
theorem dX6_laysAside_36 : decode cX6_laysAside 36 = .ok (.aload_n 0, 1) := dk_42 (dk_at dksX6_laysAside_1 12 rfl rfl)
theorem dX6_laysAside_37 : decode cX6_laysAside 37 = .ok (.getfield 28, 3) := dk_180 0 28 (dk_at dksX6_laysAside_1 13 rfl rfl)
theorem dX6_laysAside_40 : decode cX6_laysAside 40 = .ok (.iload_n 1, 1) := dk_27 (dk_at dksX6_laysAside_1 16 rfl rfl)
theorem dX6_laysAside_41 : decode cX6_laysAside 41 = .ok (.aload_n 0, 1) := dk_42 (dk_at dksX6_laysAside_1 17 rfl rfl)
theorem dX6_laysAside_42 : decode cX6_laysAside 42 = .ok (.getfield 22, 3) := dk_180 0 22 (dk_at dksX6_laysAside_1 18 rfl rfl)
theorem dX6_laysAside_45 : decode cX6_laysAside 45 = .ok (.iload_n 1, 1) := dk_27 (dk_at dksX6_laysAside_1 21 rfl rfl)
theorem dX6_laysAside_46 : decode cX6_laysAside 46 = .ok (.iaload, 1) := dk_46 (dk_at dksX6_laysAside_1 22 rfl rfl)
theorem dX6_laysAside_47 : decode cX6_laysAside 47 = .ok (.iastore, 1) := dk_79 (dk_at dksX6_laysAside_1 23 rfl rfl)
theorem dX6_laysAside_48 : decode cX6_laysAside 48 = .ok (.iinc 1 1, 3) := dk_132 1 1 (dk_at dksX6_laysAside_2 0 rfl rfl)
theorem dX6_laysAside_51 : decode cX6_laysAside 51 = .ok (.goto (-33), 3) := dk_167 255 223 (dk_at dksX6_laysAside_2 3 rfl rfl)
theorem dX6_laysAside_54 : decode cX6_laysAside 54 = .ok (.return_, 1) := dk_177 (dk_at dksX6_laysAside_2 6 rfl rfl)
abbrev cX6_readsOrder : ByteArray := prog_20_method_46_code
def yX6_readsOrder : MethodName := ⟨RX6, "readsOrder", "()Z"⟩
def dkwX6_readsOrder_9 : List UInt8 := [181, 0, 227, 4, 172]
abbrev dktX6_readsOrder_9 : List UInt8 := dkwX6_readsOrder_9 ++ []
def dkwX6_readsOrder_8 : List UInt8 := [160, 0, 14, 42, 180, 0, 227, 4, 28, 120, 128, 167, 0, 13, 42, 180, 0, 227, 4, 28, 120, 2, 130, 126]
abbrev dktX6_readsOrder_8 : List UInt8 := dkwX6_readsOrder_8 ++ dktX6_readsOrder_9
def dkwX6_readsOrder_7 : List UInt8 := [160, 0, 20, 42, 28, 29, 16, 42, 160, 0, 7, 4, 167, 0, 4, 3, 182, 0, 242, 172, 42, 29, 16, 61]
abbrev dktX6_readsOrder_7 : List UInt8 := dkwX6_readsOrder_7 ++ dktX6_readsOrder_8
def dkwX6_readsOrder_6 : List UInt8 := [182, 0, 233, 154, 0, 11, 42, 16, 7, 27, 182, 0, 136, 172, 29, 16, 42, 159, 0, 9, 29, 16, 38]
abbrev dktX6_readsOrder_6 : List UInt8 := dkwX6_readsOrder_6 ++ dktX6_readsOrder_7
def dkwX6_readsOrder_5 : List UInt8 := [180, 0, 123, 4, 96, 181, 0, 123, 29, 16, 64, 160, 0, 9, 42, 28, 182, 0, 239, 172, 42, 28]
abbrev dktX6_readsOrder_5 : List UInt8 := dkwX6_readsOrder_5 ++ dktX6_readsOrder_6
def dkwX6_readsOrder_4 : List UInt8 := [16, 42, 159, 0, 19, 29, 16, 38, 159, 0, 13, 42, 4, 42, 180, 0, 123, 182, 0, 136, 172, 42, 42]
abbrev dktX6_readsOrder_4 : List UInt8 := dkwX6_readsOrder_4 ++ dktX6_readsOrder_5
def dkwX6_readsOrder_3 : List UInt8 := [182, 0, 129, 62, 29, 16, 64, 159, 0, 37, 29, 16, 35, 159, 0, 31, 29, 16, 61, 159, 0, 25, 29]
abbrev dktX6_readsOrder_3 : List UInt8 := dkwX6_readsOrder_3 ++ dktX6_readsOrder_4
def dkwX6_readsOrder_2 : List UInt8 := [180, 0, 123, 60, 42, 182, 0, 129, 16, 97, 100, 61, 42, 42, 180, 0, 123, 4, 96, 181, 0, 123, 42]
abbrev dktX6_readsOrder_2 : List UInt8 := dkwX6_readsOrder_2 ++ dktX6_readsOrder_3
def dkwX6_readsOrder_1 : List UInt8 := [160, 0, 13, 42, 7, 42, 180, 0, 123, 182, 0, 136, 172, 42, 42, 180, 0, 236, 4, 96, 181, 0, 236, 42]
abbrev dktX6_readsOrder_1 : List UInt8 := dkwX6_readsOrder_1 ++ dktX6_readsOrder_2
def dkwX6_readsOrder_0 : List UInt8 := [42, 182, 0, 230, 154, 0, 13, 42, 4, 42, 180, 0, 123, 182, 0, 136, 172, 42, 180, 0, 236, 16, 24]
abbrev dktX6_readsOrder_0 : List UInt8 := dkwX6_readsOrder_0 ++ dktX6_readsOrder_1
theorem dksX6_readsOrder_0 : cX6_readsOrder.data.toList.drop 0 = dktX6_readsOrder_0 := by decide +kernel
theorem dksX6_readsOrder_1 : cX6_readsOrder.data.toList.drop 23 = dktX6_readsOrder_1 := dk_seg dksX6_readsOrder_0 23 rfl rfl
theorem dksX6_readsOrder_2 : cX6_readsOrder.data.toList.drop 47 = dktX6_readsOrder_2 := dk_seg dksX6_readsOrder_1 24 rfl rfl
theorem dksX6_readsOrder_3 : cX6_readsOrder.data.toList.drop 70 = dktX6_readsOrder_3 := dk_seg dksX6_readsOrder_2 23 rfl rfl
theorem dksX6_readsOrder_4 : cX6_readsOrder.data.toList.drop 93 = dktX6_readsOrder_4 := dk_seg dksX6_readsOrder_3 23 rfl rfl
theorem dksX6_readsOrder_5 : cX6_readsOrder.data.toList.drop 116 = dktX6_readsOrder_5 := dk_seg dksX6_readsOrder_4 23 rfl rfl
theorem dksX6_readsOrder_6 : cX6_readsOrder.data.toList.drop 138 = dktX6_readsOrder_6 := dk_seg dksX6_readsOrder_5 22 rfl rfl
theorem dksX6_readsOrder_7 : cX6_readsOrder.data.toList.drop 161 = dktX6_readsOrder_7 := dk_seg dksX6_readsOrder_6 23 rfl rfl
theorem dksX6_readsOrder_8 : cX6_readsOrder.data.toList.drop 185 = dktX6_readsOrder_8 := dk_seg dksX6_readsOrder_7 24 rfl rfl
theorem dksX6_readsOrder_9 : cX6_readsOrder.data.toList.drop 209 = dktX6_readsOrder_9 := dk_seg dksX6_readsOrder_8 24 rfl rfl
theorem dX6_readsOrder_0 : decode cX6_readsOrder 0 = .ok (.aload_n 0, 1) := dk_42 (dk_at dksX6_readsOrder_0 0 rfl rfl)
theorem dX6_readsOrder_1 : decode cX6_readsOrder 1 = .ok (.invokevirtual 230, 3) := dk_182 0 230 (dk_at dksX6_readsOrder_0 1 rfl rfl)
theorem dX6_readsOrder_4 : decode cX6_readsOrder 4 = .ok (.ifCond .ne 13, 3) := dk_154 0 13 (dk_at dksX6_readsOrder_0 4 rfl rfl)
theorem dX6_readsOrder_7 : decode cX6_readsOrder 7 = .ok (.aload_n 0, 1) := dk_42 (dk_at dksX6_readsOrder_0 7 rfl rfl)
theorem dX6_readsOrder_8 : decode cX6_readsOrder 8 = .ok (.iconst 1, 1) := dk_4 (dk_at dksX6_readsOrder_0 8 rfl rfl)
theorem dX6_readsOrder_9 : decode cX6_readsOrder 9 = .ok (.aload_n 0, 1) := dk_42 (dk_at dksX6_readsOrder_0 9 rfl rfl)
theorem dX6_readsOrder_10 : decode cX6_readsOrder 10 = .ok (.getfield 123, 3) := dk_180 0 123 (dk_at dksX6_readsOrder_0 10 rfl rfl)
theorem dX6_readsOrder_13 : decode cX6_readsOrder 13 = .ok (.invokevirtual 136, 3) := dk_182 0 136 (dk_at dksX6_readsOrder_0 13 rfl rfl)
theorem dX6_readsOrder_16 : decode cX6_readsOrder 16 = .ok (.ireturn, 1) := dk_172 (dk_at dksX6_readsOrder_0 16 rfl rfl)
theorem dX6_readsOrder_17 : decode cX6_readsOrder 17 = .ok (.aload_n 0, 1) := dk_42 (dk_at dksX6_readsOrder_0 17 rfl rfl)
theorem dX6_readsOrder_18 : decode cX6_readsOrder 18 = .ok (.getfield 236, 3) := dk_180 0 236 (dk_at dksX6_readsOrder_0 18 rfl rfl)
theorem dX6_readsOrder_21 : decode cX6_readsOrder 21 = .ok (.bipush 24, 2) := dk_16 24 (dk_at dksX6_readsOrder_0 21 rfl rfl)
theorem dX6_readsOrder_23 : decode cX6_readsOrder 23 = .ok (.if_icmp .ne 13, 3) := dk_160 0 13 (dk_at dksX6_readsOrder_1 0 rfl rfl)
theorem dX6_readsOrder_26 : decode cX6_readsOrder 26 = .ok (.aload_n 0, 1) := dk_42 (dk_at dksX6_readsOrder_1 3 rfl rfl)
theorem dX6_readsOrder_27 : decode cX6_readsOrder 27 = .ok (.iconst 4, 1) := dk_7 (dk_at dksX6_readsOrder_1 4 rfl rfl)
theorem dX6_readsOrder_28 : decode cX6_readsOrder 28 = .ok (.aload_n 0, 1) := dk_42 (dk_at dksX6_readsOrder_1 5 rfl rfl)
theorem dX6_readsOrder_29 : decode cX6_readsOrder 29 = .ok (.getfield 123, 3) := dk_180 0 123 (dk_at dksX6_readsOrder_1 6 rfl rfl)
theorem dX6_readsOrder_32 : decode cX6_readsOrder 32 = .ok (.invokevirtual 136, 3) := dk_182 0 136 (dk_at dksX6_readsOrder_1 9 rfl rfl)
theorem dX6_readsOrder_35 : decode cX6_readsOrder 35 = .ok (.ireturn, 1) := dk_172 (dk_at dksX6_readsOrder_1 12 rfl rfl)
theorem dX6_readsOrder_36 : decode cX6_readsOrder 36 = .ok (.aload_n 0, 1) := dk_42 (dk_at dksX6_readsOrder_1 13 rfl rfl)
theorem dX6_readsOrder_37 : decode cX6_readsOrder 37 = .ok (.aload_n 0, 1) := dk_42 (dk_at dksX6_readsOrder_1 14 rfl rfl)
theorem dX6_readsOrder_38 : decode cX6_readsOrder 38 = .ok (.getfield 236, 3) := dk_180 0 236 (dk_at dksX6_readsOrder_1 15 rfl rfl)
theorem dX6_readsOrder_41 : decode cX6_readsOrder 41 = .ok (.iconst 1, 1) := dk_4 (dk_at dksX6_readsOrder_1 18 rfl rfl)
theorem dX6_readsOrder_42 : decode cX6_readsOrder 42 = .ok (.iadd, 1) := dk_96 (dk_at dksX6_readsOrder_1 19 rfl rfl)
theorem dX6_readsOrder_43 : decode cX6_readsOrder 43 = .ok (.putfield 236, 3) := dk_181 0 236 (dk_at dksX6_readsOrder_1 20 rfl rfl)
theorem dX6_readsOrder_46 : decode cX6_readsOrder 46 = .ok (.aload_n 0, 1) := dk_42 (dk_at dksX6_readsOrder_1 23 rfl rfl)
theorem dX6_readsOrder_47 : decode cX6_readsOrder 47 = .ok (.getfield 123, 3) := dk_180 0 123 (dk_at dksX6_readsOrder_2 0 rfl rfl)
theorem dX6_readsOrder_50 : decode cX6_readsOrder 50 = .ok (.istore_n 1, 1) := dk_60 (dk_at dksX6_readsOrder_2 3 rfl rfl)
theorem dX6_readsOrder_51 : decode cX6_readsOrder 51 = .ok (.aload_n 0, 1) := dk_42 (dk_at dksX6_readsOrder_2 4 rfl rfl)
theorem dX6_readsOrder_52 : decode cX6_readsOrder 52 = .ok (.invokevirtual 129, 3) := dk_182 0 129 (dk_at dksX6_readsOrder_2 5 rfl rfl)
theorem dX6_readsOrder_55 : decode cX6_readsOrder 55 = .ok (.bipush 97, 2) := dk_16 97 (dk_at dksX6_readsOrder_2 8 rfl rfl)
theorem dX6_readsOrder_57 : decode cX6_readsOrder 57 = .ok (.isub, 1) := dk_100 (dk_at dksX6_readsOrder_2 10 rfl rfl)
theorem dX6_readsOrder_58 : decode cX6_readsOrder 58 = .ok (.istore_n 2, 1) := dk_61 (dk_at dksX6_readsOrder_2 11 rfl rfl)
theorem dX6_readsOrder_59 : decode cX6_readsOrder 59 = .ok (.aload_n 0, 1) := dk_42 (dk_at dksX6_readsOrder_2 12 rfl rfl)
theorem dX6_readsOrder_60 : decode cX6_readsOrder 60 = .ok (.aload_n 0, 1) := dk_42 (dk_at dksX6_readsOrder_2 13 rfl rfl)
theorem dX6_readsOrder_61 : decode cX6_readsOrder 61 = .ok (.getfield 123, 3) := dk_180 0 123 (dk_at dksX6_readsOrder_2 14 rfl rfl)
theorem dX6_readsOrder_64 : decode cX6_readsOrder 64 = .ok (.iconst 1, 1) := dk_4 (dk_at dksX6_readsOrder_2 17 rfl rfl)
theorem dX6_readsOrder_65 : decode cX6_readsOrder 65 = .ok (.iadd, 1) := dk_96 (dk_at dksX6_readsOrder_2 18 rfl rfl)
theorem dX6_readsOrder_66 : decode cX6_readsOrder 66 = .ok (.putfield 123, 3) := dk_181 0 123 (dk_at dksX6_readsOrder_2 19 rfl rfl)
theorem dX6_readsOrder_69 : decode cX6_readsOrder 69 = .ok (.aload_n 0, 1) := dk_42 (dk_at dksX6_readsOrder_2 22 rfl rfl)
theorem dX6_readsOrder_70 : decode cX6_readsOrder 70 = .ok (.invokevirtual 129, 3) := dk_182 0 129 (dk_at dksX6_readsOrder_3 0 rfl rfl)
theorem dX6_readsOrder_73 : decode cX6_readsOrder 73 = .ok (.istore_n 3, 1) := dk_62 (dk_at dksX6_readsOrder_3 3 rfl rfl)
theorem dX6_readsOrder_74 : decode cX6_readsOrder 74 = .ok (.iload_n 3, 1) := dk_29 (dk_at dksX6_readsOrder_3 4 rfl rfl)
theorem dX6_readsOrder_75 : decode cX6_readsOrder 75 = .ok (.bipush 64, 2) := dk_16 64 (dk_at dksX6_readsOrder_3 5 rfl rfl)
theorem dX6_readsOrder_77 : decode cX6_readsOrder 77 = .ok (.if_icmp .eq 37, 3) := dk_159 0 37 (dk_at dksX6_readsOrder_3 7 rfl rfl)
theorem dX6_readsOrder_80 : decode cX6_readsOrder 80 = .ok (.iload_n 3, 1) := dk_29 (dk_at dksX6_readsOrder_3 10 rfl rfl)
theorem dX6_readsOrder_81 : decode cX6_readsOrder 81 = .ok (.bipush 35, 2) := dk_16 35 (dk_at dksX6_readsOrder_3 11 rfl rfl)
theorem dX6_readsOrder_83 : decode cX6_readsOrder 83 = .ok (.if_icmp .eq 31, 3) := dk_159 0 31 (dk_at dksX6_readsOrder_3 13 rfl rfl)
theorem dX6_readsOrder_86 : decode cX6_readsOrder 86 = .ok (.iload_n 3, 1) := dk_29 (dk_at dksX6_readsOrder_3 16 rfl rfl)
theorem dX6_readsOrder_87 : decode cX6_readsOrder 87 = .ok (.bipush 61, 2) := dk_16 61 (dk_at dksX6_readsOrder_3 17 rfl rfl)
theorem dX6_readsOrder_89 : decode cX6_readsOrder 89 = .ok (.if_icmp .eq 25, 3) := dk_159 0 25 (dk_at dksX6_readsOrder_3 19 rfl rfl)
theorem dX6_readsOrder_92 : decode cX6_readsOrder 92 = .ok (.iload_n 3, 1) := dk_29 (dk_at dksX6_readsOrder_3 22 rfl rfl)
theorem dX6_readsOrder_93 : decode cX6_readsOrder 93 = .ok (.bipush 42, 2) := dk_16 42 (dk_at dksX6_readsOrder_4 0 rfl rfl)
theorem dX6_readsOrder_95 : decode cX6_readsOrder 95 = .ok (.if_icmp .eq 19, 3) := dk_159 0 19 (dk_at dksX6_readsOrder_4 2 rfl rfl)
theorem dX6_readsOrder_98 : decode cX6_readsOrder 98 = .ok (.iload_n 3, 1) := dk_29 (dk_at dksX6_readsOrder_4 5 rfl rfl)
theorem dX6_readsOrder_99 : decode cX6_readsOrder 99 = .ok (.bipush 38, 2) := dk_16 38 (dk_at dksX6_readsOrder_4 6 rfl rfl)
theorem dX6_readsOrder_101 : decode cX6_readsOrder 101 = .ok (.if_icmp .eq 13, 3) := dk_159 0 13 (dk_at dksX6_readsOrder_4 8 rfl rfl)
theorem dX6_readsOrder_104 : decode cX6_readsOrder 104 = .ok (.aload_n 0, 1) := dk_42 (dk_at dksX6_readsOrder_4 11 rfl rfl)
theorem dX6_readsOrder_105 : decode cX6_readsOrder 105 = .ok (.iconst 1, 1) := dk_4 (dk_at dksX6_readsOrder_4 12 rfl rfl)
theorem dX6_readsOrder_106 : decode cX6_readsOrder 106 = .ok (.aload_n 0, 1) := dk_42 (dk_at dksX6_readsOrder_4 13 rfl rfl)
theorem dX6_readsOrder_107 : decode cX6_readsOrder 107 = .ok (.getfield 123, 3) := dk_180 0 123 (dk_at dksX6_readsOrder_4 14 rfl rfl)
theorem dX6_readsOrder_110 : decode cX6_readsOrder 110 = .ok (.invokevirtual 136, 3) := dk_182 0 136 (dk_at dksX6_readsOrder_4 17 rfl rfl)
theorem dX6_readsOrder_113 : decode cX6_readsOrder 113 = .ok (.ireturn, 1) := dk_172 (dk_at dksX6_readsOrder_4 20 rfl rfl)
theorem dX6_readsOrder_114 : decode cX6_readsOrder 114 = .ok (.aload_n 0, 1) := dk_42 (dk_at dksX6_readsOrder_4 21 rfl rfl)
theorem dX6_readsOrder_115 : decode cX6_readsOrder 115 = .ok (.aload_n 0, 1) := dk_42 (dk_at dksX6_readsOrder_4 22 rfl rfl)
theorem dX6_readsOrder_116 : decode cX6_readsOrder 116 = .ok (.getfield 123, 3) := dk_180 0 123 (dk_at dksX6_readsOrder_5 0 rfl rfl)
theorem dX6_readsOrder_119 : decode cX6_readsOrder 119 = .ok (.iconst 1, 1) := dk_4 (dk_at dksX6_readsOrder_5 3 rfl rfl)
theorem dX6_readsOrder_120 : decode cX6_readsOrder 120 = .ok (.iadd, 1) := dk_96 (dk_at dksX6_readsOrder_5 4 rfl rfl)
theorem dX6_readsOrder_121 : decode cX6_readsOrder 121 = .ok (.putfield 123, 3) := dk_181 0 123 (dk_at dksX6_readsOrder_5 5 rfl rfl)
theorem dX6_readsOrder_124 : decode cX6_readsOrder 124 = .ok (.iload_n 3, 1) := dk_29 (dk_at dksX6_readsOrder_5 8 rfl rfl)
theorem dX6_readsOrder_125 : decode cX6_readsOrder 125 = .ok (.bipush 64, 2) := dk_16 64 (dk_at dksX6_readsOrder_5 9 rfl rfl)
theorem dX6_readsOrder_127 : decode cX6_readsOrder 127 = .ok (.if_icmp .ne 9, 3) := dk_160 0 9 (dk_at dksX6_readsOrder_5 11 rfl rfl)
theorem dX6_readsOrder_130 : decode cX6_readsOrder 130 = .ok (.aload_n 0, 1) := dk_42 (dk_at dksX6_readsOrder_5 14 rfl rfl)
theorem dX6_readsOrder_131 : decode cX6_readsOrder 131 = .ok (.iload_n 2, 1) := dk_28 (dk_at dksX6_readsOrder_5 15 rfl rfl)
theorem dX6_readsOrder_132 : decode cX6_readsOrder 132 = .ok (.invokevirtual 239, 3) := dk_182 0 239 (dk_at dksX6_readsOrder_5 16 rfl rfl)
theorem dX6_readsOrder_135 : decode cX6_readsOrder 135 = .ok (.ireturn, 1) := dk_172 (dk_at dksX6_readsOrder_5 19 rfl rfl)
theorem dX6_readsOrder_136 : decode cX6_readsOrder 136 = .ok (.aload_n 0, 1) := dk_42 (dk_at dksX6_readsOrder_5 20 rfl rfl)
theorem dX6_readsOrder_137 : decode cX6_readsOrder 137 = .ok (.iload_n 2, 1) := dk_28 (dk_at dksX6_readsOrder_5 21 rfl rfl)
theorem dX6_readsOrder_138 : decode cX6_readsOrder 138 = .ok (.invokevirtual 233, 3) := dk_182 0 233 (dk_at dksX6_readsOrder_6 0 rfl rfl)
theorem dX6_readsOrder_141 : decode cX6_readsOrder 141 = .ok (.ifCond .ne 11, 3) := dk_154 0 11 (dk_at dksX6_readsOrder_6 3 rfl rfl)
theorem dX6_readsOrder_144 : decode cX6_readsOrder 144 = .ok (.aload_n 0, 1) := dk_42 (dk_at dksX6_readsOrder_6 6 rfl rfl)
theorem dX6_readsOrder_145 : decode cX6_readsOrder 145 = .ok (.bipush 7, 2) := dk_16 7 (dk_at dksX6_readsOrder_6 7 rfl rfl)
theorem dX6_readsOrder_147 : decode cX6_readsOrder 147 = .ok (.iload_n 1, 1) := dk_27 (dk_at dksX6_readsOrder_6 9 rfl rfl)
theorem dX6_readsOrder_148 : decode cX6_readsOrder 148 = .ok (.invokevirtual 136, 3) := dk_182 0 136 (dk_at dksX6_readsOrder_6 10 rfl rfl)
theorem dX6_readsOrder_151 : decode cX6_readsOrder 151 = .ok (.ireturn, 1) := dk_172 (dk_at dksX6_readsOrder_6 13 rfl rfl)
theorem dX6_readsOrder_152 : decode cX6_readsOrder 152 = .ok (.iload_n 3, 1) := dk_29 (dk_at dksX6_readsOrder_6 14 rfl rfl)
theorem dX6_readsOrder_153 : decode cX6_readsOrder 153 = .ok (.bipush 42, 2) := dk_16 42 (dk_at dksX6_readsOrder_6 15 rfl rfl)
theorem dX6_readsOrder_155 : decode cX6_readsOrder 155 = .ok (.if_icmp .eq 9, 3) := dk_159 0 9 (dk_at dksX6_readsOrder_6 17 rfl rfl)
theorem dX6_readsOrder_158 : decode cX6_readsOrder 158 = .ok (.iload_n 3, 1) := dk_29 (dk_at dksX6_readsOrder_6 20 rfl rfl)
theorem dX6_readsOrder_159 : decode cX6_readsOrder 159 = .ok (.bipush 38, 2) := dk_16 38 (dk_at dksX6_readsOrder_6 21 rfl rfl)
theorem dX6_readsOrder_161 : decode cX6_readsOrder 161 = .ok (.if_icmp .ne 20, 3) := dk_160 0 20 (dk_at dksX6_readsOrder_7 0 rfl rfl)
theorem dX6_readsOrder_164 : decode cX6_readsOrder 164 = .ok (.aload_n 0, 1) := dk_42 (dk_at dksX6_readsOrder_7 3 rfl rfl)
theorem dX6_readsOrder_165 : decode cX6_readsOrder 165 = .ok (.iload_n 2, 1) := dk_28 (dk_at dksX6_readsOrder_7 4 rfl rfl)
theorem dX6_readsOrder_166 : decode cX6_readsOrder 166 = .ok (.iload_n 3, 1) := dk_29 (dk_at dksX6_readsOrder_7 5 rfl rfl)
theorem dX6_readsOrder_167 : decode cX6_readsOrder 167 = .ok (.bipush 42, 2) := dk_16 42 (dk_at dksX6_readsOrder_7 6 rfl rfl)
theorem dX6_readsOrder_169 : decode cX6_readsOrder 169 = .ok (.if_icmp .ne 7, 3) := dk_160 0 7 (dk_at dksX6_readsOrder_7 8 rfl rfl)
theorem dX6_readsOrder_172 : decode cX6_readsOrder 172 = .ok (.iconst 1, 1) := dk_4 (dk_at dksX6_readsOrder_7 11 rfl rfl)
theorem dX6_readsOrder_173 : decode cX6_readsOrder 173 = .ok (.goto 4, 3) := dk_167 0 4 (dk_at dksX6_readsOrder_7 12 rfl rfl)
theorem dX6_readsOrder_176 : decode cX6_readsOrder 176 = .ok (.iconst 0, 1) := dk_3 (dk_at dksX6_readsOrder_7 15 rfl rfl)
theorem dX6_readsOrder_177 : decode cX6_readsOrder 177 = .ok (.invokevirtual 242, 3) := dk_182 0 242 (dk_at dksX6_readsOrder_7 16 rfl rfl)
theorem dX6_readsOrder_180 : decode cX6_readsOrder 180 = .ok (.ireturn, 1) := dk_172 (dk_at dksX6_readsOrder_7 19 rfl rfl)
theorem dX6_readsOrder_181 : decode cX6_readsOrder 181 = .ok (.aload_n 0, 1) := dk_42 (dk_at dksX6_readsOrder_7 20 rfl rfl)
theorem dX6_readsOrder_182 : decode cX6_readsOrder 182 = .ok (.iload_n 3, 1) := dk_29 (dk_at dksX6_readsOrder_7 21 rfl rfl)
theorem dX6_readsOrder_183 : decode cX6_readsOrder 183 = .ok (.bipush 61, 2) := dk_16 61 (dk_at dksX6_readsOrder_7 22 rfl rfl)
theorem dX6_readsOrder_185 : decode cX6_readsOrder 185 = .ok (.if_icmp .ne 14, 3) := dk_160 0 14 (dk_at dksX6_readsOrder_8 0 rfl rfl)
theorem dX6_readsOrder_188 : decode cX6_readsOrder 188 = .ok (.aload_n 0, 1) := dk_42 (dk_at dksX6_readsOrder_8 3 rfl rfl)
theorem dX6_readsOrder_189 : decode cX6_readsOrder 189 = .ok (.getfield 227, 3) := dk_180 0 227 (dk_at dksX6_readsOrder_8 4 rfl rfl)
theorem dX6_readsOrder_192 : decode cX6_readsOrder 192 = .ok (.iconst 1, 1) := dk_4 (dk_at dksX6_readsOrder_8 7 rfl rfl)
theorem dX6_readsOrder_193 : decode cX6_readsOrder 193 = .ok (.iload_n 2, 1) := dk_28 (dk_at dksX6_readsOrder_8 8 rfl rfl)
theorem dX6_readsOrder_194 : decode cX6_readsOrder 194 = .ok (.ishl, 1) := dk_120 (dk_at dksX6_readsOrder_8 9 rfl rfl)
theorem dX6_readsOrder_195 : decode cX6_readsOrder 195 = .ok (.ior, 1) := dk_128 (dk_at dksX6_readsOrder_8 10 rfl rfl)
theorem dX6_readsOrder_196 : decode cX6_readsOrder 196 = .ok (.goto 13, 3) := dk_167 0 13 (dk_at dksX6_readsOrder_8 11 rfl rfl)
theorem dX6_readsOrder_199 : decode cX6_readsOrder 199 = .ok (.aload_n 0, 1) := dk_42 (dk_at dksX6_readsOrder_8 14 rfl rfl)
theorem dX6_readsOrder_200 : decode cX6_readsOrder 200 = .ok (.getfield 227, 3) := dk_180 0 227 (dk_at dksX6_readsOrder_8 15 rfl rfl)
theorem dX6_readsOrder_203 : decode cX6_readsOrder 203 = .ok (.iconst 1, 1) := dk_4 (dk_at dksX6_readsOrder_8 18 rfl rfl)
theorem dX6_readsOrder_204 : decode cX6_readsOrder 204 = .ok (.iload_n 2, 1) := dk_28 (dk_at dksX6_readsOrder_8 19 rfl rfl)
theorem dX6_readsOrder_205 : decode cX6_readsOrder 205 = .ok (.ishl, 1) := dk_120 (dk_at dksX6_readsOrder_8 20 rfl rfl)
theorem dX6_readsOrder_206 : decode cX6_readsOrder 206 = .ok (.iconst (-1), 1) := dk_2 (dk_at dksX6_readsOrder_8 21 rfl rfl)
theorem dX6_readsOrder_207 : decode cX6_readsOrder 207 = .ok (.ixor, 1) := dk_130 (dk_at dksX6_readsOrder_8 22 rfl rfl)
theorem dX6_readsOrder_208 : decode cX6_readsOrder 208 = .ok (.iand, 1) := dk_126 (dk_at dksX6_readsOrder_8 23 rfl rfl)
theorem dX6_readsOrder_209 : decode cX6_readsOrder 209 = .ok (.putfield 227, 3) := dk_181 0 227 (dk_at dksX6_readsOrder_9 0 rfl rfl)
theorem dX6_readsOrder_212 : decode cX6_readsOrder 212 = .ok (.iconst 1, 1) := dk_4 (dk_at dksX6_readsOrder_9 3 rfl rfl)
theorem dX6_readsOrder_213 : decode cX6_readsOrder 213 = .ok (.ireturn, 1) := dk_172 (dk_at dksX6_readsOrder_9 4 rfl rfl)
abbrev cX6_isLetter : ByteArray := prog_20_method_43_code
def yX6_isLetter : MethodName := ⟨RX6, "isLetter", "()Z"⟩
def dkwX6_isLetter_0 : List UInt8 := [42, 182, 0, 129, 16, 97, 100, 3, 16, 15, 184, 0, 104, 172]
abbrev dktX6_isLetter_0 : List UInt8 := dkwX6_isLetter_0 ++ []
theorem dksX6_isLetter_0 : cX6_isLetter.data.toList.drop 0 = dktX6_isLetter_0 := by decide +kernel
theorem dX6_isLetter_0 : decode cX6_isLetter 0 = .ok (.aload_n 0, 1) := dk_42 (dk_at dksX6_isLetter_0 0 rfl rfl)
theorem dX6_isLetter_1 : decode cX6_isLetter 1 = .ok (.invokevirtual 129, 3) := dk_182 0 129 (dk_at dksX6_isLetter_0 1 rfl rfl)
theorem dX6_isLetter_4 : decode cX6_isLetter 4 = .ok (.bipush 97, 2) := dk_16 97 (dk_at dksX6_isLetter_0 4 rfl rfl)
theorem dX6_isLetter_6 : decode cX6_isLetter 6 = .ok (.isub, 1) := dk_100 (dk_at dksX6_isLetter_0 6 rfl rfl)
theorem dX6_isLetter_7 : decode cX6_isLetter 7 = .ok (.iconst 0, 1) := dk_3 (dk_at dksX6_isLetter_0 7 rfl rfl)
theorem dX6_isLetter_8 : decode cX6_isLetter 8 = .ok (.bipush 15, 2) := dk_16 15 (dk_at dksX6_isLetter_0 8 rfl rfl)
theorem dX6_isLetter_10 : decode cX6_isLetter 10 = .ok (.invokestatic 104, 3) := dk_184 0 104 (dk_at dksX6_isLetter_0 10 rfl rfl)
theorem dX6_isLetter_13 : decode cX6_isLetter 13 = .ok (.ireturn, 1) := dk_172 (dk_at dksX6_isLetter_0 13 rfl rfl)
abbrev cX6_readsHouse : ByteArray := prog_20_method_44_code
def yX6_readsHouse : MethodName := ⟨RX6, "readsHouse", "(I)Z"⟩
def dkwX6_readsHouse_5 : List UInt8 := [181, 0, 227, 42, 42, 180, 0, 108, 4, 27, 120, 128, 181, 0, 108, 4, 172]
abbrev dktX6_readsHouse_5 : List UInt8 := dkwX6_readsHouse_5 ++ []
def dkwX6_readsHouse_4 : List UInt8 := [180, 0, 139, 79, 42, 180, 0, 108, 27, 184, 0, 100, 154, 0, 15, 42, 42, 180, 0, 227, 4, 27, 120, 128]
abbrev dktX6_readsHouse_4 : List UInt8 := dkwX6_readsHouse_4 ++ dktX6_readsHouse_5
def dkwX6_readsHouse_3 : List UInt8 := [181, 0, 139, 42, 42, 180, 0, 123, 4, 96, 181, 0, 123, 167, 255, 200, 42, 180, 0, 19, 27, 42]
abbrev dktX6_readsHouse_3 : List UInt8 := dkwX6_readsHouse_3 ++ dktX6_readsHouse_4
def dkwX6_readsHouse_2 : List UInt8 := [180, 0, 123, 182, 0, 136, 172, 42, 16, 10, 42, 180, 0, 139, 104, 42, 182, 0, 129, 96, 16, 48, 100]
abbrev dktX6_readsHouse_2 : List UInt8 := dkwX6_readsHouse_2 ++ dktX6_readsHouse_3
def dkwX6_readsHouse_1 : List UInt8 := [181, 0, 139, 42, 182, 0, 142, 153, 0, 55, 42, 180, 0, 123, 28, 5, 96, 160, 0, 13, 42, 5, 42]
abbrev dktX6_readsHouse_1 : List UInt8 := dkwX6_readsHouse_1 ++ dktX6_readsHouse_2
def dkwX6_readsHouse_0 : List UInt8 := [42, 180, 0, 123, 61, 42, 182, 0, 142, 154, 0, 13, 42, 4, 42, 180, 0, 123, 182, 0, 136, 172, 42, 3]
abbrev dktX6_readsHouse_0 : List UInt8 := dkwX6_readsHouse_0 ++ dktX6_readsHouse_1
theorem dksX6_readsHouse_0 : cX6_readsHouse.data.toList.drop 0 = dktX6_readsHouse_0 := by decide +kernel
theorem dksX6_readsHouse_1 : cX6_readsHouse.data.toList.drop 24 = dktX6_readsHouse_1 := dk_seg dksX6_readsHouse_0 24 rfl rfl
theorem dksX6_readsHouse_2 : cX6_readsHouse.data.toList.drop 47 = dktX6_readsHouse_2 := dk_seg dksX6_readsHouse_1 23 rfl rfl
theorem dksX6_readsHouse_3 : cX6_readsHouse.data.toList.drop 70 = dktX6_readsHouse_3 := dk_seg dksX6_readsHouse_2 23 rfl rfl
theorem dksX6_readsHouse_4 : cX6_readsHouse.data.toList.drop 92 = dktX6_readsHouse_4 := dk_seg dksX6_readsHouse_3 22 rfl rfl
theorem dksX6_readsHouse_5 : cX6_readsHouse.data.toList.drop 116 = dktX6_readsHouse_5 := dk_seg dksX6_readsHouse_4 24 rfl rfl
theorem dX6_readsHouse_0 : decode cX6_readsHouse 0 = .ok (.aload_n 0, 1) := dk_42 (dk_at dksX6_readsHouse_0 0 rfl rfl)
theorem dX6_readsHouse_1 : decode cX6_readsHouse 1 = .ok (.getfield 123, 3) := dk_180 0 123 (dk_at dksX6_readsHouse_0 1 rfl rfl)
theorem dX6_readsHouse_4 : decode cX6_readsHouse 4 = .ok (.istore_n 2, 1) := dk_61 (dk_at dksX6_readsHouse_0 4 rfl rfl)
theorem dX6_readsHouse_5 : decode cX6_readsHouse 5 = .ok (.aload_n 0, 1) := dk_42 (dk_at dksX6_readsHouse_0 5 rfl rfl)
theorem dX6_readsHouse_6 : decode cX6_readsHouse 6 = .ok (.invokevirtual 142, 3) := dk_182 0 142 (dk_at dksX6_readsHouse_0 6 rfl rfl)
theorem dX6_readsHouse_9 : decode cX6_readsHouse 9 = .ok (.ifCond .ne 13, 3) := dk_154 0 13 (dk_at dksX6_readsHouse_0 9 rfl rfl)
theorem dX6_readsHouse_12 : decode cX6_readsHouse 12 = .ok (.aload_n 0, 1) := dk_42 (dk_at dksX6_readsHouse_0 12 rfl rfl)
theorem dX6_readsHouse_13 : decode cX6_readsHouse 13 = .ok (.iconst 1, 1) := dk_4 (dk_at dksX6_readsHouse_0 13 rfl rfl)
theorem dX6_readsHouse_14 : decode cX6_readsHouse 14 = .ok (.aload_n 0, 1) := dk_42 (dk_at dksX6_readsHouse_0 14 rfl rfl)
theorem dX6_readsHouse_15 : decode cX6_readsHouse 15 = .ok (.getfield 123, 3) := dk_180 0 123 (dk_at dksX6_readsHouse_0 15 rfl rfl)
theorem dX6_readsHouse_18 : decode cX6_readsHouse 18 = .ok (.invokevirtual 136, 3) := dk_182 0 136 (dk_at dksX6_readsHouse_0 18 rfl rfl)
theorem dX6_readsHouse_21 : decode cX6_readsHouse 21 = .ok (.ireturn, 1) := dk_172 (dk_at dksX6_readsHouse_0 21 rfl rfl)
theorem dX6_readsHouse_22 : decode cX6_readsHouse 22 = .ok (.aload_n 0, 1) := dk_42 (dk_at dksX6_readsHouse_0 22 rfl rfl)
theorem dX6_readsHouse_23 : decode cX6_readsHouse 23 = .ok (.iconst 0, 1) := dk_3 (dk_at dksX6_readsHouse_0 23 rfl rfl)
theorem dX6_readsHouse_24 : decode cX6_readsHouse 24 = .ok (.putfield 139, 3) := dk_181 0 139 (dk_at dksX6_readsHouse_1 0 rfl rfl)
theorem dX6_readsHouse_27 : decode cX6_readsHouse 27 = .ok (.aload_n 0, 1) := dk_42 (dk_at dksX6_readsHouse_1 3 rfl rfl)
theorem dX6_readsHouse_28 : decode cX6_readsHouse 28 = .ok (.invokevirtual 142, 3) := dk_182 0 142 (dk_at dksX6_readsHouse_1 4 rfl rfl)
theorem dX6_readsHouse_31 : decode cX6_readsHouse 31 = .ok (.ifCond .eq 55, 3) := dk_153 0 55 (dk_at dksX6_readsHouse_1 7 rfl rfl)
theorem dX6_readsHouse_34 : decode cX6_readsHouse 34 = .ok (.aload_n 0, 1) := dk_42 (dk_at dksX6_readsHouse_1 10 rfl rfl)
theorem dX6_readsHouse_35 : decode cX6_readsHouse 35 = .ok (.getfield 123, 3) := dk_180 0 123 (dk_at dksX6_readsHouse_1 11 rfl rfl)
theorem dX6_readsHouse_38 : decode cX6_readsHouse 38 = .ok (.iload_n 2, 1) := dk_28 (dk_at dksX6_readsHouse_1 14 rfl rfl)
theorem dX6_readsHouse_39 : decode cX6_readsHouse 39 = .ok (.iconst 2, 1) := dk_5 (dk_at dksX6_readsHouse_1 15 rfl rfl)
theorem dX6_readsHouse_40 : decode cX6_readsHouse 40 = .ok (.iadd, 1) := dk_96 (dk_at dksX6_readsHouse_1 16 rfl rfl)
theorem dX6_readsHouse_41 : decode cX6_readsHouse 41 = .ok (.if_icmp .ne 13, 3) := dk_160 0 13 (dk_at dksX6_readsHouse_1 17 rfl rfl)
theorem dX6_readsHouse_44 : decode cX6_readsHouse 44 = .ok (.aload_n 0, 1) := dk_42 (dk_at dksX6_readsHouse_1 20 rfl rfl)
theorem dX6_readsHouse_45 : decode cX6_readsHouse 45 = .ok (.iconst 2, 1) := dk_5 (dk_at dksX6_readsHouse_1 21 rfl rfl)
theorem dX6_readsHouse_46 : decode cX6_readsHouse 46 = .ok (.aload_n 0, 1) := dk_42 (dk_at dksX6_readsHouse_1 22 rfl rfl)
theorem dX6_readsHouse_47 : decode cX6_readsHouse 47 = .ok (.getfield 123, 3) := dk_180 0 123 (dk_at dksX6_readsHouse_2 0 rfl rfl)
theorem dX6_readsHouse_50 : decode cX6_readsHouse 50 = .ok (.invokevirtual 136, 3) := dk_182 0 136 (dk_at dksX6_readsHouse_2 3 rfl rfl)
theorem dX6_readsHouse_53 : decode cX6_readsHouse 53 = .ok (.ireturn, 1) := dk_172 (dk_at dksX6_readsHouse_2 6 rfl rfl)
theorem dX6_readsHouse_54 : decode cX6_readsHouse 54 = .ok (.aload_n 0, 1) := dk_42 (dk_at dksX6_readsHouse_2 7 rfl rfl)
theorem dX6_readsHouse_55 : decode cX6_readsHouse 55 = .ok (.bipush 10, 2) := dk_16 10 (dk_at dksX6_readsHouse_2 8 rfl rfl)
theorem dX6_readsHouse_57 : decode cX6_readsHouse 57 = .ok (.aload_n 0, 1) := dk_42 (dk_at dksX6_readsHouse_2 10 rfl rfl)
theorem dX6_readsHouse_58 : decode cX6_readsHouse 58 = .ok (.getfield 139, 3) := dk_180 0 139 (dk_at dksX6_readsHouse_2 11 rfl rfl)
theorem dX6_readsHouse_61 : decode cX6_readsHouse 61 = .ok (.imul, 1) := dk_104 (dk_at dksX6_readsHouse_2 14 rfl rfl)
theorem dX6_readsHouse_62 : decode cX6_readsHouse 62 = .ok (.aload_n 0, 1) := dk_42 (dk_at dksX6_readsHouse_2 15 rfl rfl)
theorem dX6_readsHouse_63 : decode cX6_readsHouse 63 = .ok (.invokevirtual 129, 3) := dk_182 0 129 (dk_at dksX6_readsHouse_2 16 rfl rfl)
theorem dX6_readsHouse_66 : decode cX6_readsHouse 66 = .ok (.iadd, 1) := dk_96 (dk_at dksX6_readsHouse_2 19 rfl rfl)
theorem dX6_readsHouse_67 : decode cX6_readsHouse 67 = .ok (.bipush 48, 2) := dk_16 48 (dk_at dksX6_readsHouse_2 20 rfl rfl)
theorem dX6_readsHouse_69 : decode cX6_readsHouse 69 = .ok (.isub, 1) := dk_100 (dk_at dksX6_readsHouse_2 22 rfl rfl)
theorem dX6_readsHouse_70 : decode cX6_readsHouse 70 = .ok (.putfield 139, 3) := dk_181 0 139 (dk_at dksX6_readsHouse_3 0 rfl rfl)
theorem dX6_readsHouse_73 : decode cX6_readsHouse 73 = .ok (.aload_n 0, 1) := dk_42 (dk_at dksX6_readsHouse_3 3 rfl rfl)
theorem dX6_readsHouse_74 : decode cX6_readsHouse 74 = .ok (.aload_n 0, 1) := dk_42 (dk_at dksX6_readsHouse_3 4 rfl rfl)
theorem dX6_readsHouse_75 : decode cX6_readsHouse 75 = .ok (.getfield 123, 3) := dk_180 0 123 (dk_at dksX6_readsHouse_3 5 rfl rfl)
theorem dX6_readsHouse_78 : decode cX6_readsHouse 78 = .ok (.iconst 1, 1) := dk_4 (dk_at dksX6_readsHouse_3 8 rfl rfl)
theorem dX6_readsHouse_79 : decode cX6_readsHouse 79 = .ok (.iadd, 1) := dk_96 (dk_at dksX6_readsHouse_3 9 rfl rfl)
theorem dX6_readsHouse_80 : decode cX6_readsHouse 80 = .ok (.putfield 123, 3) := dk_181 0 123 (dk_at dksX6_readsHouse_3 10 rfl rfl)
theorem dX6_readsHouse_83 : decode cX6_readsHouse 83 = .ok (.goto (-56), 3) := dk_167 255 200 (dk_at dksX6_readsHouse_3 13 rfl rfl)
theorem dX6_readsHouse_86 : decode cX6_readsHouse 86 = .ok (.aload_n 0, 1) := dk_42 (dk_at dksX6_readsHouse_3 16 rfl rfl)
theorem dX6_readsHouse_87 : decode cX6_readsHouse 87 = .ok (.getfield 19, 3) := dk_180 0 19 (dk_at dksX6_readsHouse_3 17 rfl rfl)
theorem dX6_readsHouse_90 : decode cX6_readsHouse 90 = .ok (.iload_n 1, 1) := dk_27 (dk_at dksX6_readsHouse_3 20 rfl rfl)
theorem dX6_readsHouse_91 : decode cX6_readsHouse 91 = .ok (.aload_n 0, 1) := dk_42 (dk_at dksX6_readsHouse_3 21 rfl rfl)
theorem dX6_readsHouse_92 : decode cX6_readsHouse 92 = .ok (.getfield 139, 3) := dk_180 0 139 (dk_at dksX6_readsHouse_4 0 rfl rfl)
theorem dX6_readsHouse_95 : decode cX6_readsHouse 95 = .ok (.iastore, 1) := dk_79 (dk_at dksX6_readsHouse_4 3 rfl rfl)
theorem dX6_readsHouse_96 : decode cX6_readsHouse 96 = .ok (.aload_n 0, 1) := dk_42 (dk_at dksX6_readsHouse_4 4 rfl rfl)
theorem dX6_readsHouse_97 : decode cX6_readsHouse 97 = .ok (.getfield 108, 3) := dk_180 0 108 (dk_at dksX6_readsHouse_4 5 rfl rfl)
theorem dX6_readsHouse_100 : decode cX6_readsHouse 100 = .ok (.iload_n 1, 1) := dk_27 (dk_at dksX6_readsHouse_4 8 rfl rfl)
theorem dX6_readsHouse_101 : decode cX6_readsHouse 101 = .ok (.invokestatic 100, 3) := dk_184 0 100 (dk_at dksX6_readsHouse_4 9 rfl rfl)
theorem dX6_readsHouse_104 : decode cX6_readsHouse 104 = .ok (.ifCond .ne 15, 3) := dk_154 0 15 (dk_at dksX6_readsHouse_4 12 rfl rfl)
theorem dX6_readsHouse_107 : decode cX6_readsHouse 107 = .ok (.aload_n 0, 1) := dk_42 (dk_at dksX6_readsHouse_4 15 rfl rfl)
theorem dX6_readsHouse_108 : decode cX6_readsHouse 108 = .ok (.aload_n 0, 1) := dk_42 (dk_at dksX6_readsHouse_4 16 rfl rfl)
theorem dX6_readsHouse_109 : decode cX6_readsHouse 109 = .ok (.getfield 227, 3) := dk_180 0 227 (dk_at dksX6_readsHouse_4 17 rfl rfl)
theorem dX6_readsHouse_112 : decode cX6_readsHouse 112 = .ok (.iconst 1, 1) := dk_4 (dk_at dksX6_readsHouse_4 20 rfl rfl)
theorem dX6_readsHouse_113 : decode cX6_readsHouse 113 = .ok (.iload_n 1, 1) := dk_27 (dk_at dksX6_readsHouse_4 21 rfl rfl)
theorem dX6_readsHouse_114 : decode cX6_readsHouse 114 = .ok (.ishl, 1) := dk_120 (dk_at dksX6_readsHouse_4 22 rfl rfl)
theorem dX6_readsHouse_115 : decode cX6_readsHouse 115 = .ok (.ior, 1) := dk_128 (dk_at dksX6_readsHouse_4 23 rfl rfl)
theorem dX6_readsHouse_116 : decode cX6_readsHouse 116 = .ok (.putfield 227, 3) := dk_181 0 227 (dk_at dksX6_readsHouse_5 0 rfl rfl)
theorem dX6_readsHouse_119 : decode cX6_readsHouse 119 = .ok (.aload_n 0, 1) := dk_42 (dk_at dksX6_readsHouse_5 3 rfl rfl)
theorem dX6_readsHouse_120 : decode cX6_readsHouse 120 = .ok (.aload_n 0, 1) := dk_42 (dk_at dksX6_readsHouse_5 4 rfl rfl)
theorem dX6_readsHouse_121 : decode cX6_readsHouse 121 = .ok (.getfield 108, 3) := dk_180 0 108 (dk_at dksX6_readsHouse_5 5 rfl rfl)
theorem dX6_readsHouse_124 : decode cX6_readsHouse 124 = .ok (.iconst 1, 1) := dk_4 (dk_at dksX6_readsHouse_5 8 rfl rfl)
theorem dX6_readsHouse_125 : decode cX6_readsHouse 125 = .ok (.iload_n 1, 1) := dk_27 (dk_at dksX6_readsHouse_5 9 rfl rfl)
theorem dX6_readsHouse_126 : decode cX6_readsHouse 126 = .ok (.ishl, 1) := dk_120 (dk_at dksX6_readsHouse_5 10 rfl rfl)
theorem dX6_readsHouse_127 : decode cX6_readsHouse 127 = .ok (.ior, 1) := dk_128 (dk_at dksX6_readsHouse_5 11 rfl rfl)
theorem dX6_readsHouse_128 : decode cX6_readsHouse 128 = .ok (.putfield 108, 3) := dk_181 0 108 (dk_at dksX6_readsHouse_5 12 rfl rfl)
theorem dX6_readsHouse_131 : decode cX6_readsHouse 131 = .ok (.iconst 1, 1) := dk_4 (dk_at dksX6_readsHouse_5 15 rfl rfl)
theorem dX6_readsHouse_132 : decode cX6_readsHouse 132 = .ok (.ireturn, 1) := dk_172 (dk_at dksX6_readsHouse_5 16 rfl rfl)
abbrev cX6_has : ByteArray := prog_20_method_6_code
def yX6_has : MethodName := ⟨RX6, "has", "(II)Z"⟩
def dkwX6_has_0 : List UInt8 := [26, 27, 122, 4, 126, 4, 160, 0, 7, 4, 167, 0, 4, 3, 172]
abbrev dktX6_has_0 : List UInt8 := dkwX6_has_0 ++ []
theorem dksX6_has_0 : cX6_has.data.toList.drop 0 = dktX6_has_0 := by decide +kernel
theorem dX6_has_0 : decode cX6_has 0 = .ok (.iload_n 0, 1) := dk_26 (dk_at dksX6_has_0 0 rfl rfl)
theorem dX6_has_1 : decode cX6_has 1 = .ok (.iload_n 1, 1) := dk_27 (dk_at dksX6_has_0 1 rfl rfl)
theorem dX6_has_2 : decode cX6_has 2 = .ok (.ishr, 1) := dk_122 (dk_at dksX6_has_0 2 rfl rfl)
theorem dX6_has_3 : decode cX6_has 3 = .ok (.iconst 1, 1) := dk_4 (dk_at dksX6_has_0 3 rfl rfl)
theorem dX6_has_4 : decode cX6_has 4 = .ok (.iand, 1) := dk_126 (dk_at dksX6_has_0 4 rfl rfl)
theorem dX6_has_5 : decode cX6_has 5 = .ok (.iconst 1, 1) := dk_4 (dk_at dksX6_has_0 5 rfl rfl)
theorem dX6_has_6 : decode cX6_has 6 = .ok (.if_icmp .ne 7, 3) := dk_160 0 7 (dk_at dksX6_has_0 6 rfl rfl)
theorem dX6_has_9 : decode cX6_has 9 = .ok (.iconst 1, 1) := dk_4 (dk_at dksX6_has_0 9 rfl rfl)
theorem dX6_has_10 : decode cX6_has 10 = .ok (.goto 4, 3) := dk_167 0 4 (dk_at dksX6_has_0 10 rfl rfl)
theorem dX6_has_13 : decode cX6_has 13 = .ok (.iconst 0, 1) := dk_3 (dk_at dksX6_has_0 13 rfl rfl)
theorem dX6_has_14 : decode cX6_has 14 = .ok (.ireturn, 1) := dk_172 (dk_at dksX6_has_0 14 rfl rfl)
abbrev cX6_isTold : ByteArray := prog_20_method_10_code
def yX6_isTold : MethodName := ⟨RX6, "isTold", "(I)Z"⟩
def dkwX6_isTold_1 : List UInt8 := [167, 0, 4, 3, 172]
abbrev dktX6_isTold_1 : List UInt8 := dkwX6_isTold_1 ++ []
def dkwX6_isTold_0 : List UInt8 := [27, 3, 16, 15, 184, 0, 104, 153, 0, 18, 42, 180, 0, 108, 27, 184, 0, 100, 153, 0, 7, 4]
abbrev dktX6_isTold_0 : List UInt8 := dkwX6_isTold_0 ++ dktX6_isTold_1
theorem dksX6_isTold_0 : cX6_isTold.data.toList.drop 0 = dktX6_isTold_0 := by decide +kernel
theorem dksX6_isTold_1 : cX6_isTold.data.toList.drop 22 = dktX6_isTold_1 := dk_seg dksX6_isTold_0 22 rfl rfl
theorem dX6_isTold_0 : decode cX6_isTold 0 = .ok (.iload_n 1, 1) := dk_27 (dk_at dksX6_isTold_0 0 rfl rfl)
theorem dX6_isTold_1 : decode cX6_isTold 1 = .ok (.iconst 0, 1) := dk_3 (dk_at dksX6_isTold_0 1 rfl rfl)
theorem dX6_isTold_2 : decode cX6_isTold 2 = .ok (.bipush 15, 2) := dk_16 15 (dk_at dksX6_isTold_0 2 rfl rfl)
theorem dX6_isTold_4 : decode cX6_isTold 4 = .ok (.invokestatic 104, 3) := dk_184 0 104 (dk_at dksX6_isTold_0 4 rfl rfl)
theorem dX6_isTold_7 : decode cX6_isTold 7 = .ok (.ifCond .eq 18, 3) := dk_153 0 18 (dk_at dksX6_isTold_0 7 rfl rfl)
theorem dX6_isTold_10 : decode cX6_isTold 10 = .ok (.aload_n 0, 1) := dk_42 (dk_at dksX6_isTold_0 10 rfl rfl)
theorem dX6_isTold_11 : decode cX6_isTold 11 = .ok (.getfield 108, 3) := dk_180 0 108 (dk_at dksX6_isTold_0 11 rfl rfl)
theorem dX6_isTold_14 : decode cX6_isTold 14 = .ok (.iload_n 1, 1) := dk_27 (dk_at dksX6_isTold_0 14 rfl rfl)
theorem dX6_isTold_15 : decode cX6_isTold 15 = .ok (.invokestatic 100, 3) := dk_184 0 100 (dk_at dksX6_isTold_0 15 rfl rfl)
theorem dX6_isTold_18 : decode cX6_isTold 18 = .ok (.ifCond .eq 7, 3) := dk_153 0 7 (dk_at dksX6_isTold_0 18 rfl rfl)
theorem dX6_isTold_21 : decode cX6_isTold 21 = .ok (.iconst 1, 1) := dk_4 (dk_at dksX6_isTold_0 21 rfl rfl)
theorem dX6_isTold_22 : decode cX6_isTold 22 = .ok (.goto 4, 3) := dk_167 0 4 (dk_at dksX6_isTold_1 0 rfl rfl)
theorem dX6_isTold_25 : decode cX6_isTold 25 = .ok (.iconst 0, 1) := dk_3 (dk_at dksX6_isTold_1 3 rfl rfl)
theorem dX6_isTold_26 : decode cX6_isTold 26 = .ok (.ireturn, 1) := dk_172 (dk_at dksX6_isTold_1 4 rfl rfl)
abbrev cX6_readsOther : ByteArray := prog_20_method_45_code
def yX6_readsOther : MethodName := ⟨RX6, "readsOther", "(IZ)Z"⟩
def dkwX6_readsOther_6 : List UInt8 := [79, 4, 172]
abbrev dktX6_readsOther_6 : List UInt8 := dkwX6_readsOther_6 ++ []
def dkwX6_readsOther_5 : List UInt8 := [180, 0, 22, 29, 46, 4, 27, 120, 128, 167, 0, 15, 42, 180, 0, 22, 29, 46, 4, 27, 120, 2, 130, 126]
abbrev dktX6_readsOther_5 : List UInt8 := dkwX6_readsOther_5 ++ dktX6_readsOther_6
def dkwX6_readsOther_4 : List UInt8 := [180, 0, 22, 27, 46, 4, 29, 120, 2, 130, 126, 79, 42, 180, 0, 22, 29, 28, 153, 0, 16, 42]
abbrev dktX6_readsOther_4 : List UInt8 := dkwX6_readsOther_4 ++ dktX6_readsOther_5
def dkwX6_readsOther_3 : List UInt8 := [42, 180, 0, 22, 27, 28, 153, 0, 16, 42, 180, 0, 22, 27, 46, 4, 29, 120, 128, 167, 0, 15, 42]
abbrev dktX6_readsOther_3 : List UInt8 := dkwX6_readsOther_3 ++ dktX6_readsOther_4
def dkwX6_readsOther_2 : List UInt8 := [154, 0, 14, 42, 16, 7, 42, 180, 0, 123, 182, 0, 136, 172, 42, 42, 180, 0, 123, 4, 96, 181, 0, 123]
abbrev dktX6_readsOther_2 : List UInt8 := dkwX6_readsOther_2 ++ dktX6_readsOther_3
def dkwX6_readsOther_1 : List UInt8 := [62, 29, 27, 160, 0, 14, 42, 16, 6, 42, 180, 0, 123, 182, 0, 136, 172, 42, 29, 182, 0, 233]
abbrev dktX6_readsOther_1 : List UInt8 := dkwX6_readsOther_1 ++ dktX6_readsOther_2
def dkwX6_readsOther_0 : List UInt8 := [42, 182, 0, 230, 154, 0, 13, 42, 4, 42, 180, 0, 123, 182, 0, 136, 172, 42, 182, 0, 129, 16, 97, 100]
abbrev dktX6_readsOther_0 : List UInt8 := dkwX6_readsOther_0 ++ dktX6_readsOther_1
theorem dksX6_readsOther_0 : cX6_readsOther.data.toList.drop 0 = dktX6_readsOther_0 := by decide +kernel
theorem dksX6_readsOther_1 : cX6_readsOther.data.toList.drop 24 = dktX6_readsOther_1 := dk_seg dksX6_readsOther_0 24 rfl rfl
theorem dksX6_readsOther_2 : cX6_readsOther.data.toList.drop 46 = dktX6_readsOther_2 := dk_seg dksX6_readsOther_1 22 rfl rfl
theorem dksX6_readsOther_3 : cX6_readsOther.data.toList.drop 70 = dktX6_readsOther_3 := dk_seg dksX6_readsOther_2 24 rfl rfl
theorem dksX6_readsOther_4 : cX6_readsOther.data.toList.drop 93 = dktX6_readsOther_4 := dk_seg dksX6_readsOther_3 23 rfl rfl
theorem dksX6_readsOther_5 : cX6_readsOther.data.toList.drop 115 = dktX6_readsOther_5 := dk_seg dksX6_readsOther_4 22 rfl rfl
theorem dksX6_readsOther_6 : cX6_readsOther.data.toList.drop 139 = dktX6_readsOther_6 := dk_seg dksX6_readsOther_5 24 rfl rfl
theorem dX6_readsOther_0 : decode cX6_readsOther 0 = .ok (.aload_n 0, 1) := dk_42 (dk_at dksX6_readsOther_0 0 rfl rfl)
theorem dX6_readsOther_1 : decode cX6_readsOther 1 = .ok (.invokevirtual 230, 3) := dk_182 0 230 (dk_at dksX6_readsOther_0 1 rfl rfl)
theorem dX6_readsOther_4 : decode cX6_readsOther 4 = .ok (.ifCond .ne 13, 3) := dk_154 0 13 (dk_at dksX6_readsOther_0 4 rfl rfl)
theorem dX6_readsOther_7 : decode cX6_readsOther 7 = .ok (.aload_n 0, 1) := dk_42 (dk_at dksX6_readsOther_0 7 rfl rfl)
theorem dX6_readsOther_8 : decode cX6_readsOther 8 = .ok (.iconst 1, 1) := dk_4 (dk_at dksX6_readsOther_0 8 rfl rfl)
theorem dX6_readsOther_9 : decode cX6_readsOther 9 = .ok (.aload_n 0, 1) := dk_42 (dk_at dksX6_readsOther_0 9 rfl rfl)
theorem dX6_readsOther_10 : decode cX6_readsOther 10 = .ok (.getfield 123, 3) := dk_180 0 123 (dk_at dksX6_readsOther_0 10 rfl rfl)
theorem dX6_readsOther_13 : decode cX6_readsOther 13 = .ok (.invokevirtual 136, 3) := dk_182 0 136 (dk_at dksX6_readsOther_0 13 rfl rfl)
theorem dX6_readsOther_16 : decode cX6_readsOther 16 = .ok (.ireturn, 1) := dk_172 (dk_at dksX6_readsOther_0 16 rfl rfl)
theorem dX6_readsOther_17 : decode cX6_readsOther 17 = .ok (.aload_n 0, 1) := dk_42 (dk_at dksX6_readsOther_0 17 rfl rfl)
theorem dX6_readsOther_18 : decode cX6_readsOther 18 = .ok (.invokevirtual 129, 3) := dk_182 0 129 (dk_at dksX6_readsOther_0 18 rfl rfl)
theorem dX6_readsOther_21 : decode cX6_readsOther 21 = .ok (.bipush 97, 2) := dk_16 97 (dk_at dksX6_readsOther_0 21 rfl rfl)
theorem dX6_readsOther_23 : decode cX6_readsOther 23 = .ok (.isub, 1) := dk_100 (dk_at dksX6_readsOther_0 23 rfl rfl)
theorem dX6_readsOther_24 : decode cX6_readsOther 24 = .ok (.istore_n 3, 1) := dk_62 (dk_at dksX6_readsOther_1 0 rfl rfl)
theorem dX6_readsOther_25 : decode cX6_readsOther 25 = .ok (.iload_n 3, 1) := dk_29 (dk_at dksX6_readsOther_1 1 rfl rfl)
theorem dX6_readsOther_26 : decode cX6_readsOther 26 = .ok (.iload_n 1, 1) := dk_27 (dk_at dksX6_readsOther_1 2 rfl rfl)
theorem dX6_readsOther_27 : decode cX6_readsOther 27 = .ok (.if_icmp .ne 14, 3) := dk_160 0 14 (dk_at dksX6_readsOther_1 3 rfl rfl)
theorem dX6_readsOther_30 : decode cX6_readsOther 30 = .ok (.aload_n 0, 1) := dk_42 (dk_at dksX6_readsOther_1 6 rfl rfl)
theorem dX6_readsOther_31 : decode cX6_readsOther 31 = .ok (.bipush 6, 2) := dk_16 6 (dk_at dksX6_readsOther_1 7 rfl rfl)
theorem dX6_readsOther_33 : decode cX6_readsOther 33 = .ok (.aload_n 0, 1) := dk_42 (dk_at dksX6_readsOther_1 9 rfl rfl)
theorem dX6_readsOther_34 : decode cX6_readsOther 34 = .ok (.getfield 123, 3) := dk_180 0 123 (dk_at dksX6_readsOther_1 10 rfl rfl)
theorem dX6_readsOther_37 : decode cX6_readsOther 37 = .ok (.invokevirtual 136, 3) := dk_182 0 136 (dk_at dksX6_readsOther_1 13 rfl rfl)
theorem dX6_readsOther_40 : decode cX6_readsOther 40 = .ok (.ireturn, 1) := dk_172 (dk_at dksX6_readsOther_1 16 rfl rfl)
theorem dX6_readsOther_41 : decode cX6_readsOther 41 = .ok (.aload_n 0, 1) := dk_42 (dk_at dksX6_readsOther_1 17 rfl rfl)
theorem dX6_readsOther_42 : decode cX6_readsOther 42 = .ok (.iload_n 3, 1) := dk_29 (dk_at dksX6_readsOther_1 18 rfl rfl)
theorem dX6_readsOther_43 : decode cX6_readsOther 43 = .ok (.invokevirtual 233, 3) := dk_182 0 233 (dk_at dksX6_readsOther_1 19 rfl rfl)
theorem dX6_readsOther_46 : decode cX6_readsOther 46 = .ok (.ifCond .ne 14, 3) := dk_154 0 14 (dk_at dksX6_readsOther_2 0 rfl rfl)
theorem dX6_readsOther_49 : decode cX6_readsOther 49 = .ok (.aload_n 0, 1) := dk_42 (dk_at dksX6_readsOther_2 3 rfl rfl)
theorem dX6_readsOther_50 : decode cX6_readsOther 50 = .ok (.bipush 7, 2) := dk_16 7 (dk_at dksX6_readsOther_2 4 rfl rfl)
theorem dX6_readsOther_52 : decode cX6_readsOther 52 = .ok (.aload_n 0, 1) := dk_42 (dk_at dksX6_readsOther_2 6 rfl rfl)
theorem dX6_readsOther_53 : decode cX6_readsOther 53 = .ok (.getfield 123, 3) := dk_180 0 123 (dk_at dksX6_readsOther_2 7 rfl rfl)
theorem dX6_readsOther_56 : decode cX6_readsOther 56 = .ok (.invokevirtual 136, 3) := dk_182 0 136 (dk_at dksX6_readsOther_2 10 rfl rfl)
theorem dX6_readsOther_59 : decode cX6_readsOther 59 = .ok (.ireturn, 1) := dk_172 (dk_at dksX6_readsOther_2 13 rfl rfl)
theorem dX6_readsOther_60 : decode cX6_readsOther 60 = .ok (.aload_n 0, 1) := dk_42 (dk_at dksX6_readsOther_2 14 rfl rfl)
theorem dX6_readsOther_61 : decode cX6_readsOther 61 = .ok (.aload_n 0, 1) := dk_42 (dk_at dksX6_readsOther_2 15 rfl rfl)
theorem dX6_readsOther_62 : decode cX6_readsOther 62 = .ok (.getfield 123, 3) := dk_180 0 123 (dk_at dksX6_readsOther_2 16 rfl rfl)
theorem dX6_readsOther_65 : decode cX6_readsOther 65 = .ok (.iconst 1, 1) := dk_4 (dk_at dksX6_readsOther_2 19 rfl rfl)
theorem dX6_readsOther_66 : decode cX6_readsOther 66 = .ok (.iadd, 1) := dk_96 (dk_at dksX6_readsOther_2 20 rfl rfl)
theorem dX6_readsOther_67 : decode cX6_readsOther 67 = .ok (.putfield 123, 3) := dk_181 0 123 (dk_at dksX6_readsOther_2 21 rfl rfl)
theorem dX6_readsOther_70 : decode cX6_readsOther 70 = .ok (.aload_n 0, 1) := dk_42 (dk_at dksX6_readsOther_3 0 rfl rfl)
theorem dX6_readsOther_71 : decode cX6_readsOther 71 = .ok (.getfield 22, 3) := dk_180 0 22 (dk_at dksX6_readsOther_3 1 rfl rfl)
theorem dX6_readsOther_74 : decode cX6_readsOther 74 = .ok (.iload_n 1, 1) := dk_27 (dk_at dksX6_readsOther_3 4 rfl rfl)
theorem dX6_readsOther_75 : decode cX6_readsOther 75 = .ok (.iload_n 2, 1) := dk_28 (dk_at dksX6_readsOther_3 5 rfl rfl)
theorem dX6_readsOther_76 : decode cX6_readsOther 76 = .ok (.ifCond .eq 16, 3) := dk_153 0 16 (dk_at dksX6_readsOther_3 6 rfl rfl)
theorem dX6_readsOther_79 : decode cX6_readsOther 79 = .ok (.aload_n 0, 1) := dk_42 (dk_at dksX6_readsOther_3 9 rfl rfl)
theorem dX6_readsOther_80 : decode cX6_readsOther 80 = .ok (.getfield 22, 3) := dk_180 0 22 (dk_at dksX6_readsOther_3 10 rfl rfl)
theorem dX6_readsOther_83 : decode cX6_readsOther 83 = .ok (.iload_n 1, 1) := dk_27 (dk_at dksX6_readsOther_3 13 rfl rfl)
theorem dX6_readsOther_84 : decode cX6_readsOther 84 = .ok (.iaload, 1) := dk_46 (dk_at dksX6_readsOther_3 14 rfl rfl)
theorem dX6_readsOther_85 : decode cX6_readsOther 85 = .ok (.iconst 1, 1) := dk_4 (dk_at dksX6_readsOther_3 15 rfl rfl)
theorem dX6_readsOther_86 : decode cX6_readsOther 86 = .ok (.iload_n 3, 1) := dk_29 (dk_at dksX6_readsOther_3 16 rfl rfl)
theorem dX6_readsOther_87 : decode cX6_readsOther 87 = .ok (.ishl, 1) := dk_120 (dk_at dksX6_readsOther_3 17 rfl rfl)
theorem dX6_readsOther_88 : decode cX6_readsOther 88 = .ok (.ior, 1) := dk_128 (dk_at dksX6_readsOther_3 18 rfl rfl)
theorem dX6_readsOther_89 : decode cX6_readsOther 89 = .ok (.goto 15, 3) := dk_167 0 15 (dk_at dksX6_readsOther_3 19 rfl rfl)
theorem dX6_readsOther_92 : decode cX6_readsOther 92 = .ok (.aload_n 0, 1) := dk_42 (dk_at dksX6_readsOther_3 22 rfl rfl)
theorem dX6_readsOther_93 : decode cX6_readsOther 93 = .ok (.getfield 22, 3) := dk_180 0 22 (dk_at dksX6_readsOther_4 0 rfl rfl)
theorem dX6_readsOther_96 : decode cX6_readsOther 96 = .ok (.iload_n 1, 1) := dk_27 (dk_at dksX6_readsOther_4 3 rfl rfl)
theorem dX6_readsOther_97 : decode cX6_readsOther 97 = .ok (.iaload, 1) := dk_46 (dk_at dksX6_readsOther_4 4 rfl rfl)
theorem dX6_readsOther_98 : decode cX6_readsOther 98 = .ok (.iconst 1, 1) := dk_4 (dk_at dksX6_readsOther_4 5 rfl rfl)
theorem dX6_readsOther_99 : decode cX6_readsOther 99 = .ok (.iload_n 3, 1) := dk_29 (dk_at dksX6_readsOther_4 6 rfl rfl)
theorem dX6_readsOther_100 : decode cX6_readsOther 100 = .ok (.ishl, 1) := dk_120 (dk_at dksX6_readsOther_4 7 rfl rfl)
theorem dX6_readsOther_101 : decode cX6_readsOther 101 = .ok (.iconst (-1), 1) := dk_2 (dk_at dksX6_readsOther_4 8 rfl rfl)
theorem dX6_readsOther_102 : decode cX6_readsOther 102 = .ok (.ixor, 1) := dk_130 (dk_at dksX6_readsOther_4 9 rfl rfl)
theorem dX6_readsOther_103 : decode cX6_readsOther 103 = .ok (.iand, 1) := dk_126 (dk_at dksX6_readsOther_4 10 rfl rfl)
theorem dX6_readsOther_104 : decode cX6_readsOther 104 = .ok (.iastore, 1) := dk_79 (dk_at dksX6_readsOther_4 11 rfl rfl)
theorem dX6_readsOther_105 : decode cX6_readsOther 105 = .ok (.aload_n 0, 1) := dk_42 (dk_at dksX6_readsOther_4 12 rfl rfl)
theorem dX6_readsOther_106 : decode cX6_readsOther 106 = .ok (.getfield 22, 3) := dk_180 0 22 (dk_at dksX6_readsOther_4 13 rfl rfl)
theorem dX6_readsOther_109 : decode cX6_readsOther 109 = .ok (.iload_n 3, 1) := dk_29 (dk_at dksX6_readsOther_4 16 rfl rfl)
theorem dX6_readsOther_110 : decode cX6_readsOther 110 = .ok (.iload_n 2, 1) := dk_28 (dk_at dksX6_readsOther_4 17 rfl rfl)
theorem dX6_readsOther_111 : decode cX6_readsOther 111 = .ok (.ifCond .eq 16, 3) := dk_153 0 16 (dk_at dksX6_readsOther_4 18 rfl rfl)
theorem dX6_readsOther_114 : decode cX6_readsOther 114 = .ok (.aload_n 0, 1) := dk_42 (dk_at dksX6_readsOther_4 21 rfl rfl)
theorem dX6_readsOther_115 : decode cX6_readsOther 115 = .ok (.getfield 22, 3) := dk_180 0 22 (dk_at dksX6_readsOther_5 0 rfl rfl)
theorem dX6_readsOther_118 : decode cX6_readsOther 118 = .ok (.iload_n 3, 1) := dk_29 (dk_at dksX6_readsOther_5 3 rfl rfl)
theorem dX6_readsOther_119 : decode cX6_readsOther 119 = .ok (.iaload, 1) := dk_46 (dk_at dksX6_readsOther_5 4 rfl rfl)
theorem dX6_readsOther_120 : decode cX6_readsOther 120 = .ok (.iconst 1, 1) := dk_4 (dk_at dksX6_readsOther_5 5 rfl rfl)
theorem dX6_readsOther_121 : decode cX6_readsOther 121 = .ok (.iload_n 1, 1) := dk_27 (dk_at dksX6_readsOther_5 6 rfl rfl)
theorem dX6_readsOther_122 : decode cX6_readsOther 122 = .ok (.ishl, 1) := dk_120 (dk_at dksX6_readsOther_5 7 rfl rfl)
theorem dX6_readsOther_123 : decode cX6_readsOther 123 = .ok (.ior, 1) := dk_128 (dk_at dksX6_readsOther_5 8 rfl rfl)
theorem dX6_readsOther_124 : decode cX6_readsOther 124 = .ok (.goto 15, 3) := dk_167 0 15 (dk_at dksX6_readsOther_5 9 rfl rfl)
theorem dX6_readsOther_127 : decode cX6_readsOther 127 = .ok (.aload_n 0, 1) := dk_42 (dk_at dksX6_readsOther_5 12 rfl rfl)
theorem dX6_readsOther_128 : decode cX6_readsOther 128 = .ok (.getfield 22, 3) := dk_180 0 22 (dk_at dksX6_readsOther_5 13 rfl rfl)
theorem dX6_readsOther_131 : decode cX6_readsOther 131 = .ok (.iload_n 3, 1) := dk_29 (dk_at dksX6_readsOther_5 16 rfl rfl)
theorem dX6_readsOther_132 : decode cX6_readsOther 132 = .ok (.iaload, 1) := dk_46 (dk_at dksX6_readsOther_5 17 rfl rfl)
theorem dX6_readsOther_133 : decode cX6_readsOther 133 = .ok (.iconst 1, 1) := dk_4 (dk_at dksX6_readsOther_5 18 rfl rfl)
theorem dX6_readsOther_134 : decode cX6_readsOther 134 = .ok (.iload_n 1, 1) := dk_27 (dk_at dksX6_readsOther_5 19 rfl rfl)
theorem dX6_readsOther_135 : decode cX6_readsOther 135 = .ok (.ishl, 1) := dk_120 (dk_at dksX6_readsOther_5 20 rfl rfl)
theorem dX6_readsOther_136 : decode cX6_readsOther 136 = .ok (.iconst (-1), 1) := dk_2 (dk_at dksX6_readsOther_5 21 rfl rfl)
theorem dX6_readsOther_137 : decode cX6_readsOther 137 = .ok (.ixor, 1) := dk_130 (dk_at dksX6_readsOther_5 22 rfl rfl)
theorem dX6_readsOther_138 : decode cX6_readsOther 138 = .ok (.iand, 1) := dk_126 (dk_at dksX6_readsOther_5 23 rfl rfl)
theorem dX6_readsOther_139 : decode cX6_readsOther 139 = .ok (.iastore, 1) := dk_79 (dk_at dksX6_readsOther_6 0 rfl rfl)
theorem dX6_readsOther_140 : decode cX6_readsOther 140 = .ok (.iconst 1, 1) := dk_4 (dk_at dksX6_readsOther_6 1 rfl rfl)
theorem dX6_readsOther_141 : decode cX6_readsOther 141 = .ok (.ireturn, 1) := dk_172 (dk_at dksX6_readsOther_6 2 rfl rfl)
abbrev cX6_putsBack : ByteArray := prog_20_method_48_code
def yX6_putsBack : MethodName := ⟨RX6, "putsBack", "()V"⟩
def dkwX6_putsBack_2 : List UInt8 := [132, 1, 1, 167, 255, 223, 177]
abbrev dktX6_putsBack_2 : List UInt8 := dkwX6_putsBack_2 ++ []
def dkwX6_putsBack_1 : List UInt8 := [42, 180, 0, 19, 27, 42, 180, 0, 25, 27, 46, 79, 42, 180, 0, 22, 27, 42, 180, 0, 28, 27, 46, 79]
abbrev dktX6_putsBack_1 : List UInt8 := dkwX6_putsBack_1 ++ dktX6_putsBack_2
def dkwX6_putsBack_0 : List UInt8 := [42, 42, 180, 0, 246, 181, 0, 108, 42, 42, 180, 0, 249, 181, 0, 227, 3, 60, 27, 16, 16, 162, 0, 33]
abbrev dktX6_putsBack_0 : List UInt8 := dkwX6_putsBack_0 ++ dktX6_putsBack_1
theorem dksX6_putsBack_0 : cX6_putsBack.data.toList.drop 0 = dktX6_putsBack_0 := by decide +kernel
theorem dksX6_putsBack_1 : cX6_putsBack.data.toList.drop 24 = dktX6_putsBack_1 := dk_seg dksX6_putsBack_0 24 rfl rfl
theorem dksX6_putsBack_2 : cX6_putsBack.data.toList.drop 48 = dktX6_putsBack_2 := dk_seg dksX6_putsBack_1 24 rfl rfl
theorem dX6_putsBack_0 : decode cX6_putsBack 0 = .ok (.aload_n 0, 1) := dk_42 (dk_at dksX6_putsBack_0 0 rfl rfl)
theorem dX6_putsBack_1 : decode cX6_putsBack 1 = .ok (.aload_n 0, 1) := dk_42 (dk_at dksX6_putsBack_0 1 rfl rfl)
theorem dX6_putsBack_2 : decode cX6_putsBack 2 = .ok (.getfield 246, 3) := dk_180 0 246 (dk_at dksX6_putsBack_0 2 rfl rfl)
theorem dX6_putsBack_5 : decode cX6_putsBack 5 = .ok (.putfield 108, 3) := dk_181 0 108 (dk_at dksX6_putsBack_0 5 rfl rfl)
theorem dX6_putsBack_8 : decode cX6_putsBack 8 = .ok (.aload_n 0, 1) := dk_42 (dk_at dksX6_putsBack_0 8 rfl rfl)
theorem dX6_putsBack_9 : decode cX6_putsBack 9 = .ok (.aload_n 0, 1) := dk_42 (dk_at dksX6_putsBack_0 9 rfl rfl)
theorem dX6_putsBack_10 : decode cX6_putsBack 10 = .ok (.getfield 249, 3) := dk_180 0 249 (dk_at dksX6_putsBack_0 10 rfl rfl)
theorem dX6_putsBack_13 : decode cX6_putsBack 13 = .ok (.putfield 227, 3) := dk_181 0 227 (dk_at dksX6_putsBack_0 13 rfl rfl)
theorem dX6_putsBack_16 : decode cX6_putsBack 16 = .ok (.iconst 0, 1) := dk_3 (dk_at dksX6_putsBack_0 16 rfl rfl)
theorem dX6_putsBack_17 : decode cX6_putsBack 17 = .ok (.istore_n 1, 1) := dk_60 (dk_at dksX6_putsBack_0 17 rfl rfl)
theorem dX6_putsBack_18 : decode cX6_putsBack 18 = .ok (.iload_n 1, 1) := dk_27 (dk_at dksX6_putsBack_0 18 rfl rfl)
theorem dX6_putsBack_19 : decode cX6_putsBack 19 = .ok (.bipush 16, 2) := dk_16 16 (dk_at dksX6_putsBack_0 19 rfl rfl)
theorem dX6_putsBack_21 : decode cX6_putsBack 21 = .ok (.if_icmp .ge 33, 3) := dk_162 0 33 (dk_at dksX6_putsBack_0 21 rfl rfl)
theorem dX6_putsBack_24 : decode cX6_putsBack 24 = .ok (.aload_n 0, 1) := dk_42 (dk_at dksX6_putsBack_1 0 rfl rfl)
theorem dX6_putsBack_25 : decode cX6_putsBack 25 = .ok (.getfield 19, 3) := dk_180 0 19 (dk_at dksX6_putsBack_1 1 rfl rfl)
theorem dX6_putsBack_28 : decode cX6_putsBack 28 = .ok (.iload_n 1, 1) := dk_27 (dk_at dksX6_putsBack_1 4 rfl rfl)
theorem dX6_putsBack_29 : decode cX6_putsBack 29 = .ok (.aload_n 0, 1) := dk_42 (dk_at dksX6_putsBack_1 5 rfl rfl)
theorem dX6_putsBack_30 : decode cX6_putsBack 30 = .ok (.getfield 25, 3) := dk_180 0 25 (dk_at dksX6_putsBack_1 6 rfl rfl)
theorem dX6_putsBack_33 : decode cX6_putsBack 33 = .ok (.iload_n 1, 1) := dk_27 (dk_at dksX6_putsBack_1 9 rfl rfl)
theorem dX6_putsBack_34 : decode cX6_putsBack 34 = .ok (.iaload, 1) := dk_46 (dk_at dksX6_putsBack_1 10 rfl rfl)
theorem dX6_putsBack_35 : decode cX6_putsBack 35 = .ok (.iastore, 1) := dk_79 (dk_at dksX6_putsBack_1 11 rfl rfl)
theorem dX6_putsBack_36 : decode cX6_putsBack 36 = .ok (.aload_n 0, 1) := dk_42 (dk_at dksX6_putsBack_1 12 rfl rfl)
theorem dX6_putsBack_37 : decode cX6_putsBack 37 = .ok (.getfield 22, 3) := dk_180 0 22 (dk_at dksX6_putsBack_1 13 rfl rfl)
theorem dX6_putsBack_40 : decode cX6_putsBack 40 = .ok (.iload_n 1, 1) := dk_27 (dk_at dksX6_putsBack_1 16 rfl rfl)
theorem dX6_putsBack_41 : decode cX6_putsBack 41 = .ok (.aload_n 0, 1) := dk_42 (dk_at dksX6_putsBack_1 17 rfl rfl)
theorem dX6_putsBack_42 : decode cX6_putsBack 42 = .ok (.getfield 28, 3) := dk_180 0 28 (dk_at dksX6_putsBack_1 18 rfl rfl)
theorem dX6_putsBack_45 : decode cX6_putsBack 45 = .ok (.iload_n 1, 1) := dk_27 (dk_at dksX6_putsBack_1 21 rfl rfl)
theorem dX6_putsBack_46 : decode cX6_putsBack 46 = .ok (.iaload, 1) := dk_46 (dk_at dksX6_putsBack_1 22 rfl rfl)
theorem dX6_putsBack_47 : decode cX6_putsBack 47 = .ok (.iastore, 1) := dk_79 (dk_at dksX6_putsBack_1 23 rfl rfl)
theorem dX6_putsBack_48 : decode cX6_putsBack 48 = .ok (.iinc 1 1, 3) := dk_132 1 1 (dk_at dksX6_putsBack_2 0 rfl rfl)
theorem dX6_putsBack_51 : decode cX6_putsBack 51 = .ok (.goto (-33), 3) := dk_167 255 223 (dk_at dksX6_putsBack_2 3 rfl rfl)
theorem dX6_putsBack_54 : decode cX6_putsBack 54 = .ok (.return_, 1) := dk_177 (dk_at dksX6_putsBack_2 6 rfl rfl)
abbrev cX6_dance : ByteArray := prog_20_method_51_code
def yX6_dance : MethodName := ⟨RX6, "dance", "(II)I"⟩
def dkwX6_dance_6 : List UInt8 := [180, 1, 5, 2, 130, 126, 167, 0, 7, 42, 180, 1, 8, 172]
abbrev dktX6_dance_6 : List UInt8 := dkwX6_dance_6 ++ []
def dkwX6_dance_5 : List UInt8 := [172, 28, 154, 0, 10, 42, 180, 1, 11, 167, 0, 26, 28, 4, 160, 0, 17, 42, 180, 0, 227, 42]
abbrev dktX6_dance_5 : List UInt8 := dkwX6_dance_5 ++ dktX6_dance_6
def dkwX6_dance_4 : List UInt8 := [162, 0, 11, 42, 182, 1, 14, 62, 167, 255, 236, 42, 3, 181, 0, 116, 29, 154, 0, 8, 42, 180, 0, 133]
abbrev dktX6_dance_4 : List UInt8 := dkwX6_dance_4 ++ dktX6_dance_5
def dkwX6_dance_3 : List UInt8 := [132, 3, 1, 167, 255, 235, 42, 182, 1, 14, 62, 29, 153, 0, 22, 42, 180, 0, 123, 42, 180, 0, 126]
abbrev dktX6_dance_3 : List UInt8 := dkwX6_dance_3 ++ dktX6_dance_4
def dkwX6_dance_2 : List UInt8 := [181, 1, 8, 3, 62, 29, 16, 16, 162, 0, 21, 42, 180, 0, 74, 29, 42, 180, 0, 19, 29, 46, 79]
abbrev dktX6_dance_2 : List UInt8 := dkwX6_dance_2 ++ dktX6_dance_3
def dkwX6_dance_1 : List UInt8 := [164, 0, 5, 2, 172, 42, 27, 182, 0, 207, 42, 3, 181, 1, 5, 42, 3, 181, 1, 11, 42, 3]
abbrev dktX6_dance_1 : List UInt8 := dkwX6_dance_1 ++ dktX6_dance_2
def dkwX6_dance_0 : List UInt8 := [27, 4, 16, 100, 184, 0, 104, 153, 0, 20, 28, 3, 5, 184, 0, 104, 153, 0, 11, 27, 42, 180, 0, 116]
abbrev dktX6_dance_0 : List UInt8 := dkwX6_dance_0 ++ dktX6_dance_1
theorem dksX6_dance_0 : cX6_dance.data.toList.drop 0 = dktX6_dance_0 := by decide +kernel
theorem dksX6_dance_1 : cX6_dance.data.toList.drop 24 = dktX6_dance_1 := dk_seg dksX6_dance_0 24 rfl rfl
theorem dksX6_dance_2 : cX6_dance.data.toList.drop 46 = dktX6_dance_2 := dk_seg dksX6_dance_1 22 rfl rfl
theorem dksX6_dance_3 : cX6_dance.data.toList.drop 69 = dktX6_dance_3 := dk_seg dksX6_dance_2 23 rfl rfl
theorem dksX6_dance_4 : cX6_dance.data.toList.drop 92 = dktX6_dance_4 := dk_seg dksX6_dance_3 23 rfl rfl
theorem dksX6_dance_5 : cX6_dance.data.toList.drop 116 = dktX6_dance_5 := dk_seg dksX6_dance_4 24 rfl rfl
theorem dksX6_dance_6 : cX6_dance.data.toList.drop 138 = dktX6_dance_6 := dk_seg dksX6_dance_5 22 rfl rfl
theorem dX6_dance_0 : decode cX6_dance 0 = .ok (.iload_n 1, 1) := dk_27 (dk_at dksX6_dance_0 0 rfl rfl)
theorem dX6_dance_1 : decode cX6_dance 1 = .ok (.iconst 1, 1) := dk_4 (dk_at dksX6_dance_0 1 rfl rfl)
theorem dX6_dance_2 : decode cX6_dance 2 = .ok (.bipush 100, 2) := dk_16 100 (dk_at dksX6_dance_0 2 rfl rfl)
theorem dX6_dance_4 : decode cX6_dance 4 = .ok (.invokestatic 104, 3) := dk_184 0 104 (dk_at dksX6_dance_0 4 rfl rfl)
theorem dX6_dance_7 : decode cX6_dance 7 = .ok (.ifCond .eq 20, 3) := dk_153 0 20 (dk_at dksX6_dance_0 7 rfl rfl)
theorem dX6_dance_10 : decode cX6_dance 10 = .ok (.iload_n 2, 1) := dk_28 (dk_at dksX6_dance_0 10 rfl rfl)
theorem dX6_dance_11 : decode cX6_dance 11 = .ok (.iconst 0, 1) := dk_3 (dk_at dksX6_dance_0 11 rfl rfl)
theorem dX6_dance_12 : decode cX6_dance 12 = .ok (.iconst 2, 1) := dk_5 (dk_at dksX6_dance_0 12 rfl rfl)
theorem dX6_dance_13 : decode cX6_dance 13 = .ok (.invokestatic 104, 3) := dk_184 0 104 (dk_at dksX6_dance_0 13 rfl rfl)
theorem dX6_dance_16 : decode cX6_dance 16 = .ok (.ifCond .eq 11, 3) := dk_153 0 11 (dk_at dksX6_dance_0 16 rfl rfl)
theorem dX6_dance_19 : decode cX6_dance 19 = .ok (.iload_n 1, 1) := dk_27 (dk_at dksX6_dance_0 19 rfl rfl)
theorem dX6_dance_20 : decode cX6_dance 20 = .ok (.aload_n 0, 1) := dk_42 (dk_at dksX6_dance_0 20 rfl rfl)
theorem dX6_dance_21 : decode cX6_dance 21 = .ok (.getfield 116, 3) := dk_180 0 116 (dk_at dksX6_dance_0 21 rfl rfl)
theorem dX6_dance_24 : decode cX6_dance 24 = .ok (.if_icmp .le 5, 3) := dk_164 0 5 (dk_at dksX6_dance_1 0 rfl rfl)
theorem dX6_dance_27 : decode cX6_dance 27 = .ok (.iconst (-1), 1) := dk_2 (dk_at dksX6_dance_1 3 rfl rfl)
theorem dX6_dance_28 : decode cX6_dance 28 = .ok (.ireturn, 1) := dk_172 (dk_at dksX6_dance_1 4 rfl rfl)
theorem dX6_dance_29 : decode cX6_dance 29 = .ok (.aload_n 0, 1) := dk_42 (dk_at dksX6_dance_1 5 rfl rfl)
theorem dX6_dance_30 : decode cX6_dance 30 = .ok (.iload_n 1, 1) := dk_27 (dk_at dksX6_dance_1 6 rfl rfl)
theorem dX6_dance_31 : decode cX6_dance 31 = .ok (.invokevirtual 207, 3) := dk_182 0 207 (dk_at dksX6_dance_1 7 rfl rfl)
theorem dX6_dance_34 : decode cX6_dance 34 = .ok (.aload_n 0, 1) := dk_42 (dk_at dksX6_dance_1 10 rfl rfl)
theorem dX6_dance_35 : decode cX6_dance 35 = .ok (.iconst 0, 1) := dk_3 (dk_at dksX6_dance_1 11 rfl rfl)
theorem dX6_dance_36 : decode cX6_dance 36 = .ok (.putfield 261, 3) := dk_181 1 5 (dk_at dksX6_dance_1 12 rfl rfl)
theorem dX6_dance_39 : decode cX6_dance 39 = .ok (.aload_n 0, 1) := dk_42 (dk_at dksX6_dance_1 15 rfl rfl)
theorem dX6_dance_40 : decode cX6_dance 40 = .ok (.iconst 0, 1) := dk_3 (dk_at dksX6_dance_1 16 rfl rfl)
theorem dX6_dance_41 : decode cX6_dance 41 = .ok (.putfield 267, 3) := dk_181 1 11 (dk_at dksX6_dance_1 17 rfl rfl)
theorem dX6_dance_44 : decode cX6_dance 44 = .ok (.aload_n 0, 1) := dk_42 (dk_at dksX6_dance_1 20 rfl rfl)
theorem dX6_dance_45 : decode cX6_dance 45 = .ok (.iconst 0, 1) := dk_3 (dk_at dksX6_dance_1 21 rfl rfl)
theorem dX6_dance_46 : decode cX6_dance 46 = .ok (.putfield 264, 3) := dk_181 1 8 (dk_at dksX6_dance_2 0 rfl rfl)
theorem dX6_dance_49 : decode cX6_dance 49 = .ok (.iconst 0, 1) := dk_3 (dk_at dksX6_dance_2 3 rfl rfl)
theorem dX6_dance_50 : decode cX6_dance 50 = .ok (.istore_n 3, 1) := dk_62 (dk_at dksX6_dance_2 4 rfl rfl)
theorem dX6_dance_51 : decode cX6_dance 51 = .ok (.iload_n 3, 1) := dk_29 (dk_at dksX6_dance_2 5 rfl rfl)
theorem dX6_dance_52 : decode cX6_dance 52 = .ok (.bipush 16, 2) := dk_16 16 (dk_at dksX6_dance_2 6 rfl rfl)
theorem dX6_dance_54 : decode cX6_dance 54 = .ok (.if_icmp .ge 21, 3) := dk_162 0 21 (dk_at dksX6_dance_2 8 rfl rfl)
theorem dX6_dance_57 : decode cX6_dance 57 = .ok (.aload_n 0, 1) := dk_42 (dk_at dksX6_dance_2 11 rfl rfl)
theorem dX6_dance_58 : decode cX6_dance 58 = .ok (.getfield 74, 3) := dk_180 0 74 (dk_at dksX6_dance_2 12 rfl rfl)
theorem dX6_dance_61 : decode cX6_dance 61 = .ok (.iload_n 3, 1) := dk_29 (dk_at dksX6_dance_2 15 rfl rfl)
theorem dX6_dance_62 : decode cX6_dance 62 = .ok (.aload_n 0, 1) := dk_42 (dk_at dksX6_dance_2 16 rfl rfl)
theorem dX6_dance_63 : decode cX6_dance 63 = .ok (.getfield 19, 3) := dk_180 0 19 (dk_at dksX6_dance_2 17 rfl rfl)
theorem dX6_dance_66 : decode cX6_dance 66 = .ok (.iload_n 3, 1) := dk_29 (dk_at dksX6_dance_2 20 rfl rfl)
theorem dX6_dance_67 : decode cX6_dance 67 = .ok (.iaload, 1) := dk_46 (dk_at dksX6_dance_2 21 rfl rfl)
theorem dX6_dance_68 : decode cX6_dance 68 = .ok (.iastore, 1) := dk_79 (dk_at dksX6_dance_2 22 rfl rfl)
theorem dX6_dance_69 : decode cX6_dance 69 = .ok (.iinc 3 1, 3) := dk_132 3 1 (dk_at dksX6_dance_3 0 rfl rfl)
theorem dX6_dance_72 : decode cX6_dance 72 = .ok (.goto (-21), 3) := dk_167 255 235 (dk_at dksX6_dance_3 3 rfl rfl)
theorem dX6_dance_75 : decode cX6_dance 75 = .ok (.aload_n 0, 1) := dk_42 (dk_at dksX6_dance_3 6 rfl rfl)
theorem dX6_dance_76 : decode cX6_dance 76 = .ok (.invokevirtual 270, 3) := dk_182 1 14 (dk_at dksX6_dance_3 7 rfl rfl)
theorem dX6_dance_79 : decode cX6_dance 79 = .ok (.istore_n 3, 1) := dk_62 (dk_at dksX6_dance_3 10 rfl rfl)
theorem dX6_dance_80 : decode cX6_dance 80 = .ok (.iload_n 3, 1) := dk_29 (dk_at dksX6_dance_3 11 rfl rfl)
theorem dX6_dance_81 : decode cX6_dance 81 = .ok (.ifCond .eq 22, 3) := dk_153 0 22 (dk_at dksX6_dance_3 12 rfl rfl)
theorem dX6_dance_84 : decode cX6_dance 84 = .ok (.aload_n 0, 1) := dk_42 (dk_at dksX6_dance_3 15 rfl rfl)
theorem dX6_dance_85 : decode cX6_dance 85 = .ok (.getfield 123, 3) := dk_180 0 123 (dk_at dksX6_dance_3 16 rfl rfl)
theorem dX6_dance_88 : decode cX6_dance 88 = .ok (.aload_n 0, 1) := dk_42 (dk_at dksX6_dance_3 19 rfl rfl)
theorem dX6_dance_89 : decode cX6_dance 89 = .ok (.getfield 126, 3) := dk_180 0 126 (dk_at dksX6_dance_3 20 rfl rfl)
theorem dX6_dance_92 : decode cX6_dance 92 = .ok (.if_icmp .ge 11, 3) := dk_162 0 11 (dk_at dksX6_dance_4 0 rfl rfl)
theorem dX6_dance_95 : decode cX6_dance 95 = .ok (.aload_n 0, 1) := dk_42 (dk_at dksX6_dance_4 3 rfl rfl)
theorem dX6_dance_96 : decode cX6_dance 96 = .ok (.invokevirtual 270, 3) := dk_182 1 14 (dk_at dksX6_dance_4 4 rfl rfl)
theorem dX6_dance_99 : decode cX6_dance 99 = .ok (.istore_n 3, 1) := dk_62 (dk_at dksX6_dance_4 7 rfl rfl)
theorem dX6_dance_100 : decode cX6_dance 100 = .ok (.goto (-20), 3) := dk_167 255 236 (dk_at dksX6_dance_4 8 rfl rfl)
theorem dX6_dance_103 : decode cX6_dance 103 = .ok (.aload_n 0, 1) := dk_42 (dk_at dksX6_dance_4 11 rfl rfl)
theorem dX6_dance_104 : decode cX6_dance 104 = .ok (.iconst 0, 1) := dk_3 (dk_at dksX6_dance_4 12 rfl rfl)
theorem dX6_dance_105 : decode cX6_dance 105 = .ok (.putfield 116, 3) := dk_181 0 116 (dk_at dksX6_dance_4 13 rfl rfl)
theorem dX6_dance_108 : decode cX6_dance 108 = .ok (.iload_n 3, 1) := dk_29 (dk_at dksX6_dance_4 16 rfl rfl)
theorem dX6_dance_109 : decode cX6_dance 109 = .ok (.ifCond .ne 8, 3) := dk_154 0 8 (dk_at dksX6_dance_4 17 rfl rfl)
theorem dX6_dance_112 : decode cX6_dance 112 = .ok (.aload_n 0, 1) := dk_42 (dk_at dksX6_dance_4 20 rfl rfl)
theorem dX6_dance_113 : decode cX6_dance 113 = .ok (.getfield 133, 3) := dk_180 0 133 (dk_at dksX6_dance_4 21 rfl rfl)
theorem dX6_dance_116 : decode cX6_dance 116 = .ok (.ireturn, 1) := dk_172 (dk_at dksX6_dance_5 0 rfl rfl)
theorem dX6_dance_117 : decode cX6_dance 117 = .ok (.iload_n 2, 1) := dk_28 (dk_at dksX6_dance_5 1 rfl rfl)
theorem dX6_dance_118 : decode cX6_dance 118 = .ok (.ifCond .ne 10, 3) := dk_154 0 10 (dk_at dksX6_dance_5 2 rfl rfl)
theorem dX6_dance_121 : decode cX6_dance 121 = .ok (.aload_n 0, 1) := dk_42 (dk_at dksX6_dance_5 5 rfl rfl)
theorem dX6_dance_122 : decode cX6_dance 122 = .ok (.getfield 267, 3) := dk_180 1 11 (dk_at dksX6_dance_5 6 rfl rfl)
theorem dX6_dance_125 : decode cX6_dance 125 = .ok (.goto 26, 3) := dk_167 0 26 (dk_at dksX6_dance_5 9 rfl rfl)
theorem dX6_dance_128 : decode cX6_dance 128 = .ok (.iload_n 2, 1) := dk_28 (dk_at dksX6_dance_5 12 rfl rfl)
theorem dX6_dance_129 : decode cX6_dance 129 = .ok (.iconst 1, 1) := dk_4 (dk_at dksX6_dance_5 13 rfl rfl)
theorem dX6_dance_130 : decode cX6_dance 130 = .ok (.if_icmp .ne 17, 3) := dk_160 0 17 (dk_at dksX6_dance_5 14 rfl rfl)
theorem dX6_dance_133 : decode cX6_dance 133 = .ok (.aload_n 0, 1) := dk_42 (dk_at dksX6_dance_5 17 rfl rfl)
theorem dX6_dance_134 : decode cX6_dance 134 = .ok (.getfield 227, 3) := dk_180 0 227 (dk_at dksX6_dance_5 18 rfl rfl)
theorem dX6_dance_137 : decode cX6_dance 137 = .ok (.aload_n 0, 1) := dk_42 (dk_at dksX6_dance_5 21 rfl rfl)
theorem dX6_dance_138 : decode cX6_dance 138 = .ok (.getfield 261, 3) := dk_180 1 5 (dk_at dksX6_dance_6 0 rfl rfl)
theorem dX6_dance_141 : decode cX6_dance 141 = .ok (.iconst (-1), 1) := dk_2 (dk_at dksX6_dance_6 3 rfl rfl)
theorem dX6_dance_142 : decode cX6_dance 142 = .ok (.ixor, 1) := dk_130 (dk_at dksX6_dance_6 4 rfl rfl)
theorem dX6_dance_143 : decode cX6_dance 143 = .ok (.iand, 1) := dk_126 (dk_at dksX6_dance_6 5 rfl rfl)
theorem dX6_dance_144 : decode cX6_dance 144 = .ok (.goto 7, 3) := dk_167 0 7 (dk_at dksX6_dance_6 6 rfl rfl)
theorem dX6_dance_147 : decode cX6_dance 147 = .ok (.aload_n 0, 1) := dk_42 (dk_at dksX6_dance_6 9 rfl rfl)
theorem dX6_dance_148 : decode cX6_dance 148 = .ok (.getfield 264, 3) := dk_180 1 8 (dk_at dksX6_dance_6 10 rfl rfl)
theorem dX6_dance_151 : decode cX6_dance 151 = .ok (.ireturn, 1) := dk_172 (dk_at dksX6_dance_6 13 rfl rfl)
abbrev cX6_readsDance : ByteArray := prog_20_method_50_code
def yX6_readsDance : MethodName := ⟨RX6, "readsDance", "()Z"⟩
def dkwX6_readsDance_10 : List UInt8 := [42, 180, 0, 19, 27, 46, 79, 42, 42, 180, 1, 11, 4, 96, 181, 1, 11, 4, 172]
abbrev dktX6_readsDance_10 : List UInt8 := dkwX6_readsDance_10 ++ []
def dkwX6_readsDance_9 : List UInt8 := [180, 0, 74, 28, 46, 42, 180, 0, 19, 27, 46, 100, 184, 0, 112, 96, 181, 1, 8, 42, 180, 0, 74, 28]
abbrev dktX6_readsDance_9 : List UInt8 := dkwX6_readsDance_9 ++ dktX6_readsDance_10
def dkwX6_readsDance_8 : List UInt8 := [96, 181, 0, 123, 42, 42, 180, 1, 5, 4, 27, 120, 128, 181, 1, 5, 42, 42, 180, 1, 8, 42]
abbrev dktX6_readsDance_8 : List UInt8 := dkwX6_readsDance_8 ++ dktX6_readsDance_9
def dkwX6_readsDance_7 : List UInt8 := [28, 184, 0, 100, 153, 0, 14, 42, 16, 9, 42, 180, 0, 123, 182, 0, 136, 172, 42, 42, 180, 0, 123, 4]
abbrev dktX6_readsDance_7 : List UInt8 := dkwX6_readsDance_7 ++ dktX6_readsDance_8
def dkwX6_readsDance_6 : List UInt8 := [180, 0, 123, 182, 0, 136, 172, 42, 180, 1, 5, 28, 184, 0, 100, 154, 0, 16, 42, 180, 0, 22, 27, 46]
abbrev dktX6_readsDance_6 : List UInt8 := dkwX6_readsDance_6 ++ dktX6_readsDance_7
def dkwX6_readsDance_5 : List UInt8 := [16, 6, 42, 180, 0, 123, 182, 0, 136, 172, 42, 28, 182, 0, 233, 154, 0, 14, 42, 16, 7, 42]
abbrev dktX6_readsDance_5 : List UInt8 := dkwX6_readsDance_5 ++ dktX6_readsDance_6
def dkwX6_readsDance_4 : List UInt8 := [42, 4, 42, 180, 0, 123, 182, 0, 136, 172, 42, 182, 0, 129, 16, 97, 100, 61, 28, 27, 160, 0, 14, 42]
abbrev dktX6_readsDance_4 : List UInt8 := dkwX6_readsDance_4 ++ dktX6_readsDance_5
def dkwX6_readsDance_3 : List UInt8 := [180, 0, 123, 182, 0, 136, 172, 42, 42, 180, 0, 123, 4, 96, 181, 0, 123, 42, 182, 0, 230, 154, 0, 13]
abbrev dktX6_readsDance_3 : List UInt8 := dkwX6_readsDance_3 ++ dktX6_readsDance_4
def dkwX6_readsDance_2 : List UInt8 := [27, 184, 0, 100, 153, 0, 14, 42, 180, 1, 5, 27, 184, 0, 100, 153, 0, 14, 42, 16, 8, 42]
abbrev dktX6_readsDance_2 : List UInt8 := dkwX6_readsDance_2 ++ dktX6_readsDance_3
def dkwX6_readsDance_1 : List UInt8 := [60, 42, 27, 182, 0, 233, 154, 0, 14, 42, 16, 7, 42, 180, 0, 123, 182, 0, 136, 172, 42, 180, 0, 227]
abbrev dktX6_readsDance_1 : List UInt8 := dkwX6_readsDance_1 ++ dktX6_readsDance_2
def dkwX6_readsDance_0 : List UInt8 := [42, 182, 0, 230, 154, 0, 13, 42, 4, 42, 180, 0, 123, 182, 0, 136, 172, 42, 182, 0, 129, 16, 97, 100]
abbrev dktX6_readsDance_0 : List UInt8 := dkwX6_readsDance_0 ++ dktX6_readsDance_1
theorem dksX6_readsDance_0 : cX6_readsDance.data.toList.drop 0 = dktX6_readsDance_0 := by decide +kernel
theorem dksX6_readsDance_1 : cX6_readsDance.data.toList.drop 24 = dktX6_readsDance_1 := dk_seg dksX6_readsDance_0 24 rfl rfl
theorem dksX6_readsDance_2 : cX6_readsDance.data.toList.drop 48 = dktX6_readsDance_2 := dk_seg dksX6_readsDance_1 24 rfl rfl
theorem dksX6_readsDance_3 : cX6_readsDance.data.toList.drop 70 = dktX6_readsDance_3 := dk_seg dksX6_readsDance_2 22 rfl rfl
theorem dksX6_readsDance_4 : cX6_readsDance.data.toList.drop 94 = dktX6_readsDance_4 := dk_seg dksX6_readsDance_3 24 rfl rfl
theorem dksX6_readsDance_5 : cX6_readsDance.data.toList.drop 118 = dktX6_readsDance_5 := dk_seg dksX6_readsDance_4 24 rfl rfl
theorem dksX6_readsDance_6 : cX6_readsDance.data.toList.drop 140 = dktX6_readsDance_6 := dk_seg dksX6_readsDance_5 22 rfl rfl
theorem dksX6_readsDance_7 : cX6_readsDance.data.toList.drop 164 = dktX6_readsDance_7 := dk_seg dksX6_readsDance_6 24 rfl rfl
theorem dksX6_readsDance_8 : cX6_readsDance.data.toList.drop 188 = dktX6_readsDance_8 := dk_seg dksX6_readsDance_7 24 rfl rfl
theorem dksX6_readsDance_9 : cX6_readsDance.data.toList.drop 210 = dktX6_readsDance_9 := dk_seg dksX6_readsDance_8 22 rfl rfl
theorem dksX6_readsDance_10 : cX6_readsDance.data.toList.drop 234 = dktX6_readsDance_10 := dk_seg dksX6_readsDance_9 24 rfl rfl
theorem dX6_readsDance_0 : decode cX6_readsDance 0 = .ok (.aload_n 0, 1) := dk_42 (dk_at dksX6_readsDance_0 0 rfl rfl)
theorem dX6_readsDance_1 : decode cX6_readsDance 1 = .ok (.invokevirtual 230, 3) := dk_182 0 230 (dk_at dksX6_readsDance_0 1 rfl rfl)
theorem dX6_readsDance_4 : decode cX6_readsDance 4 = .ok (.ifCond .ne 13, 3) := dk_154 0 13 (dk_at dksX6_readsDance_0 4 rfl rfl)
theorem dX6_readsDance_7 : decode cX6_readsDance 7 = .ok (.aload_n 0, 1) := dk_42 (dk_at dksX6_readsDance_0 7 rfl rfl)
theorem dX6_readsDance_8 : decode cX6_readsDance 8 = .ok (.iconst 1, 1) := dk_4 (dk_at dksX6_readsDance_0 8 rfl rfl)
theorem dX6_readsDance_9 : decode cX6_readsDance 9 = .ok (.aload_n 0, 1) := dk_42 (dk_at dksX6_readsDance_0 9 rfl rfl)
theorem dX6_readsDance_10 : decode cX6_readsDance 10 = .ok (.getfield 123, 3) := dk_180 0 123 (dk_at dksX6_readsDance_0 10 rfl rfl)
theorem dX6_readsDance_13 : decode cX6_readsDance 13 = .ok (.invokevirtual 136, 3) := dk_182 0 136 (dk_at dksX6_readsDance_0 13 rfl rfl)
theorem dX6_readsDance_16 : decode cX6_readsDance 16 = .ok (.ireturn, 1) := dk_172 (dk_at dksX6_readsDance_0 16 rfl rfl)
theorem dX6_readsDance_17 : decode cX6_readsDance 17 = .ok (.aload_n 0, 1) := dk_42 (dk_at dksX6_readsDance_0 17 rfl rfl)
theorem dX6_readsDance_18 : decode cX6_readsDance 18 = .ok (.invokevirtual 129, 3) := dk_182 0 129 (dk_at dksX6_readsDance_0 18 rfl rfl)
theorem dX6_readsDance_21 : decode cX6_readsDance 21 = .ok (.bipush 97, 2) := dk_16 97 (dk_at dksX6_readsDance_0 21 rfl rfl)
theorem dX6_readsDance_23 : decode cX6_readsDance 23 = .ok (.isub, 1) := dk_100 (dk_at dksX6_readsDance_0 23 rfl rfl)
theorem dX6_readsDance_24 : decode cX6_readsDance 24 = .ok (.istore_n 1, 1) := dk_60 (dk_at dksX6_readsDance_1 0 rfl rfl)
theorem dX6_readsDance_25 : decode cX6_readsDance 25 = .ok (.aload_n 0, 1) := dk_42 (dk_at dksX6_readsDance_1 1 rfl rfl)
theorem dX6_readsDance_26 : decode cX6_readsDance 26 = .ok (.iload_n 1, 1) := dk_27 (dk_at dksX6_readsDance_1 2 rfl rfl)
theorem dX6_readsDance_27 : decode cX6_readsDance 27 = .ok (.invokevirtual 233, 3) := dk_182 0 233 (dk_at dksX6_readsDance_1 3 rfl rfl)
theorem dX6_readsDance_30 : decode cX6_readsDance 30 = .ok (.ifCond .ne 14, 3) := dk_154 0 14 (dk_at dksX6_readsDance_1 6 rfl rfl)
theorem dX6_readsDance_33 : decode cX6_readsDance 33 = .ok (.aload_n 0, 1) := dk_42 (dk_at dksX6_readsDance_1 9 rfl rfl)
theorem dX6_readsDance_34 : decode cX6_readsDance 34 = .ok (.bipush 7, 2) := dk_16 7 (dk_at dksX6_readsDance_1 10 rfl rfl)
theorem dX6_readsDance_36 : decode cX6_readsDance 36 = .ok (.aload_n 0, 1) := dk_42 (dk_at dksX6_readsDance_1 12 rfl rfl)
theorem dX6_readsDance_37 : decode cX6_readsDance 37 = .ok (.getfield 123, 3) := dk_180 0 123 (dk_at dksX6_readsDance_1 13 rfl rfl)
theorem dX6_readsDance_40 : decode cX6_readsDance 40 = .ok (.invokevirtual 136, 3) := dk_182 0 136 (dk_at dksX6_readsDance_1 16 rfl rfl)
theorem dX6_readsDance_43 : decode cX6_readsDance 43 = .ok (.ireturn, 1) := dk_172 (dk_at dksX6_readsDance_1 19 rfl rfl)
theorem dX6_readsDance_44 : decode cX6_readsDance 44 = .ok (.aload_n 0, 1) := dk_42 (dk_at dksX6_readsDance_1 20 rfl rfl)
theorem dX6_readsDance_45 : decode cX6_readsDance 45 = .ok (.getfield 227, 3) := dk_180 0 227 (dk_at dksX6_readsDance_1 21 rfl rfl)
theorem dX6_readsDance_48 : decode cX6_readsDance 48 = .ok (.iload_n 1, 1) := dk_27 (dk_at dksX6_readsDance_2 0 rfl rfl)
theorem dX6_readsDance_49 : decode cX6_readsDance 49 = .ok (.invokestatic 100, 3) := dk_184 0 100 (dk_at dksX6_readsDance_2 1 rfl rfl)
theorem dX6_readsDance_52 : decode cX6_readsDance 52 = .ok (.ifCond .eq 14, 3) := dk_153 0 14 (dk_at dksX6_readsDance_2 4 rfl rfl)
theorem dX6_readsDance_55 : decode cX6_readsDance 55 = .ok (.aload_n 0, 1) := dk_42 (dk_at dksX6_readsDance_2 7 rfl rfl)
theorem dX6_readsDance_56 : decode cX6_readsDance 56 = .ok (.getfield 261, 3) := dk_180 1 5 (dk_at dksX6_readsDance_2 8 rfl rfl)
theorem dX6_readsDance_59 : decode cX6_readsDance 59 = .ok (.iload_n 1, 1) := dk_27 (dk_at dksX6_readsDance_2 11 rfl rfl)
theorem dX6_readsDance_60 : decode cX6_readsDance 60 = .ok (.invokestatic 100, 3) := dk_184 0 100 (dk_at dksX6_readsDance_2 12 rfl rfl)
theorem dX6_readsDance_63 : decode cX6_readsDance 63 = .ok (.ifCond .eq 14, 3) := dk_153 0 14 (dk_at dksX6_readsDance_2 15 rfl rfl)
theorem dX6_readsDance_66 : decode cX6_readsDance 66 = .ok (.aload_n 0, 1) := dk_42 (dk_at dksX6_readsDance_2 18 rfl rfl)
theorem dX6_readsDance_67 : decode cX6_readsDance 67 = .ok (.bipush 8, 2) := dk_16 8 (dk_at dksX6_readsDance_2 19 rfl rfl)
theorem dX6_readsDance_69 : decode cX6_readsDance 69 = .ok (.aload_n 0, 1) := dk_42 (dk_at dksX6_readsDance_2 21 rfl rfl)
theorem dX6_readsDance_70 : decode cX6_readsDance 70 = .ok (.getfield 123, 3) := dk_180 0 123 (dk_at dksX6_readsDance_3 0 rfl rfl)
theorem dX6_readsDance_73 : decode cX6_readsDance 73 = .ok (.invokevirtual 136, 3) := dk_182 0 136 (dk_at dksX6_readsDance_3 3 rfl rfl)
theorem dX6_readsDance_76 : decode cX6_readsDance 76 = .ok (.ireturn, 1) := dk_172 (dk_at dksX6_readsDance_3 6 rfl rfl)
theorem dX6_readsDance_77 : decode cX6_readsDance 77 = .ok (.aload_n 0, 1) := dk_42 (dk_at dksX6_readsDance_3 7 rfl rfl)
theorem dX6_readsDance_78 : decode cX6_readsDance 78 = .ok (.aload_n 0, 1) := dk_42 (dk_at dksX6_readsDance_3 8 rfl rfl)
theorem dX6_readsDance_79 : decode cX6_readsDance 79 = .ok (.getfield 123, 3) := dk_180 0 123 (dk_at dksX6_readsDance_3 9 rfl rfl)
theorem dX6_readsDance_82 : decode cX6_readsDance 82 = .ok (.iconst 1, 1) := dk_4 (dk_at dksX6_readsDance_3 12 rfl rfl)
theorem dX6_readsDance_83 : decode cX6_readsDance 83 = .ok (.iadd, 1) := dk_96 (dk_at dksX6_readsDance_3 13 rfl rfl)
theorem dX6_readsDance_84 : decode cX6_readsDance 84 = .ok (.putfield 123, 3) := dk_181 0 123 (dk_at dksX6_readsDance_3 14 rfl rfl)
theorem dX6_readsDance_87 : decode cX6_readsDance 87 = .ok (.aload_n 0, 1) := dk_42 (dk_at dksX6_readsDance_3 17 rfl rfl)
theorem dX6_readsDance_88 : decode cX6_readsDance 88 = .ok (.invokevirtual 230, 3) := dk_182 0 230 (dk_at dksX6_readsDance_3 18 rfl rfl)
theorem dX6_readsDance_91 : decode cX6_readsDance 91 = .ok (.ifCond .ne 13, 3) := dk_154 0 13 (dk_at dksX6_readsDance_3 21 rfl rfl)
theorem dX6_readsDance_94 : decode cX6_readsDance 94 = .ok (.aload_n 0, 1) := dk_42 (dk_at dksX6_readsDance_4 0 rfl rfl)
theorem dX6_readsDance_95 : decode cX6_readsDance 95 = .ok (.iconst 1, 1) := dk_4 (dk_at dksX6_readsDance_4 1 rfl rfl)
theorem dX6_readsDance_96 : decode cX6_readsDance 96 = .ok (.aload_n 0, 1) := dk_42 (dk_at dksX6_readsDance_4 2 rfl rfl)
theorem dX6_readsDance_97 : decode cX6_readsDance 97 = .ok (.getfield 123, 3) := dk_180 0 123 (dk_at dksX6_readsDance_4 3 rfl rfl)
theorem dX6_readsDance_100 : decode cX6_readsDance 100 = .ok (.invokevirtual 136, 3) := dk_182 0 136 (dk_at dksX6_readsDance_4 6 rfl rfl)
theorem dX6_readsDance_103 : decode cX6_readsDance 103 = .ok (.ireturn, 1) := dk_172 (dk_at dksX6_readsDance_4 9 rfl rfl)
theorem dX6_readsDance_104 : decode cX6_readsDance 104 = .ok (.aload_n 0, 1) := dk_42 (dk_at dksX6_readsDance_4 10 rfl rfl)
theorem dX6_readsDance_105 : decode cX6_readsDance 105 = .ok (.invokevirtual 129, 3) := dk_182 0 129 (dk_at dksX6_readsDance_4 11 rfl rfl)
theorem dX6_readsDance_108 : decode cX6_readsDance 108 = .ok (.bipush 97, 2) := dk_16 97 (dk_at dksX6_readsDance_4 14 rfl rfl)
theorem dX6_readsDance_110 : decode cX6_readsDance 110 = .ok (.isub, 1) := dk_100 (dk_at dksX6_readsDance_4 16 rfl rfl)
theorem dX6_readsDance_111 : decode cX6_readsDance 111 = .ok (.istore_n 2, 1) := dk_61 (dk_at dksX6_readsDance_4 17 rfl rfl)
theorem dX6_readsDance_112 : decode cX6_readsDance 112 = .ok (.iload_n 2, 1) := dk_28 (dk_at dksX6_readsDance_4 18 rfl rfl)
theorem dX6_readsDance_113 : decode cX6_readsDance 113 = .ok (.iload_n 1, 1) := dk_27 (dk_at dksX6_readsDance_4 19 rfl rfl)
theorem dX6_readsDance_114 : decode cX6_readsDance 114 = .ok (.if_icmp .ne 14, 3) := dk_160 0 14 (dk_at dksX6_readsDance_4 20 rfl rfl)
theorem dX6_readsDance_117 : decode cX6_readsDance 117 = .ok (.aload_n 0, 1) := dk_42 (dk_at dksX6_readsDance_4 23 rfl rfl)
theorem dX6_readsDance_118 : decode cX6_readsDance 118 = .ok (.bipush 6, 2) := dk_16 6 (dk_at dksX6_readsDance_5 0 rfl rfl)
theorem dX6_readsDance_120 : decode cX6_readsDance 120 = .ok (.aload_n 0, 1) := dk_42 (dk_at dksX6_readsDance_5 2 rfl rfl)
theorem dX6_readsDance_121 : decode cX6_readsDance 121 = .ok (.getfield 123, 3) := dk_180 0 123 (dk_at dksX6_readsDance_5 3 rfl rfl)
theorem dX6_readsDance_124 : decode cX6_readsDance 124 = .ok (.invokevirtual 136, 3) := dk_182 0 136 (dk_at dksX6_readsDance_5 6 rfl rfl)
theorem dX6_readsDance_127 : decode cX6_readsDance 127 = .ok (.ireturn, 1) := dk_172 (dk_at dksX6_readsDance_5 9 rfl rfl)
theorem dX6_readsDance_128 : decode cX6_readsDance 128 = .ok (.aload_n 0, 1) := dk_42 (dk_at dksX6_readsDance_5 10 rfl rfl)
theorem dX6_readsDance_129 : decode cX6_readsDance 129 = .ok (.iload_n 2, 1) := dk_28 (dk_at dksX6_readsDance_5 11 rfl rfl)
theorem dX6_readsDance_130 : decode cX6_readsDance 130 = .ok (.invokevirtual 233, 3) := dk_182 0 233 (dk_at dksX6_readsDance_5 12 rfl rfl)
theorem dX6_readsDance_133 : decode cX6_readsDance 133 = .ok (.ifCond .ne 14, 3) := dk_154 0 14 (dk_at dksX6_readsDance_5 15 rfl rfl)
theorem dX6_readsDance_136 : decode cX6_readsDance 136 = .ok (.aload_n 0, 1) := dk_42 (dk_at dksX6_readsDance_5 18 rfl rfl)
theorem dX6_readsDance_137 : decode cX6_readsDance 137 = .ok (.bipush 7, 2) := dk_16 7 (dk_at dksX6_readsDance_5 19 rfl rfl)
theorem dX6_readsDance_139 : decode cX6_readsDance 139 = .ok (.aload_n 0, 1) := dk_42 (dk_at dksX6_readsDance_5 21 rfl rfl)
theorem dX6_readsDance_140 : decode cX6_readsDance 140 = .ok (.getfield 123, 3) := dk_180 0 123 (dk_at dksX6_readsDance_6 0 rfl rfl)
theorem dX6_readsDance_143 : decode cX6_readsDance 143 = .ok (.invokevirtual 136, 3) := dk_182 0 136 (dk_at dksX6_readsDance_6 3 rfl rfl)
theorem dX6_readsDance_146 : decode cX6_readsDance 146 = .ok (.ireturn, 1) := dk_172 (dk_at dksX6_readsDance_6 6 rfl rfl)
theorem dX6_readsDance_147 : decode cX6_readsDance 147 = .ok (.aload_n 0, 1) := dk_42 (dk_at dksX6_readsDance_6 7 rfl rfl)
theorem dX6_readsDance_148 : decode cX6_readsDance 148 = .ok (.getfield 261, 3) := dk_180 1 5 (dk_at dksX6_readsDance_6 8 rfl rfl)
theorem dX6_readsDance_151 : decode cX6_readsDance 151 = .ok (.iload_n 2, 1) := dk_28 (dk_at dksX6_readsDance_6 11 rfl rfl)
theorem dX6_readsDance_152 : decode cX6_readsDance 152 = .ok (.invokestatic 100, 3) := dk_184 0 100 (dk_at dksX6_readsDance_6 12 rfl rfl)
theorem dX6_readsDance_155 : decode cX6_readsDance 155 = .ok (.ifCond .ne 16, 3) := dk_154 0 16 (dk_at dksX6_readsDance_6 15 rfl rfl)
theorem dX6_readsDance_158 : decode cX6_readsDance 158 = .ok (.aload_n 0, 1) := dk_42 (dk_at dksX6_readsDance_6 18 rfl rfl)
theorem dX6_readsDance_159 : decode cX6_readsDance 159 = .ok (.getfield 22, 3) := dk_180 0 22 (dk_at dksX6_readsDance_6 19 rfl rfl)
theorem dX6_readsDance_162 : decode cX6_readsDance 162 = .ok (.iload_n 1, 1) := dk_27 (dk_at dksX6_readsDance_6 22 rfl rfl)
theorem dX6_readsDance_163 : decode cX6_readsDance 163 = .ok (.iaload, 1) := dk_46 (dk_at dksX6_readsDance_6 23 rfl rfl)
theorem dX6_readsDance_164 : decode cX6_readsDance 164 = .ok (.iload_n 2, 1) := dk_28 (dk_at dksX6_readsDance_7 0 rfl rfl)
theorem dX6_readsDance_165 : decode cX6_readsDance 165 = .ok (.invokestatic 100, 3) := dk_184 0 100 (dk_at dksX6_readsDance_7 1 rfl rfl)
theorem dX6_readsDance_168 : decode cX6_readsDance 168 = .ok (.ifCond .eq 14, 3) := dk_153 0 14 (dk_at dksX6_readsDance_7 4 rfl rfl)
theorem dX6_readsDance_171 : decode cX6_readsDance 171 = .ok (.aload_n 0, 1) := dk_42 (dk_at dksX6_readsDance_7 7 rfl rfl)
theorem dX6_readsDance_172 : decode cX6_readsDance 172 = .ok (.bipush 9, 2) := dk_16 9 (dk_at dksX6_readsDance_7 8 rfl rfl)
theorem dX6_readsDance_174 : decode cX6_readsDance 174 = .ok (.aload_n 0, 1) := dk_42 (dk_at dksX6_readsDance_7 10 rfl rfl)
theorem dX6_readsDance_175 : decode cX6_readsDance 175 = .ok (.getfield 123, 3) := dk_180 0 123 (dk_at dksX6_readsDance_7 11 rfl rfl)
theorem dX6_readsDance_178 : decode cX6_readsDance 178 = .ok (.invokevirtual 136, 3) := dk_182 0 136 (dk_at dksX6_readsDance_7 14 rfl rfl)
theorem dX6_readsDance_181 : decode cX6_readsDance 181 = .ok (.ireturn, 1) := dk_172 (dk_at dksX6_readsDance_7 17 rfl rfl)
theorem dX6_readsDance_182 : decode cX6_readsDance 182 = .ok (.aload_n 0, 1) := dk_42 (dk_at dksX6_readsDance_7 18 rfl rfl)
theorem dX6_readsDance_183 : decode cX6_readsDance 183 = .ok (.aload_n 0, 1) := dk_42 (dk_at dksX6_readsDance_7 19 rfl rfl)
theorem dX6_readsDance_184 : decode cX6_readsDance 184 = .ok (.getfield 123, 3) := dk_180 0 123 (dk_at dksX6_readsDance_7 20 rfl rfl)
theorem dX6_readsDance_187 : decode cX6_readsDance 187 = .ok (.iconst 1, 1) := dk_4 (dk_at dksX6_readsDance_7 23 rfl rfl)
theorem dX6_readsDance_188 : decode cX6_readsDance 188 = .ok (.iadd, 1) := dk_96 (dk_at dksX6_readsDance_8 0 rfl rfl)
theorem dX6_readsDance_189 : decode cX6_readsDance 189 = .ok (.putfield 123, 3) := dk_181 0 123 (dk_at dksX6_readsDance_8 1 rfl rfl)
theorem dX6_readsDance_192 : decode cX6_readsDance 192 = .ok (.aload_n 0, 1) := dk_42 (dk_at dksX6_readsDance_8 4 rfl rfl)
theorem dX6_readsDance_193 : decode cX6_readsDance 193 = .ok (.aload_n 0, 1) := dk_42 (dk_at dksX6_readsDance_8 5 rfl rfl)
theorem dX6_readsDance_194 : decode cX6_readsDance 194 = .ok (.getfield 261, 3) := dk_180 1 5 (dk_at dksX6_readsDance_8 6 rfl rfl)
theorem dX6_readsDance_197 : decode cX6_readsDance 197 = .ok (.iconst 1, 1) := dk_4 (dk_at dksX6_readsDance_8 9 rfl rfl)
theorem dX6_readsDance_198 : decode cX6_readsDance 198 = .ok (.iload_n 1, 1) := dk_27 (dk_at dksX6_readsDance_8 10 rfl rfl)
theorem dX6_readsDance_199 : decode cX6_readsDance 199 = .ok (.ishl, 1) := dk_120 (dk_at dksX6_readsDance_8 11 rfl rfl)
theorem dX6_readsDance_200 : decode cX6_readsDance 200 = .ok (.ior, 1) := dk_128 (dk_at dksX6_readsDance_8 12 rfl rfl)
theorem dX6_readsDance_201 : decode cX6_readsDance 201 = .ok (.putfield 261, 3) := dk_181 1 5 (dk_at dksX6_readsDance_8 13 rfl rfl)
theorem dX6_readsDance_204 : decode cX6_readsDance 204 = .ok (.aload_n 0, 1) := dk_42 (dk_at dksX6_readsDance_8 16 rfl rfl)
theorem dX6_readsDance_205 : decode cX6_readsDance 205 = .ok (.aload_n 0, 1) := dk_42 (dk_at dksX6_readsDance_8 17 rfl rfl)
theorem dX6_readsDance_206 : decode cX6_readsDance 206 = .ok (.getfield 264, 3) := dk_180 1 8 (dk_at dksX6_readsDance_8 18 rfl rfl)
theorem dX6_readsDance_209 : decode cX6_readsDance 209 = .ok (.aload_n 0, 1) := dk_42 (dk_at dksX6_readsDance_8 21 rfl rfl)
theorem dX6_readsDance_210 : decode cX6_readsDance 210 = .ok (.getfield 74, 3) := dk_180 0 74 (dk_at dksX6_readsDance_9 0 rfl rfl)
theorem dX6_readsDance_213 : decode cX6_readsDance 213 = .ok (.iload_n 2, 1) := dk_28 (dk_at dksX6_readsDance_9 3 rfl rfl)
theorem dX6_readsDance_214 : decode cX6_readsDance 214 = .ok (.iaload, 1) := dk_46 (dk_at dksX6_readsDance_9 4 rfl rfl)
theorem dX6_readsDance_215 : decode cX6_readsDance 215 = .ok (.aload_n 0, 1) := dk_42 (dk_at dksX6_readsDance_9 5 rfl rfl)
theorem dX6_readsDance_216 : decode cX6_readsDance 216 = .ok (.getfield 19, 3) := dk_180 0 19 (dk_at dksX6_readsDance_9 6 rfl rfl)
theorem dX6_readsDance_219 : decode cX6_readsDance 219 = .ok (.iload_n 1, 1) := dk_27 (dk_at dksX6_readsDance_9 9 rfl rfl)
theorem dX6_readsDance_220 : decode cX6_readsDance 220 = .ok (.iaload, 1) := dk_46 (dk_at dksX6_readsDance_9 10 rfl rfl)
theorem dX6_readsDance_221 : decode cX6_readsDance 221 = .ok (.isub, 1) := dk_100 (dk_at dksX6_readsDance_9 11 rfl rfl)
theorem dX6_readsDance_222 : decode cX6_readsDance 222 = .ok (.invokestatic 112, 3) := dk_184 0 112 (dk_at dksX6_readsDance_9 12 rfl rfl)
theorem dX6_readsDance_225 : decode cX6_readsDance 225 = .ok (.iadd, 1) := dk_96 (dk_at dksX6_readsDance_9 15 rfl rfl)
theorem dX6_readsDance_226 : decode cX6_readsDance 226 = .ok (.putfield 264, 3) := dk_181 1 8 (dk_at dksX6_readsDance_9 16 rfl rfl)
theorem dX6_readsDance_229 : decode cX6_readsDance 229 = .ok (.aload_n 0, 1) := dk_42 (dk_at dksX6_readsDance_9 19 rfl rfl)
theorem dX6_readsDance_230 : decode cX6_readsDance 230 = .ok (.getfield 74, 3) := dk_180 0 74 (dk_at dksX6_readsDance_9 20 rfl rfl)
theorem dX6_readsDance_233 : decode cX6_readsDance 233 = .ok (.iload_n 2, 1) := dk_28 (dk_at dksX6_readsDance_9 23 rfl rfl)
theorem dX6_readsDance_234 : decode cX6_readsDance 234 = .ok (.aload_n 0, 1) := dk_42 (dk_at dksX6_readsDance_10 0 rfl rfl)
theorem dX6_readsDance_235 : decode cX6_readsDance 235 = .ok (.getfield 19, 3) := dk_180 0 19 (dk_at dksX6_readsDance_10 1 rfl rfl)
theorem dX6_readsDance_238 : decode cX6_readsDance 238 = .ok (.iload_n 1, 1) := dk_27 (dk_at dksX6_readsDance_10 4 rfl rfl)
theorem dX6_readsDance_239 : decode cX6_readsDance 239 = .ok (.iaload, 1) := dk_46 (dk_at dksX6_readsDance_10 5 rfl rfl)
theorem dX6_readsDance_240 : decode cX6_readsDance 240 = .ok (.iastore, 1) := dk_79 (dk_at dksX6_readsDance_10 6 rfl rfl)
theorem dX6_readsDance_241 : decode cX6_readsDance 241 = .ok (.aload_n 0, 1) := dk_42 (dk_at dksX6_readsDance_10 7 rfl rfl)
theorem dX6_readsDance_242 : decode cX6_readsDance 242 = .ok (.aload_n 0, 1) := dk_42 (dk_at dksX6_readsDance_10 8 rfl rfl)
theorem dX6_readsDance_243 : decode cX6_readsDance 243 = .ok (.getfield 267, 3) := dk_180 1 11 (dk_at dksX6_readsDance_10 9 rfl rfl)
theorem dX6_readsDance_246 : decode cX6_readsDance 246 = .ok (.iconst 1, 1) := dk_4 (dk_at dksX6_readsDance_10 12 rfl rfl)
theorem dX6_readsDance_247 : decode cX6_readsDance 247 = .ok (.iadd, 1) := dk_96 (dk_at dksX6_readsDance_10 13 rfl rfl)
theorem dX6_readsDance_248 : decode cX6_readsDance 248 = .ok (.putfield 267, 3) := dk_181 1 11 (dk_at dksX6_readsDance_10 14 rfl rfl)
theorem dX6_readsDance_251 : decode cX6_readsDance 251 = .ok (.iconst 1, 1) := dk_4 (dk_at dksX6_readsDance_10 17 rfl rfl)
theorem dX6_readsDance_252 : decode cX6_readsDance 252 = .ok (.ireturn, 1) := dk_172 (dk_at dksX6_readsDance_10 18 rfl rfl)
abbrev cX6_size : ByteArray := prog_20_method_5_code
def yX6_size : MethodName := ⟨RX6, "size", "(I)I"⟩
def dkwX6_size_0 : List UInt8 := [26, 156, 0, 8, 26, 116, 167, 0, 4, 26, 172]
abbrev dktX6_size_0 : List UInt8 := dkwX6_size_0 ++ []
theorem dksX6_size_0 : cX6_size.data.toList.drop 0 = dktX6_size_0 := by decide +kernel
theorem dX6_size_0 : decode cX6_size 0 = .ok (.iload_n 0, 1) := dk_26 (dk_at dksX6_size_0 0 rfl rfl)
theorem dX6_size_1 : decode cX6_size 1 = .ok (.ifCond .ge 8, 3) := dk_156 0 8 (dk_at dksX6_size_0 1 rfl rfl)
theorem dX6_size_4 : decode cX6_size 4 = .ok (.iload_n 0, 1) := dk_26 (dk_at dksX6_size_0 4 rfl rfl)
theorem dX6_size_5 : decode cX6_size 5 = .ok (.ineg, 1) := dk_116 (dk_at dksX6_size_0 5 rfl rfl)
theorem dX6_size_6 : decode cX6_size 6 = .ok (.goto 4, 3) := dk_167 0 4 (dk_at dksX6_size_0 6 rfl rfl)
theorem dX6_size_9 : decode cX6_size 9 = .ok (.iload_n 0, 1) := dk_26 (dk_at dksX6_size_0 9 rfl rfl)
theorem dX6_size_10 : decode cX6_size 10 = .ok (.ireturn, 1) := dk_172 (dk_at dksX6_size_0 10 rfl rfl)
abbrev cX6_evenings : ByteArray := prog_20_method_58_code
def yX6_evenings : MethodName := ⟨RX6, "evenings", "(I)I"⟩
def dkwX6_evenings_0 : List UInt8 := [27, 4, 16, 100, 184, 0, 104, 154, 0, 5, 2, 172, 42, 27, 182, 1, 65, 42, 180, 1, 56, 172]
abbrev dktX6_evenings_0 : List UInt8 := dkwX6_evenings_0 ++ []
theorem dksX6_evenings_0 : cX6_evenings.data.toList.drop 0 = dktX6_evenings_0 := by decide +kernel
theorem dX6_evenings_0 : decode cX6_evenings 0 = .ok (.iload_n 1, 1) := dk_27 (dk_at dksX6_evenings_0 0 rfl rfl)
theorem dX6_evenings_1 : decode cX6_evenings 1 = .ok (.iconst 1, 1) := dk_4 (dk_at dksX6_evenings_0 1 rfl rfl)
theorem dX6_evenings_2 : decode cX6_evenings 2 = .ok (.bipush 100, 2) := dk_16 100 (dk_at dksX6_evenings_0 2 rfl rfl)
theorem dX6_evenings_4 : decode cX6_evenings 4 = .ok (.invokestatic 104, 3) := dk_184 0 104 (dk_at dksX6_evenings_0 4 rfl rfl)
theorem dX6_evenings_7 : decode cX6_evenings 7 = .ok (.ifCond .ne 5, 3) := dk_154 0 5 (dk_at dksX6_evenings_0 7 rfl rfl)
theorem dX6_evenings_10 : decode cX6_evenings 10 = .ok (.iconst (-1), 1) := dk_2 (dk_at dksX6_evenings_0 10 rfl rfl)
theorem dX6_evenings_11 : decode cX6_evenings 11 = .ok (.ireturn, 1) := dk_172 (dk_at dksX6_evenings_0 11 rfl rfl)
theorem dX6_evenings_12 : decode cX6_evenings 12 = .ok (.aload_n 0, 1) := dk_42 (dk_at dksX6_evenings_0 12 rfl rfl)
theorem dX6_evenings_13 : decode cX6_evenings 13 = .ok (.iload_n 1, 1) := dk_27 (dk_at dksX6_evenings_0 13 rfl rfl)
theorem dX6_evenings_14 : decode cX6_evenings 14 = .ok (.invokevirtual 321, 3) := dk_182 1 65 (dk_at dksX6_evenings_0 14 rfl rfl)
theorem dX6_evenings_17 : decode cX6_evenings 17 = .ok (.aload_n 0, 1) := dk_42 (dk_at dksX6_evenings_0 17 rfl rfl)
theorem dX6_evenings_18 : decode cX6_evenings 18 = .ok (.getfield 312, 3) := dk_180 1 56 (dk_at dksX6_evenings_0 18 rfl rfl)
theorem dX6_evenings_21 : decode cX6_evenings 21 = .ok (.ireturn, 1) := dk_172 (dk_at dksX6_evenings_0 21 rfl rfl)
abbrev cX6_eveningsGo : ByteArray := prog_20_method_57_code
def yX6_eveningsGo : MethodName := ⟨RX6, "eveningsGo", "(I)V"⟩
def dkwX6_eveningsGo_1 : List UInt8 := [46, 17, 39, 15, 162, 0, 13, 42, 182, 1, 62, 132, 2, 1, 167, 255, 230, 177]
abbrev dktX6_eveningsGo_1 : List UInt8 := dkwX6_eveningsGo_1 ++ []
def dkwX6_eveningsGo_0 : List UInt8 := [42, 3, 181, 1, 56, 42, 2, 181, 1, 44, 3, 61, 28, 27, 162, 0, 27, 42, 180, 0, 7, 17, 1, 16]
abbrev dktX6_eveningsGo_0 : List UInt8 := dkwX6_eveningsGo_0 ++ dktX6_eveningsGo_1
theorem dksX6_eveningsGo_0 : cX6_eveningsGo.data.toList.drop 0 = dktX6_eveningsGo_0 := by decide +kernel
theorem dksX6_eveningsGo_1 : cX6_eveningsGo.data.toList.drop 24 = dktX6_eveningsGo_1 := dk_seg dksX6_eveningsGo_0 24 rfl rfl
theorem dX6_eveningsGo_0 : decode cX6_eveningsGo 0 = .ok (.aload_n 0, 1) := dk_42 (dk_at dksX6_eveningsGo_0 0 rfl rfl)
theorem dX6_eveningsGo_1 : decode cX6_eveningsGo 1 = .ok (.iconst 0, 1) := dk_3 (dk_at dksX6_eveningsGo_0 1 rfl rfl)
theorem dX6_eveningsGo_2 : decode cX6_eveningsGo 2 = .ok (.putfield 312, 3) := dk_181 1 56 (dk_at dksX6_eveningsGo_0 2 rfl rfl)
theorem dX6_eveningsGo_5 : decode cX6_eveningsGo 5 = .ok (.aload_n 0, 1) := dk_42 (dk_at dksX6_eveningsGo_0 5 rfl rfl)
theorem dX6_eveningsGo_6 : decode cX6_eveningsGo 6 = .ok (.iconst (-1), 1) := dk_2 (dk_at dksX6_eveningsGo_0 6 rfl rfl)
theorem dX6_eveningsGo_7 : decode cX6_eveningsGo 7 = .ok (.putfield 300, 3) := dk_181 1 44 (dk_at dksX6_eveningsGo_0 7 rfl rfl)
theorem dX6_eveningsGo_10 : decode cX6_eveningsGo 10 = .ok (.iconst 0, 1) := dk_3 (dk_at dksX6_eveningsGo_0 10 rfl rfl)
theorem dX6_eveningsGo_11 : decode cX6_eveningsGo 11 = .ok (.istore_n 2, 1) := dk_61 (dk_at dksX6_eveningsGo_0 11 rfl rfl)
theorem dX6_eveningsGo_12 : decode cX6_eveningsGo 12 = .ok (.iload_n 2, 1) := dk_28 (dk_at dksX6_eveningsGo_0 12 rfl rfl)
theorem dX6_eveningsGo_13 : decode cX6_eveningsGo 13 = .ok (.iload_n 1, 1) := dk_27 (dk_at dksX6_eveningsGo_0 13 rfl rfl)
theorem dX6_eveningsGo_14 : decode cX6_eveningsGo 14 = .ok (.if_icmp .ge 27, 3) := dk_162 0 27 (dk_at dksX6_eveningsGo_0 14 rfl rfl)
theorem dX6_eveningsGo_17 : decode cX6_eveningsGo 17 = .ok (.aload_n 0, 1) := dk_42 (dk_at dksX6_eveningsGo_0 17 rfl rfl)
theorem dX6_eveningsGo_18 : decode cX6_eveningsGo 18 = .ok (.getfield 7, 3) := dk_180 0 7 (dk_at dksX6_eveningsGo_0 18 rfl rfl)
theorem dX6_eveningsGo_21 : decode cX6_eveningsGo 21 = .ok (.sipush 272, 3) := dk_17 1 16 (dk_at dksX6_eveningsGo_0 21 rfl rfl)
theorem dX6_eveningsGo_24 : decode cX6_eveningsGo 24 = .ok (.iaload, 1) := dk_46 (dk_at dksX6_eveningsGo_1 0 rfl rfl)
theorem dX6_eveningsGo_25 : decode cX6_eveningsGo 25 = .ok (.sipush 9999, 3) := dk_17 39 15 (dk_at dksX6_eveningsGo_1 1 rfl rfl)
theorem dX6_eveningsGo_28 : decode cX6_eveningsGo 28 = .ok (.if_icmp .ge 13, 3) := dk_162 0 13 (dk_at dksX6_eveningsGo_1 4 rfl rfl)
theorem dX6_eveningsGo_31 : decode cX6_eveningsGo 31 = .ok (.aload_n 0, 1) := dk_42 (dk_at dksX6_eveningsGo_1 7 rfl rfl)
theorem dX6_eveningsGo_32 : decode cX6_eveningsGo 32 = .ok (.invokevirtual 318, 3) := dk_182 1 62 (dk_at dksX6_eveningsGo_1 8 rfl rfl)
theorem dX6_eveningsGo_35 : decode cX6_eveningsGo 35 = .ok (.iinc 2 1, 3) := dk_132 2 1 (dk_at dksX6_eveningsGo_1 11 rfl rfl)
theorem dX6_eveningsGo_38 : decode cX6_eveningsGo 38 = .ok (.goto (-26), 3) := dk_167 255 230 (dk_at dksX6_eveningsGo_1 14 rfl rfl)
theorem dX6_eveningsGo_41 : decode cX6_eveningsGo 41 = .ok (.return_, 1) := dk_177 (dk_at dksX6_eveningsGo_1 17 rfl rfl)
abbrev cX6_eveningGoes : ByteArray := prog_20_method_56_code
def yX6_eveningGoes : MethodName := ⟨RX6, "eveningGoes", "()V"⟩
def dkwX6_eveningGoes_9 : List UInt8 := [79, 177]
abbrev dktX6_eveningGoes_9 : List UInt8 := dkwX6_eveningGoes_9 ++ []
def dkwX6_eveningGoes_8 : List UInt8 := [167, 255, 184, 42, 182, 1, 59, 42, 180, 0, 7, 17, 1, 16, 42, 180, 0, 7, 17, 1, 16, 46, 4, 96]
abbrev dktX6_eveningGoes_8 : List UInt8 := dkwX6_eveningGoes_8 ++ dktX6_eveningGoes_9
def dkwX6_eveningGoes_7 : List UInt8 := [29, 46, 4, 96, 184, 1, 47, 79, 42, 42, 180, 1, 56, 4, 96, 181, 1, 56, 42, 182, 1, 53, 60]
abbrev dktX6_eveningGoes_7 : List UInt8 := dkwX6_eveningGoes_7 ++ dktX6_eveningGoes_8
def dkwX6_eveningGoes_6 : List UInt8 := [180, 1, 17, 4, 28, 120, 2, 130, 126, 181, 1, 17, 42, 180, 0, 7, 29, 17, 39, 15, 42, 180, 0, 7]
abbrev dktX6_eveningGoes_6 : List UInt8 := dkwX6_eveningGoes_6 ++ dktX6_eveningGoes_7
def dkwX6_eveningGoes_5 : List UInt8 := [159, 0, 73, 27, 16, 16, 108, 61, 16, 16, 16, 16, 27, 16, 16, 112, 104, 96, 28, 96, 62, 42, 42]
abbrev dktX6_eveningGoes_5 : List UInt8 := dkwX6_eveningGoes_5 ++ dktX6_eveningGoes_6
def dkwX6_eveningGoes_4 : List UInt8 := [180, 1, 32, 4, 27, 120, 128, 181, 1, 32, 132, 1, 1, 167, 255, 166, 42, 182, 1, 53, 60, 27, 2]
abbrev dktX6_eveningGoes_4 : List UInt8 := dkwX6_eveningGoes_4 ++ dktX6_eveningGoes_5
def dkwX6_eveningGoes_3 : List UInt8 := [17, 1, 17, 46, 16, 10, 112, 79, 42, 27, 182, 1, 23, 42, 16, 120, 182, 1, 50, 154, 0, 15, 42, 42]
abbrev dktX6_eveningGoes_3 : List UInt8 := dkwX6_eveningGoes_3 ++ dktX6_eveningGoes_4
def dkwX6_eveningGoes_2 : List UInt8 := [17, 1, 17, 46, 104, 17, 54, 25, 96, 18, 80, 112, 79, 42, 180, 0, 77, 27, 42, 180, 0, 7]
abbrev dktX6_eveningGoes_2 : List UInt8 := dkwX6_eveningGoes_2 ++ dktX6_eveningGoes_3
def dkwX6_eveningGoes_1 : List UInt8 := [182, 0, 233, 154, 0, 6, 167, 0, 73, 42, 180, 0, 7, 17, 1, 17, 17, 98, 85, 42, 180, 0, 7]
abbrev dktX6_eveningGoes_1 : List UInt8 := dkwX6_eveningGoes_1 ++ dktX6_eveningGoes_2
def dkwX6_eveningGoes_0 : List UInt8 := [42, 42, 180, 0, 108, 181, 1, 17, 42, 3, 181, 1, 32, 3, 60, 27, 16, 16, 162, 0, 90, 42, 27]
abbrev dktX6_eveningGoes_0 : List UInt8 := dkwX6_eveningGoes_0 ++ dktX6_eveningGoes_1
theorem dksX6_eveningGoes_0 : cX6_eveningGoes.data.toList.drop 0 = dktX6_eveningGoes_0 := by decide +kernel
theorem dksX6_eveningGoes_1 : cX6_eveningGoes.data.toList.drop 23 = dktX6_eveningGoes_1 := dk_seg dksX6_eveningGoes_0 23 rfl rfl
theorem dksX6_eveningGoes_2 : cX6_eveningGoes.data.toList.drop 46 = dktX6_eveningGoes_2 := dk_seg dksX6_eveningGoes_1 23 rfl rfl
theorem dksX6_eveningGoes_3 : cX6_eveningGoes.data.toList.drop 68 = dktX6_eveningGoes_3 := dk_seg dksX6_eveningGoes_2 22 rfl rfl
theorem dksX6_eveningGoes_4 : cX6_eveningGoes.data.toList.drop 92 = dktX6_eveningGoes_4 := dk_seg dksX6_eveningGoes_3 24 rfl rfl
theorem dksX6_eveningGoes_5 : cX6_eveningGoes.data.toList.drop 115 = dktX6_eveningGoes_5 := dk_seg dksX6_eveningGoes_4 23 rfl rfl
theorem dksX6_eveningGoes_6 : cX6_eveningGoes.data.toList.drop 138 = dktX6_eveningGoes_6 := dk_seg dksX6_eveningGoes_5 23 rfl rfl
theorem dksX6_eveningGoes_7 : cX6_eveningGoes.data.toList.drop 162 = dktX6_eveningGoes_7 := dk_seg dksX6_eveningGoes_6 24 rfl rfl
theorem dksX6_eveningGoes_8 : cX6_eveningGoes.data.toList.drop 185 = dktX6_eveningGoes_8 := dk_seg dksX6_eveningGoes_7 23 rfl rfl
theorem dksX6_eveningGoes_9 : cX6_eveningGoes.data.toList.drop 209 = dktX6_eveningGoes_9 := dk_seg dksX6_eveningGoes_8 24 rfl rfl
theorem dX6_eveningGoes_0 : decode cX6_eveningGoes 0 = .ok (.aload_n 0, 1) := dk_42 (dk_at dksX6_eveningGoes_0 0 rfl rfl)
theorem dX6_eveningGoes_1 : decode cX6_eveningGoes 1 = .ok (.aload_n 0, 1) := dk_42 (dk_at dksX6_eveningGoes_0 1 rfl rfl)
theorem dX6_eveningGoes_2 : decode cX6_eveningGoes 2 = .ok (.getfield 108, 3) := dk_180 0 108 (dk_at dksX6_eveningGoes_0 2 rfl rfl)
theorem dX6_eveningGoes_5 : decode cX6_eveningGoes 5 = .ok (.putfield 273, 3) := dk_181 1 17 (dk_at dksX6_eveningGoes_0 5 rfl rfl)
theorem dX6_eveningGoes_8 : decode cX6_eveningGoes 8 = .ok (.aload_n 0, 1) := dk_42 (dk_at dksX6_eveningGoes_0 8 rfl rfl)
theorem dX6_eveningGoes_9 : decode cX6_eveningGoes 9 = .ok (.iconst 0, 1) := dk_3 (dk_at dksX6_eveningGoes_0 9 rfl rfl)
theorem dX6_eveningGoes_10 : decode cX6_eveningGoes 10 = .ok (.putfield 288, 3) := dk_181 1 32 (dk_at dksX6_eveningGoes_0 10 rfl rfl)
theorem dX6_eveningGoes_13 : decode cX6_eveningGoes 13 = .ok (.iconst 0, 1) := dk_3 (dk_at dksX6_eveningGoes_0 13 rfl rfl)
theorem dX6_eveningGoes_14 : decode cX6_eveningGoes 14 = .ok (.istore_n 1, 1) := dk_60 (dk_at dksX6_eveningGoes_0 14 rfl rfl)
theorem dX6_eveningGoes_15 : decode cX6_eveningGoes 15 = .ok (.iload_n 1, 1) := dk_27 (dk_at dksX6_eveningGoes_0 15 rfl rfl)
theorem dX6_eveningGoes_16 : decode cX6_eveningGoes 16 = .ok (.bipush 16, 2) := dk_16 16 (dk_at dksX6_eveningGoes_0 16 rfl rfl)
theorem dX6_eveningGoes_18 : decode cX6_eveningGoes 18 = .ok (.if_icmp .ge 90, 3) := dk_162 0 90 (dk_at dksX6_eveningGoes_0 18 rfl rfl)
theorem dX6_eveningGoes_21 : decode cX6_eveningGoes 21 = .ok (.aload_n 0, 1) := dk_42 (dk_at dksX6_eveningGoes_0 21 rfl rfl)
theorem dX6_eveningGoes_22 : decode cX6_eveningGoes 22 = .ok (.iload_n 1, 1) := dk_27 (dk_at dksX6_eveningGoes_0 22 rfl rfl)
theorem dX6_eveningGoes_23 : decode cX6_eveningGoes 23 = .ok (.invokevirtual 233, 3) := dk_182 0 233 (dk_at dksX6_eveningGoes_1 0 rfl rfl)
theorem dX6_eveningGoes_26 : decode cX6_eveningGoes 26 = .ok (.ifCond .ne 6, 3) := dk_154 0 6 (dk_at dksX6_eveningGoes_1 3 rfl rfl)
theorem dX6_eveningGoes_29 : decode cX6_eveningGoes 29 = .ok (.goto 73, 3) := dk_167 0 73 (dk_at dksX6_eveningGoes_1 6 rfl rfl)
theorem dX6_eveningGoes_32 : decode cX6_eveningGoes 32 = .ok (.aload_n 0, 1) := dk_42 (dk_at dksX6_eveningGoes_1 9 rfl rfl)
theorem dX6_eveningGoes_33 : decode cX6_eveningGoes 33 = .ok (.getfield 7, 3) := dk_180 0 7 (dk_at dksX6_eveningGoes_1 10 rfl rfl)
theorem dX6_eveningGoes_36 : decode cX6_eveningGoes 36 = .ok (.sipush 273, 3) := dk_17 1 17 (dk_at dksX6_eveningGoes_1 13 rfl rfl)
theorem dX6_eveningGoes_39 : decode cX6_eveningGoes 39 = .ok (.sipush 25173, 3) := dk_17 98 85 (dk_at dksX6_eveningGoes_1 16 rfl rfl)
theorem dX6_eveningGoes_42 : decode cX6_eveningGoes 42 = .ok (.aload_n 0, 1) := dk_42 (dk_at dksX6_eveningGoes_1 19 rfl rfl)
theorem dX6_eveningGoes_43 : decode cX6_eveningGoes 43 = .ok (.getfield 7, 3) := dk_180 0 7 (dk_at dksX6_eveningGoes_1 20 rfl rfl)
theorem dX6_eveningGoes_46 : decode cX6_eveningGoes 46 = .ok (.sipush 273, 3) := dk_17 1 17 (dk_at dksX6_eveningGoes_2 0 rfl rfl)
theorem dX6_eveningGoes_49 : decode cX6_eveningGoes 49 = .ok (.iaload, 1) := dk_46 (dk_at dksX6_eveningGoes_2 3 rfl rfl)
theorem dX6_eveningGoes_50 : decode cX6_eveningGoes 50 = .ok (.imul, 1) := dk_104 (dk_at dksX6_eveningGoes_2 4 rfl rfl)
theorem dX6_eveningGoes_51 : decode cX6_eveningGoes 51 = .ok (.sipush 13849, 3) := dk_17 54 25 (dk_at dksX6_eveningGoes_2 5 rfl rfl)
theorem dX6_eveningGoes_54 : decode cX6_eveningGoes 54 = .ok (.iadd, 1) := dk_96 (dk_at dksX6_eveningGoes_2 8 rfl rfl)
theorem dX6_eveningGoes_55 : decode cX6_eveningGoes 55 = .ok (.ldc 80, 2) := dk_18 80 (dk_at dksX6_eveningGoes_2 9 rfl rfl)
theorem dX6_eveningGoes_57 : decode cX6_eveningGoes 57 = .ok (.irem, 1) := dk_112 (dk_at dksX6_eveningGoes_2 11 rfl rfl)
theorem dX6_eveningGoes_58 : decode cX6_eveningGoes 58 = .ok (.iastore, 1) := dk_79 (dk_at dksX6_eveningGoes_2 12 rfl rfl)
theorem dX6_eveningGoes_59 : decode cX6_eveningGoes 59 = .ok (.aload_n 0, 1) := dk_42 (dk_at dksX6_eveningGoes_2 13 rfl rfl)
theorem dX6_eveningGoes_60 : decode cX6_eveningGoes 60 = .ok (.getfield 77, 3) := dk_180 0 77 (dk_at dksX6_eveningGoes_2 14 rfl rfl)
theorem dX6_eveningGoes_63 : decode cX6_eveningGoes 63 = .ok (.iload_n 1, 1) := dk_27 (dk_at dksX6_eveningGoes_2 17 rfl rfl)
theorem dX6_eveningGoes_64 : decode cX6_eveningGoes 64 = .ok (.aload_n 0, 1) := dk_42 (dk_at dksX6_eveningGoes_2 18 rfl rfl)
theorem dX6_eveningGoes_65 : decode cX6_eveningGoes 65 = .ok (.getfield 7, 3) := dk_180 0 7 (dk_at dksX6_eveningGoes_2 19 rfl rfl)
theorem dX6_eveningGoes_68 : decode cX6_eveningGoes 68 = .ok (.sipush 273, 3) := dk_17 1 17 (dk_at dksX6_eveningGoes_3 0 rfl rfl)
theorem dX6_eveningGoes_71 : decode cX6_eveningGoes 71 = .ok (.iaload, 1) := dk_46 (dk_at dksX6_eveningGoes_3 3 rfl rfl)
theorem dX6_eveningGoes_72 : decode cX6_eveningGoes 72 = .ok (.bipush 10, 2) := dk_16 10 (dk_at dksX6_eveningGoes_3 4 rfl rfl)
theorem dX6_eveningGoes_74 : decode cX6_eveningGoes 74 = .ok (.irem, 1) := dk_112 (dk_at dksX6_eveningGoes_3 6 rfl rfl)
theorem dX6_eveningGoes_75 : decode cX6_eveningGoes 75 = .ok (.iastore, 1) := dk_79 (dk_at dksX6_eveningGoes_3 7 rfl rfl)
theorem dX6_eveningGoes_76 : decode cX6_eveningGoes 76 = .ok (.aload_n 0, 1) := dk_42 (dk_at dksX6_eveningGoes_3 8 rfl rfl)
theorem dX6_eveningGoes_77 : decode cX6_eveningGoes 77 = .ok (.iload_n 1, 1) := dk_27 (dk_at dksX6_eveningGoes_3 9 rfl rfl)
theorem dX6_eveningGoes_78 : decode cX6_eveningGoes 78 = .ok (.invokevirtual 279, 3) := dk_182 1 23 (dk_at dksX6_eveningGoes_3 10 rfl rfl)
theorem dX6_eveningGoes_81 : decode cX6_eveningGoes 81 = .ok (.aload_n 0, 1) := dk_42 (dk_at dksX6_eveningGoes_3 13 rfl rfl)
theorem dX6_eveningGoes_82 : decode cX6_eveningGoes 82 = .ok (.bipush 120, 2) := dk_16 120 (dk_at dksX6_eveningGoes_3 14 rfl rfl)
theorem dX6_eveningGoes_84 : decode cX6_eveningGoes 84 = .ok (.invokevirtual 306, 3) := dk_182 1 50 (dk_at dksX6_eveningGoes_3 16 rfl rfl)
theorem dX6_eveningGoes_87 : decode cX6_eveningGoes 87 = .ok (.ifCond .ne 15, 3) := dk_154 0 15 (dk_at dksX6_eveningGoes_3 19 rfl rfl)
theorem dX6_eveningGoes_90 : decode cX6_eveningGoes 90 = .ok (.aload_n 0, 1) := dk_42 (dk_at dksX6_eveningGoes_3 22 rfl rfl)
theorem dX6_eveningGoes_91 : decode cX6_eveningGoes 91 = .ok (.aload_n 0, 1) := dk_42 (dk_at dksX6_eveningGoes_3 23 rfl rfl)
theorem dX6_eveningGoes_92 : decode cX6_eveningGoes 92 = .ok (.getfield 288, 3) := dk_180 1 32 (dk_at dksX6_eveningGoes_4 0 rfl rfl)
theorem dX6_eveningGoes_95 : decode cX6_eveningGoes 95 = .ok (.iconst 1, 1) := dk_4 (dk_at dksX6_eveningGoes_4 3 rfl rfl)
theorem dX6_eveningGoes_96 : decode cX6_eveningGoes 96 = .ok (.iload_n 1, 1) := dk_27 (dk_at dksX6_eveningGoes_4 4 rfl rfl)
theorem dX6_eveningGoes_97 : decode cX6_eveningGoes 97 = .ok (.ishl, 1) := dk_120 (dk_at dksX6_eveningGoes_4 5 rfl rfl)
theorem dX6_eveningGoes_98 : decode cX6_eveningGoes 98 = .ok (.ior, 1) := dk_128 (dk_at dksX6_eveningGoes_4 6 rfl rfl)
theorem dX6_eveningGoes_99 : decode cX6_eveningGoes 99 = .ok (.putfield 288, 3) := dk_181 1 32 (dk_at dksX6_eveningGoes_4 7 rfl rfl)
theorem dX6_eveningGoes_102 : decode cX6_eveningGoes 102 = .ok (.iinc 1 1, 3) := dk_132 1 1 (dk_at dksX6_eveningGoes_4 10 rfl rfl)
theorem dX6_eveningGoes_105 : decode cX6_eveningGoes 105 = .ok (.goto (-90), 3) := dk_167 255 166 (dk_at dksX6_eveningGoes_4 13 rfl rfl)
theorem dX6_eveningGoes_108 : decode cX6_eveningGoes 108 = .ok (.aload_n 0, 1) := dk_42 (dk_at dksX6_eveningGoes_4 16 rfl rfl)
theorem dX6_eveningGoes_109 : decode cX6_eveningGoes 109 = .ok (.invokevirtual 309, 3) := dk_182 1 53 (dk_at dksX6_eveningGoes_4 17 rfl rfl)
theorem dX6_eveningGoes_112 : decode cX6_eveningGoes 112 = .ok (.istore_n 1, 1) := dk_60 (dk_at dksX6_eveningGoes_4 20 rfl rfl)
theorem dX6_eveningGoes_113 : decode cX6_eveningGoes 113 = .ok (.iload_n 1, 1) := dk_27 (dk_at dksX6_eveningGoes_4 21 rfl rfl)
theorem dX6_eveningGoes_114 : decode cX6_eveningGoes 114 = .ok (.iconst (-1), 1) := dk_2 (dk_at dksX6_eveningGoes_4 22 rfl rfl)
theorem dX6_eveningGoes_115 : decode cX6_eveningGoes 115 = .ok (.if_icmp .eq 73, 3) := dk_159 0 73 (dk_at dksX6_eveningGoes_5 0 rfl rfl)
theorem dX6_eveningGoes_118 : decode cX6_eveningGoes 118 = .ok (.iload_n 1, 1) := dk_27 (dk_at dksX6_eveningGoes_5 3 rfl rfl)
theorem dX6_eveningGoes_119 : decode cX6_eveningGoes 119 = .ok (.bipush 16, 2) := dk_16 16 (dk_at dksX6_eveningGoes_5 4 rfl rfl)
theorem dX6_eveningGoes_121 : decode cX6_eveningGoes 121 = .ok (.idiv, 1) := dk_108 (dk_at dksX6_eveningGoes_5 6 rfl rfl)
theorem dX6_eveningGoes_122 : decode cX6_eveningGoes 122 = .ok (.istore_n 2, 1) := dk_61 (dk_at dksX6_eveningGoes_5 7 rfl rfl)
theorem dX6_eveningGoes_123 : decode cX6_eveningGoes 123 = .ok (.bipush 16, 2) := dk_16 16 (dk_at dksX6_eveningGoes_5 8 rfl rfl)
theorem dX6_eveningGoes_125 : decode cX6_eveningGoes 125 = .ok (.bipush 16, 2) := dk_16 16 (dk_at dksX6_eveningGoes_5 10 rfl rfl)
theorem dX6_eveningGoes_127 : decode cX6_eveningGoes 127 = .ok (.iload_n 1, 1) := dk_27 (dk_at dksX6_eveningGoes_5 12 rfl rfl)
theorem dX6_eveningGoes_128 : decode cX6_eveningGoes 128 = .ok (.bipush 16, 2) := dk_16 16 (dk_at dksX6_eveningGoes_5 13 rfl rfl)
theorem dX6_eveningGoes_130 : decode cX6_eveningGoes 130 = .ok (.irem, 1) := dk_112 (dk_at dksX6_eveningGoes_5 15 rfl rfl)
theorem dX6_eveningGoes_131 : decode cX6_eveningGoes 131 = .ok (.imul, 1) := dk_104 (dk_at dksX6_eveningGoes_5 16 rfl rfl)
theorem dX6_eveningGoes_132 : decode cX6_eveningGoes 132 = .ok (.iadd, 1) := dk_96 (dk_at dksX6_eveningGoes_5 17 rfl rfl)
theorem dX6_eveningGoes_133 : decode cX6_eveningGoes 133 = .ok (.iload_n 2, 1) := dk_28 (dk_at dksX6_eveningGoes_5 18 rfl rfl)
theorem dX6_eveningGoes_134 : decode cX6_eveningGoes 134 = .ok (.iadd, 1) := dk_96 (dk_at dksX6_eveningGoes_5 19 rfl rfl)
theorem dX6_eveningGoes_135 : decode cX6_eveningGoes 135 = .ok (.istore_n 3, 1) := dk_62 (dk_at dksX6_eveningGoes_5 20 rfl rfl)
theorem dX6_eveningGoes_136 : decode cX6_eveningGoes 136 = .ok (.aload_n 0, 1) := dk_42 (dk_at dksX6_eveningGoes_5 21 rfl rfl)
theorem dX6_eveningGoes_137 : decode cX6_eveningGoes 137 = .ok (.aload_n 0, 1) := dk_42 (dk_at dksX6_eveningGoes_5 22 rfl rfl)
theorem dX6_eveningGoes_138 : decode cX6_eveningGoes 138 = .ok (.getfield 273, 3) := dk_180 1 17 (dk_at dksX6_eveningGoes_6 0 rfl rfl)
theorem dX6_eveningGoes_141 : decode cX6_eveningGoes 141 = .ok (.iconst 1, 1) := dk_4 (dk_at dksX6_eveningGoes_6 3 rfl rfl)
theorem dX6_eveningGoes_142 : decode cX6_eveningGoes 142 = .ok (.iload_n 2, 1) := dk_28 (dk_at dksX6_eveningGoes_6 4 rfl rfl)
theorem dX6_eveningGoes_143 : decode cX6_eveningGoes 143 = .ok (.ishl, 1) := dk_120 (dk_at dksX6_eveningGoes_6 5 rfl rfl)
theorem dX6_eveningGoes_144 : decode cX6_eveningGoes 144 = .ok (.iconst (-1), 1) := dk_2 (dk_at dksX6_eveningGoes_6 6 rfl rfl)
theorem dX6_eveningGoes_145 : decode cX6_eveningGoes 145 = .ok (.ixor, 1) := dk_130 (dk_at dksX6_eveningGoes_6 7 rfl rfl)
theorem dX6_eveningGoes_146 : decode cX6_eveningGoes 146 = .ok (.iand, 1) := dk_126 (dk_at dksX6_eveningGoes_6 8 rfl rfl)
theorem dX6_eveningGoes_147 : decode cX6_eveningGoes 147 = .ok (.putfield 273, 3) := dk_181 1 17 (dk_at dksX6_eveningGoes_6 9 rfl rfl)
theorem dX6_eveningGoes_150 : decode cX6_eveningGoes 150 = .ok (.aload_n 0, 1) := dk_42 (dk_at dksX6_eveningGoes_6 12 rfl rfl)
theorem dX6_eveningGoes_151 : decode cX6_eveningGoes 151 = .ok (.getfield 7, 3) := dk_180 0 7 (dk_at dksX6_eveningGoes_6 13 rfl rfl)
theorem dX6_eveningGoes_154 : decode cX6_eveningGoes 154 = .ok (.iload_n 3, 1) := dk_29 (dk_at dksX6_eveningGoes_6 16 rfl rfl)
theorem dX6_eveningGoes_155 : decode cX6_eveningGoes 155 = .ok (.sipush 9999, 3) := dk_17 39 15 (dk_at dksX6_eveningGoes_6 17 rfl rfl)
theorem dX6_eveningGoes_158 : decode cX6_eveningGoes 158 = .ok (.aload_n 0, 1) := dk_42 (dk_at dksX6_eveningGoes_6 20 rfl rfl)
theorem dX6_eveningGoes_159 : decode cX6_eveningGoes 159 = .ok (.getfield 7, 3) := dk_180 0 7 (dk_at dksX6_eveningGoes_6 21 rfl rfl)
theorem dX6_eveningGoes_162 : decode cX6_eveningGoes 162 = .ok (.iload_n 3, 1) := dk_29 (dk_at dksX6_eveningGoes_7 0 rfl rfl)
theorem dX6_eveningGoes_163 : decode cX6_eveningGoes 163 = .ok (.iaload, 1) := dk_46 (dk_at dksX6_eveningGoes_7 1 rfl rfl)
theorem dX6_eveningGoes_164 : decode cX6_eveningGoes 164 = .ok (.iconst 1, 1) := dk_4 (dk_at dksX6_eveningGoes_7 2 rfl rfl)
theorem dX6_eveningGoes_165 : decode cX6_eveningGoes 165 = .ok (.iadd, 1) := dk_96 (dk_at dksX6_eveningGoes_7 3 rfl rfl)
theorem dX6_eveningGoes_166 : decode cX6_eveningGoes 166 = .ok (.invokestatic 303, 3) := dk_184 1 47 (dk_at dksX6_eveningGoes_7 4 rfl rfl)
theorem dX6_eveningGoes_169 : decode cX6_eveningGoes 169 = .ok (.iastore, 1) := dk_79 (dk_at dksX6_eveningGoes_7 7 rfl rfl)
theorem dX6_eveningGoes_170 : decode cX6_eveningGoes 170 = .ok (.aload_n 0, 1) := dk_42 (dk_at dksX6_eveningGoes_7 8 rfl rfl)
theorem dX6_eveningGoes_171 : decode cX6_eveningGoes 171 = .ok (.aload_n 0, 1) := dk_42 (dk_at dksX6_eveningGoes_7 9 rfl rfl)
theorem dX6_eveningGoes_172 : decode cX6_eveningGoes 172 = .ok (.getfield 312, 3) := dk_180 1 56 (dk_at dksX6_eveningGoes_7 10 rfl rfl)
theorem dX6_eveningGoes_175 : decode cX6_eveningGoes 175 = .ok (.iconst 1, 1) := dk_4 (dk_at dksX6_eveningGoes_7 13 rfl rfl)
theorem dX6_eveningGoes_176 : decode cX6_eveningGoes 176 = .ok (.iadd, 1) := dk_96 (dk_at dksX6_eveningGoes_7 14 rfl rfl)
theorem dX6_eveningGoes_177 : decode cX6_eveningGoes 177 = .ok (.putfield 312, 3) := dk_181 1 56 (dk_at dksX6_eveningGoes_7 15 rfl rfl)
theorem dX6_eveningGoes_180 : decode cX6_eveningGoes 180 = .ok (.aload_n 0, 1) := dk_42 (dk_at dksX6_eveningGoes_7 18 rfl rfl)
theorem dX6_eveningGoes_181 : decode cX6_eveningGoes 181 = .ok (.invokevirtual 309, 3) := dk_182 1 53 (dk_at dksX6_eveningGoes_7 19 rfl rfl)
theorem dX6_eveningGoes_184 : decode cX6_eveningGoes 184 = .ok (.istore_n 1, 1) := dk_60 (dk_at dksX6_eveningGoes_7 22 rfl rfl)
theorem dX6_eveningGoes_185 : decode cX6_eveningGoes 185 = .ok (.goto (-72), 3) := dk_167 255 184 (dk_at dksX6_eveningGoes_8 0 rfl rfl)
theorem dX6_eveningGoes_188 : decode cX6_eveningGoes 188 = .ok (.aload_n 0, 1) := dk_42 (dk_at dksX6_eveningGoes_8 3 rfl rfl)
theorem dX6_eveningGoes_189 : decode cX6_eveningGoes 189 = .ok (.invokevirtual 315, 3) := dk_182 1 59 (dk_at dksX6_eveningGoes_8 4 rfl rfl)
theorem dX6_eveningGoes_192 : decode cX6_eveningGoes 192 = .ok (.aload_n 0, 1) := dk_42 (dk_at dksX6_eveningGoes_8 7 rfl rfl)
theorem dX6_eveningGoes_193 : decode cX6_eveningGoes 193 = .ok (.getfield 7, 3) := dk_180 0 7 (dk_at dksX6_eveningGoes_8 8 rfl rfl)
theorem dX6_eveningGoes_196 : decode cX6_eveningGoes 196 = .ok (.sipush 272, 3) := dk_17 1 16 (dk_at dksX6_eveningGoes_8 11 rfl rfl)
theorem dX6_eveningGoes_199 : decode cX6_eveningGoes 199 = .ok (.aload_n 0, 1) := dk_42 (dk_at dksX6_eveningGoes_8 14 rfl rfl)
theorem dX6_eveningGoes_200 : decode cX6_eveningGoes 200 = .ok (.getfield 7, 3) := dk_180 0 7 (dk_at dksX6_eveningGoes_8 15 rfl rfl)
theorem dX6_eveningGoes_203 : decode cX6_eveningGoes 203 = .ok (.sipush 272, 3) := dk_17 1 16 (dk_at dksX6_eveningGoes_8 18 rfl rfl)
theorem dX6_eveningGoes_206 : decode cX6_eveningGoes 206 = .ok (.iaload, 1) := dk_46 (dk_at dksX6_eveningGoes_8 21 rfl rfl)
theorem dX6_eveningGoes_207 : decode cX6_eveningGoes 207 = .ok (.iconst 1, 1) := dk_4 (dk_at dksX6_eveningGoes_8 22 rfl rfl)
theorem dX6_eveningGoes_208 : decode cX6_eveningGoes 208 = .ok (.iadd, 1) := dk_96 (dk_at dksX6_eveningGoes_8 23 rfl rfl)
theorem dX6_eveningGoes_209 : decode cX6_eveningGoes 209 = .ok (.iastore, 1) := dk_79 (dk_at dksX6_eveningGoes_9 0 rfl rfl)
theorem dX6_eveningGoes_210 : decode cX6_eveningGoes 210 = .ok (.return_, 1) := dk_177 (dk_at dksX6_eveningGoes_9 1 rfl rfl)
abbrev cX6_feels : ByteArray := prog_20_method_52_code
def yX6_feels : MethodName := ⟨RX6, "feels", "(I)V"⟩
def dkwX6_feels_4 : List UInt8 := [180, 0, 71, 16, 9, 42, 180, 0, 77, 27, 46, 79, 177]
abbrev dktX6_feels_4 : List UInt8 := dkwX6_feels_4 ++ []
def dkwX6_feels_3 : List UInt8 := [184, 1, 20, 79, 42, 180, 0, 71, 16, 8, 42, 180, 0, 7, 17, 1, 16, 46, 16, 100, 112, 79, 42]
abbrev dktX6_feels_3 : List UInt8 := dkwX6_feels_3 ++ dktX6_feels_4
def dkwX6_feels_2 : List UInt8 := [42, 180, 0, 7, 3, 27, 96, 46, 79, 42, 180, 0, 71, 16, 7, 42, 180, 1, 17, 42, 180, 0, 227, 126]
abbrev dktX6_feels_2 : List UInt8 := dkwX6_feels_2 ++ dktX6_feels_3
def dkwX6_feels_1 : List UInt8 := [180, 0, 71, 3, 27, 79, 42, 180, 0, 71, 5, 42, 180, 0, 19, 27, 46, 79, 42, 180, 0, 71, 16, 6]
abbrev dktX6_feels_1 : List UInt8 := dkwX6_feels_1 ++ dktX6_feels_2
def dkwX6_feels_0 : List UInt8 := [4, 61, 28, 16, 7, 162, 0, 16, 42, 180, 0, 71, 28, 3, 79, 132, 2, 1, 167, 255, 240, 42]
abbrev dktX6_feels_0 : List UInt8 := dkwX6_feels_0 ++ dktX6_feels_1
theorem dksX6_feels_0 : cX6_feels.data.toList.drop 0 = dktX6_feels_0 := by decide +kernel
theorem dksX6_feels_1 : cX6_feels.data.toList.drop 22 = dktX6_feels_1 := dk_seg dksX6_feels_0 22 rfl rfl
theorem dksX6_feels_2 : cX6_feels.data.toList.drop 46 = dktX6_feels_2 := dk_seg dksX6_feels_1 24 rfl rfl
theorem dksX6_feels_3 : cX6_feels.data.toList.drop 70 = dktX6_feels_3 := dk_seg dksX6_feels_2 24 rfl rfl
theorem dksX6_feels_4 : cX6_feels.data.toList.drop 93 = dktX6_feels_4 := dk_seg dksX6_feels_3 23 rfl rfl
theorem dX6_feels_0 : decode cX6_feels 0 = .ok (.iconst 1, 1) := dk_4 (dk_at dksX6_feels_0 0 rfl rfl)
theorem dX6_feels_1 : decode cX6_feels 1 = .ok (.istore_n 2, 1) := dk_61 (dk_at dksX6_feels_0 1 rfl rfl)
theorem dX6_feels_2 : decode cX6_feels 2 = .ok (.iload_n 2, 1) := dk_28 (dk_at dksX6_feels_0 2 rfl rfl)
theorem dX6_feels_3 : decode cX6_feels 3 = .ok (.bipush 7, 2) := dk_16 7 (dk_at dksX6_feels_0 3 rfl rfl)
theorem dX6_feels_5 : decode cX6_feels 5 = .ok (.if_icmp .ge 16, 3) := dk_162 0 16 (dk_at dksX6_feels_0 5 rfl rfl)
theorem dX6_feels_8 : decode cX6_feels 8 = .ok (.aload_n 0, 1) := dk_42 (dk_at dksX6_feels_0 8 rfl rfl)
theorem dX6_feels_9 : decode cX6_feels 9 = .ok (.getfield 71, 3) := dk_180 0 71 (dk_at dksX6_feels_0 9 rfl rfl)
theorem dX6_feels_12 : decode cX6_feels 12 = .ok (.iload_n 2, 1) := dk_28 (dk_at dksX6_feels_0 12 rfl rfl)
theorem dX6_feels_13 : decode cX6_feels 13 = .ok (.iconst 0, 1) := dk_3 (dk_at dksX6_feels_0 13 rfl rfl)
theorem dX6_feels_14 : decode cX6_feels 14 = .ok (.iastore, 1) := dk_79 (dk_at dksX6_feels_0 14 rfl rfl)
theorem dX6_feels_15 : decode cX6_feels 15 = .ok (.iinc 2 1, 3) := dk_132 2 1 (dk_at dksX6_feels_0 15 rfl rfl)
theorem dX6_feels_18 : decode cX6_feels 18 = .ok (.goto (-16), 3) := dk_167 255 240 (dk_at dksX6_feels_0 18 rfl rfl)
theorem dX6_feels_21 : decode cX6_feels 21 = .ok (.aload_n 0, 1) := dk_42 (dk_at dksX6_feels_0 21 rfl rfl)
theorem dX6_feels_22 : decode cX6_feels 22 = .ok (.getfield 71, 3) := dk_180 0 71 (dk_at dksX6_feels_1 0 rfl rfl)
theorem dX6_feels_25 : decode cX6_feels 25 = .ok (.iconst 0, 1) := dk_3 (dk_at dksX6_feels_1 3 rfl rfl)
theorem dX6_feels_26 : decode cX6_feels 26 = .ok (.iload_n 1, 1) := dk_27 (dk_at dksX6_feels_1 4 rfl rfl)
theorem dX6_feels_27 : decode cX6_feels 27 = .ok (.iastore, 1) := dk_79 (dk_at dksX6_feels_1 5 rfl rfl)
theorem dX6_feels_28 : decode cX6_feels 28 = .ok (.aload_n 0, 1) := dk_42 (dk_at dksX6_feels_1 6 rfl rfl)
theorem dX6_feels_29 : decode cX6_feels 29 = .ok (.getfield 71, 3) := dk_180 0 71 (dk_at dksX6_feels_1 7 rfl rfl)
theorem dX6_feels_32 : decode cX6_feels 32 = .ok (.iconst 2, 1) := dk_5 (dk_at dksX6_feels_1 10 rfl rfl)
theorem dX6_feels_33 : decode cX6_feels 33 = .ok (.aload_n 0, 1) := dk_42 (dk_at dksX6_feels_1 11 rfl rfl)
theorem dX6_feels_34 : decode cX6_feels 34 = .ok (.getfield 19, 3) := dk_180 0 19 (dk_at dksX6_feels_1 12 rfl rfl)
theorem dX6_feels_37 : decode cX6_feels 37 = .ok (.iload_n 1, 1) := dk_27 (dk_at dksX6_feels_1 15 rfl rfl)
theorem dX6_feels_38 : decode cX6_feels 38 = .ok (.iaload, 1) := dk_46 (dk_at dksX6_feels_1 16 rfl rfl)
theorem dX6_feels_39 : decode cX6_feels 39 = .ok (.iastore, 1) := dk_79 (dk_at dksX6_feels_1 17 rfl rfl)
theorem dX6_feels_40 : decode cX6_feels 40 = .ok (.aload_n 0, 1) := dk_42 (dk_at dksX6_feels_1 18 rfl rfl)
theorem dX6_feels_41 : decode cX6_feels 41 = .ok (.getfield 71, 3) := dk_180 0 71 (dk_at dksX6_feels_1 19 rfl rfl)
theorem dX6_feels_44 : decode cX6_feels 44 = .ok (.bipush 6, 2) := dk_16 6 (dk_at dksX6_feels_1 22 rfl rfl)
theorem dX6_feels_46 : decode cX6_feels 46 = .ok (.aload_n 0, 1) := dk_42 (dk_at dksX6_feels_2 0 rfl rfl)
theorem dX6_feels_47 : decode cX6_feels 47 = .ok (.getfield 7, 3) := dk_180 0 7 (dk_at dksX6_feels_2 1 rfl rfl)
theorem dX6_feels_50 : decode cX6_feels 50 = .ok (.iconst 0, 1) := dk_3 (dk_at dksX6_feels_2 4 rfl rfl)
theorem dX6_feels_51 : decode cX6_feels 51 = .ok (.iload_n 1, 1) := dk_27 (dk_at dksX6_feels_2 5 rfl rfl)
theorem dX6_feels_52 : decode cX6_feels 52 = .ok (.iadd, 1) := dk_96 (dk_at dksX6_feels_2 6 rfl rfl)
theorem dX6_feels_53 : decode cX6_feels 53 = .ok (.iaload, 1) := dk_46 (dk_at dksX6_feels_2 7 rfl rfl)
theorem dX6_feels_54 : decode cX6_feels 54 = .ok (.iastore, 1) := dk_79 (dk_at dksX6_feels_2 8 rfl rfl)
theorem dX6_feels_55 : decode cX6_feels 55 = .ok (.aload_n 0, 1) := dk_42 (dk_at dksX6_feels_2 9 rfl rfl)
theorem dX6_feels_56 : decode cX6_feels 56 = .ok (.getfield 71, 3) := dk_180 0 71 (dk_at dksX6_feels_2 10 rfl rfl)
theorem dX6_feels_59 : decode cX6_feels 59 = .ok (.bipush 7, 2) := dk_16 7 (dk_at dksX6_feels_2 13 rfl rfl)
theorem dX6_feels_61 : decode cX6_feels 61 = .ok (.aload_n 0, 1) := dk_42 (dk_at dksX6_feels_2 15 rfl rfl)
theorem dX6_feels_62 : decode cX6_feels 62 = .ok (.getfield 273, 3) := dk_180 1 17 (dk_at dksX6_feels_2 16 rfl rfl)
theorem dX6_feels_65 : decode cX6_feels 65 = .ok (.aload_n 0, 1) := dk_42 (dk_at dksX6_feels_2 19 rfl rfl)
theorem dX6_feels_66 : decode cX6_feels 66 = .ok (.getfield 227, 3) := dk_180 0 227 (dk_at dksX6_feels_2 20 rfl rfl)
theorem dX6_feels_69 : decode cX6_feels 69 = .ok (.iand, 1) := dk_126 (dk_at dksX6_feels_2 23 rfl rfl)
theorem dX6_feels_70 : decode cX6_feels 70 = .ok (.invokestatic 276, 3) := dk_184 1 20 (dk_at dksX6_feels_3 0 rfl rfl)
theorem dX6_feels_73 : decode cX6_feels 73 = .ok (.iastore, 1) := dk_79 (dk_at dksX6_feels_3 3 rfl rfl)
theorem dX6_feels_74 : decode cX6_feels 74 = .ok (.aload_n 0, 1) := dk_42 (dk_at dksX6_feels_3 4 rfl rfl)
theorem dX6_feels_75 : decode cX6_feels 75 = .ok (.getfield 71, 3) := dk_180 0 71 (dk_at dksX6_feels_3 5 rfl rfl)
theorem dX6_feels_78 : decode cX6_feels 78 = .ok (.bipush 8, 2) := dk_16 8 (dk_at dksX6_feels_3 8 rfl rfl)
theorem dX6_feels_80 : decode cX6_feels 80 = .ok (.aload_n 0, 1) := dk_42 (dk_at dksX6_feels_3 10 rfl rfl)
theorem dX6_feels_81 : decode cX6_feels 81 = .ok (.getfield 7, 3) := dk_180 0 7 (dk_at dksX6_feels_3 11 rfl rfl)
theorem dX6_feels_84 : decode cX6_feels 84 = .ok (.sipush 272, 3) := dk_17 1 16 (dk_at dksX6_feels_3 14 rfl rfl)
theorem dX6_feels_87 : decode cX6_feels 87 = .ok (.iaload, 1) := dk_46 (dk_at dksX6_feels_3 17 rfl rfl)
theorem dX6_feels_88 : decode cX6_feels 88 = .ok (.bipush 100, 2) := dk_16 100 (dk_at dksX6_feels_3 18 rfl rfl)
theorem dX6_feels_90 : decode cX6_feels 90 = .ok (.irem, 1) := dk_112 (dk_at dksX6_feels_3 20 rfl rfl)
theorem dX6_feels_91 : decode cX6_feels 91 = .ok (.iastore, 1) := dk_79 (dk_at dksX6_feels_3 21 rfl rfl)
theorem dX6_feels_92 : decode cX6_feels 92 = .ok (.aload_n 0, 1) := dk_42 (dk_at dksX6_feels_3 22 rfl rfl)
theorem dX6_feels_93 : decode cX6_feels 93 = .ok (.getfield 71, 3) := dk_180 0 71 (dk_at dksX6_feels_4 0 rfl rfl)
theorem dX6_feels_96 : decode cX6_feels 96 = .ok (.bipush 9, 2) := dk_16 9 (dk_at dksX6_feels_4 3 rfl rfl)
theorem dX6_feels_98 : decode cX6_feels 98 = .ok (.aload_n 0, 1) := dk_42 (dk_at dksX6_feels_4 5 rfl rfl)
theorem dX6_feels_99 : decode cX6_feels 99 = .ok (.getfield 77, 3) := dk_180 0 77 (dk_at dksX6_feels_4 6 rfl rfl)
theorem dX6_feels_102 : decode cX6_feels 102 = .ok (.iload_n 1, 1) := dk_27 (dk_at dksX6_feels_4 9 rfl rfl)
theorem dX6_feels_103 : decode cX6_feels 103 = .ok (.iaload, 1) := dk_46 (dk_at dksX6_feels_4 10 rfl rfl)
theorem dX6_feels_104 : decode cX6_feels 104 = .ok (.iastore, 1) := dk_79 (dk_at dksX6_feels_4 11 rfl rfl)
theorem dX6_feels_105 : decode cX6_feels 105 = .ok (.return_, 1) := dk_177 (dk_at dksX6_feels_4 12 rfl rfl)
abbrev cX6_bits : ByteArray := prog_20_method_7_code
def yX6_bits : MethodName := ⟨RX6, "bits", "(I)I"⟩
def dkwX6_bits_1 : List UInt8 := [27, 172]
abbrev dktX6_bits_1 : List UInt8 := dkwX6_bits_1 ++ []
def dkwX6_bits_0 : List UInt8 := [3, 60, 3, 61, 28, 16, 16, 162, 0, 17, 27, 26, 28, 122, 4, 126, 96, 60, 132, 2, 1, 167, 255, 239]
abbrev dktX6_bits_0 : List UInt8 := dkwX6_bits_0 ++ dktX6_bits_1
theorem dksX6_bits_0 : cX6_bits.data.toList.drop 0 = dktX6_bits_0 := by decide +kernel
theorem dksX6_bits_1 : cX6_bits.data.toList.drop 24 = dktX6_bits_1 := dk_seg dksX6_bits_0 24 rfl rfl
theorem dX6_bits_0 : decode cX6_bits 0 = .ok (.iconst 0, 1) := dk_3 (dk_at dksX6_bits_0 0 rfl rfl)
theorem dX6_bits_1 : decode cX6_bits 1 = .ok (.istore_n 1, 1) := dk_60 (dk_at dksX6_bits_0 1 rfl rfl)
theorem dX6_bits_2 : decode cX6_bits 2 = .ok (.iconst 0, 1) := dk_3 (dk_at dksX6_bits_0 2 rfl rfl)
theorem dX6_bits_3 : decode cX6_bits 3 = .ok (.istore_n 2, 1) := dk_61 (dk_at dksX6_bits_0 3 rfl rfl)
theorem dX6_bits_4 : decode cX6_bits 4 = .ok (.iload_n 2, 1) := dk_28 (dk_at dksX6_bits_0 4 rfl rfl)
theorem dX6_bits_5 : decode cX6_bits 5 = .ok (.bipush 16, 2) := dk_16 16 (dk_at dksX6_bits_0 5 rfl rfl)
theorem dX6_bits_7 : decode cX6_bits 7 = .ok (.if_icmp .ge 17, 3) := dk_162 0 17 (dk_at dksX6_bits_0 7 rfl rfl)
theorem dX6_bits_10 : decode cX6_bits 10 = .ok (.iload_n 1, 1) := dk_27 (dk_at dksX6_bits_0 10 rfl rfl)
theorem dX6_bits_11 : decode cX6_bits 11 = .ok (.iload_n 0, 1) := dk_26 (dk_at dksX6_bits_0 11 rfl rfl)
theorem dX6_bits_12 : decode cX6_bits 12 = .ok (.iload_n 2, 1) := dk_28 (dk_at dksX6_bits_0 12 rfl rfl)
theorem dX6_bits_13 : decode cX6_bits 13 = .ok (.ishr, 1) := dk_122 (dk_at dksX6_bits_0 13 rfl rfl)
theorem dX6_bits_14 : decode cX6_bits 14 = .ok (.iconst 1, 1) := dk_4 (dk_at dksX6_bits_0 14 rfl rfl)
theorem dX6_bits_15 : decode cX6_bits 15 = .ok (.iand, 1) := dk_126 (dk_at dksX6_bits_0 15 rfl rfl)
theorem dX6_bits_16 : decode cX6_bits 16 = .ok (.iadd, 1) := dk_96 (dk_at dksX6_bits_0 16 rfl rfl)
theorem dX6_bits_17 : decode cX6_bits 17 = .ok (.istore_n 1, 1) := dk_60 (dk_at dksX6_bits_0 17 rfl rfl)
theorem dX6_bits_18 : decode cX6_bits 18 = .ok (.iinc 2 1, 3) := dk_132 2 1 (dk_at dksX6_bits_0 18 rfl rfl)
theorem dX6_bits_21 : decode cX6_bits 21 = .ok (.goto (-17), 3) := dk_167 255 239 (dk_at dksX6_bits_0 21 rfl rfl)
theorem dX6_bits_24 : decode cX6_bits 24 = .ok (.iload_n 1, 1) := dk_27 (dk_at dksX6_bits_1 0 rfl rfl)
theorem dX6_bits_25 : decode cX6_bits 25 = .ok (.ireturn, 1) := dk_172 (dk_at dksX6_bits_1 1 rfl rfl)
abbrev cX6_holdsAny : ByteArray := prog_20_method_42_code
def yX6_holdsAny : MethodName := ⟨RX6, "holdsAny", "(I)Z"⟩
def dkwX6_holdsAny_2 : List UInt8 := [167, 255, 213, 3, 172]
abbrev dktX6_holdsAny_2 : List UInt8 := dkwX6_holdsAny_2 ++ []
def dkwX6_holdsAny_1 : List UInt8 := [180, 0, 62, 28, 46, 42, 180, 0, 65, 28, 46, 182, 0, 223, 4, 160, 0, 5, 4, 172, 132, 2, 1]
abbrev dktX6_holdsAny_1 : List UInt8 := dkwX6_holdsAny_1 ++ dktX6_holdsAny_2
def dkwX6_holdsAny_0 : List UInt8 := [3, 61, 28, 42, 180, 0, 216, 162, 0, 41, 42, 180, 0, 56, 28, 46, 27, 160, 0, 25, 42, 42]
abbrev dktX6_holdsAny_0 : List UInt8 := dkwX6_holdsAny_0 ++ dktX6_holdsAny_1
theorem dksX6_holdsAny_0 : cX6_holdsAny.data.toList.drop 0 = dktX6_holdsAny_0 := by decide +kernel
theorem dksX6_holdsAny_1 : cX6_holdsAny.data.toList.drop 22 = dktX6_holdsAny_1 := dk_seg dksX6_holdsAny_0 22 rfl rfl
theorem dksX6_holdsAny_2 : cX6_holdsAny.data.toList.drop 45 = dktX6_holdsAny_2 := dk_seg dksX6_holdsAny_1 23 rfl rfl
theorem dX6_holdsAny_0 : decode cX6_holdsAny 0 = .ok (.iconst 0, 1) := dk_3 (dk_at dksX6_holdsAny_0 0 rfl rfl)
theorem dX6_holdsAny_1 : decode cX6_holdsAny 1 = .ok (.istore_n 2, 1) := dk_61 (dk_at dksX6_holdsAny_0 1 rfl rfl)
theorem dX6_holdsAny_2 : decode cX6_holdsAny 2 = .ok (.iload_n 2, 1) := dk_28 (dk_at dksX6_holdsAny_0 2 rfl rfl)
theorem dX6_holdsAny_3 : decode cX6_holdsAny 3 = .ok (.aload_n 0, 1) := dk_42 (dk_at dksX6_holdsAny_0 3 rfl rfl)
theorem dX6_holdsAny_4 : decode cX6_holdsAny 4 = .ok (.getfield 216, 3) := dk_180 0 216 (dk_at dksX6_holdsAny_0 4 rfl rfl)
theorem dX6_holdsAny_7 : decode cX6_holdsAny 7 = .ok (.if_icmp .ge 41, 3) := dk_162 0 41 (dk_at dksX6_holdsAny_0 7 rfl rfl)
theorem dX6_holdsAny_10 : decode cX6_holdsAny 10 = .ok (.aload_n 0, 1) := dk_42 (dk_at dksX6_holdsAny_0 10 rfl rfl)
theorem dX6_holdsAny_11 : decode cX6_holdsAny 11 = .ok (.getfield 56, 3) := dk_180 0 56 (dk_at dksX6_holdsAny_0 11 rfl rfl)
theorem dX6_holdsAny_14 : decode cX6_holdsAny 14 = .ok (.iload_n 2, 1) := dk_28 (dk_at dksX6_holdsAny_0 14 rfl rfl)
theorem dX6_holdsAny_15 : decode cX6_holdsAny 15 = .ok (.iaload, 1) := dk_46 (dk_at dksX6_holdsAny_0 15 rfl rfl)
theorem dX6_holdsAny_16 : decode cX6_holdsAny 16 = .ok (.iload_n 1, 1) := dk_27 (dk_at dksX6_holdsAny_0 16 rfl rfl)
theorem dX6_holdsAny_17 : decode cX6_holdsAny 17 = .ok (.if_icmp .ne 25, 3) := dk_160 0 25 (dk_at dksX6_holdsAny_0 17 rfl rfl)
theorem dX6_holdsAny_20 : decode cX6_holdsAny 20 = .ok (.aload_n 0, 1) := dk_42 (dk_at dksX6_holdsAny_0 20 rfl rfl)
theorem dX6_holdsAny_21 : decode cX6_holdsAny 21 = .ok (.aload_n 0, 1) := dk_42 (dk_at dksX6_holdsAny_0 21 rfl rfl)
theorem dX6_holdsAny_22 : decode cX6_holdsAny 22 = .ok (.getfield 62, 3) := dk_180 0 62 (dk_at dksX6_holdsAny_1 0 rfl rfl)
theorem dX6_holdsAny_25 : decode cX6_holdsAny 25 = .ok (.iload_n 2, 1) := dk_28 (dk_at dksX6_holdsAny_1 3 rfl rfl)
theorem dX6_holdsAny_26 : decode cX6_holdsAny 26 = .ok (.iaload, 1) := dk_46 (dk_at dksX6_holdsAny_1 4 rfl rfl)
theorem dX6_holdsAny_27 : decode cX6_holdsAny 27 = .ok (.aload_n 0, 1) := dk_42 (dk_at dksX6_holdsAny_1 5 rfl rfl)
theorem dX6_holdsAny_28 : decode cX6_holdsAny 28 = .ok (.getfield 65, 3) := dk_180 0 65 (dk_at dksX6_holdsAny_1 6 rfl rfl)
theorem dX6_holdsAny_31 : decode cX6_holdsAny 31 = .ok (.iload_n 2, 1) := dk_28 (dk_at dksX6_holdsAny_1 9 rfl rfl)
theorem dX6_holdsAny_32 : decode cX6_holdsAny 32 = .ok (.iaload, 1) := dk_46 (dk_at dksX6_holdsAny_1 10 rfl rfl)
theorem dX6_holdsAny_33 : decode cX6_holdsAny 33 = .ok (.invokevirtual 223, 3) := dk_182 0 223 (dk_at dksX6_holdsAny_1 11 rfl rfl)
theorem dX6_holdsAny_36 : decode cX6_holdsAny 36 = .ok (.iconst 1, 1) := dk_4 (dk_at dksX6_holdsAny_1 14 rfl rfl)
theorem dX6_holdsAny_37 : decode cX6_holdsAny 37 = .ok (.if_icmp .ne 5, 3) := dk_160 0 5 (dk_at dksX6_holdsAny_1 15 rfl rfl)
theorem dX6_holdsAny_40 : decode cX6_holdsAny 40 = .ok (.iconst 1, 1) := dk_4 (dk_at dksX6_holdsAny_1 18 rfl rfl)
theorem dX6_holdsAny_41 : decode cX6_holdsAny 41 = .ok (.ireturn, 1) := dk_172 (dk_at dksX6_holdsAny_1 19 rfl rfl)
theorem dX6_holdsAny_42 : decode cX6_holdsAny 42 = .ok (.iinc 2 1, 3) := dk_132 2 1 (dk_at dksX6_holdsAny_1 20 rfl rfl)
theorem dX6_holdsAny_45 : decode cX6_holdsAny 45 = .ok (.goto (-43), 3) := dk_167 255 213 (dk_at dksX6_holdsAny_2 0 rfl rfl)
theorem dX6_holdsAny_48 : decode cX6_holdsAny 48 = .ok (.iconst 0, 1) := dk_3 (dk_at dksX6_holdsAny_2 3 rfl rfl)
theorem dX6_holdsAny_49 : decode cX6_holdsAny 49 = .ok (.ireturn, 1) := dk_172 (dk_at dksX6_holdsAny_2 4 rfl rfl)
abbrev cX6_reckonsTo : ByteArray := prog_20_method_40_code
def yX6_reckonsTo : MethodName := ⟨RX6, "reckonsTo", "(II)I"⟩
def dkwX6_reckonsTo_10 : List UInt8 := [3, 46, 172]
abbrev dktX6_reckonsTo_10 : List UInt8 := dkwX6_reckonsTo_10 ++ []
def dkwX6_reckonsTo_9 : List UInt8 := [180, 0, 68, 29, 4, 100, 46, 42, 180, 0, 68, 29, 46, 184, 0, 219, 79, 167, 255, 42, 42, 180, 0, 68]
abbrev dktX6_reckonsTo_9 : List UInt8 := dkwX6_reckonsTo_9 ++ dktX6_reckonsTo_10
def dkwX6_reckonsTo_8 : List UInt8 := [160, 0, 14, 42, 180, 0, 68, 29, 46, 154, 0, 5, 3, 172, 42, 180, 0, 68, 29, 4, 100, 21, 6, 42]
abbrev dktX6_reckonsTo_8 : List UInt8 := dkwX6_reckonsTo_8 ++ dktX6_reckonsTo_9
def dkwX6_reckonsTo_7 : List UInt8 := [167, 0, 65, 29, 4, 100, 62, 167, 0, 58, 29, 4, 100, 62, 21, 6, 8, 159, 0, 10, 21, 6, 16, 6]
abbrev dktX6_reckonsTo_7 : List UInt8 := dkwX6_reckonsTo_7 ++ dktX6_reckonsTo_8
def dkwX6_reckonsTo_6 : List UInt8 := [100, 46, 21, 6, 16, 12, 160, 0, 7, 4, 167, 0, 4, 3, 160, 0, 13, 21, 4, 21, 7, 96, 54, 5]
abbrev dktX6_reckonsTo_6 : List UInt8 := dkwX6_reckonsTo_6 ++ dktX6_reckonsTo_7
def dkwX6_reckonsTo_5 : List UInt8 := [79, 167, 0, 112, 21, 6, 16, 11, 159, 0, 10, 21, 6, 16, 12, 160, 0, 43, 42, 180, 0, 68, 29, 4]
abbrev dktX6_reckonsTo_5 : List UInt8 := dkwX6_reckonsTo_5 ++ dktX6_reckonsTo_6
def dkwX6_reckonsTo_4 : List UInt8 := [21, 6, 16, 10, 160, 0, 24, 42, 180, 0, 68, 29, 4, 100, 4, 42, 180, 0, 68, 29, 4, 100, 46, 100]
abbrev dktX6_reckonsTo_4 : List UInt8 := dkwX6_reckonsTo_4 ++ dktX6_reckonsTo_5
def dkwX6_reckonsTo_3 : List UInt8 := [154, 0, 8, 21, 7, 167, 0, 10, 42, 180, 0, 71, 21, 7, 46, 79, 29, 4, 96, 62, 167, 0, 140]
abbrev dktX6_reckonsTo_3 : List UInt8 := dkwX6_reckonsTo_3 ++ dktX6_reckonsTo_4
def dkwX6_reckonsTo_2 : List UInt8 := [21, 5, 4, 96, 54, 5, 21, 6, 153, 0, 9, 21, 6, 4, 160, 0, 33, 42, 180, 0, 68, 29, 21, 6]
abbrev dktX6_reckonsTo_2 : List UInt8 := dkwX6_reckonsTo_2 ++ dktX6_reckonsTo_3
def dkwX6_reckonsTo_1 : List UInt8 := [180, 0, 53, 21, 5, 46, 18, 149, 108, 54, 6, 42, 180, 0, 53, 21, 5, 46, 18, 149, 112, 54, 7]
abbrev dktX6_reckonsTo_1 : List UInt8 := dkwX6_reckonsTo_1 ++ dktX6_reckonsTo_2
def dkwX6_reckonsTo_0 : List UInt8 := [3, 62, 17, 1, 4, 27, 17, 1, 4, 108, 104, 54, 4, 27, 54, 5, 21, 5, 28, 162, 0, 214, 42]
abbrev dktX6_reckonsTo_0 : List UInt8 := dkwX6_reckonsTo_0 ++ dktX6_reckonsTo_1
theorem dksX6_reckonsTo_0 : cX6_reckonsTo.data.toList.drop 0 = dktX6_reckonsTo_0 := by decide +kernel
theorem dksX6_reckonsTo_1 : cX6_reckonsTo.data.toList.drop 23 = dktX6_reckonsTo_1 := dk_seg dksX6_reckonsTo_0 23 rfl rfl
theorem dksX6_reckonsTo_2 : cX6_reckonsTo.data.toList.drop 46 = dktX6_reckonsTo_2 := dk_seg dksX6_reckonsTo_1 23 rfl rfl
theorem dksX6_reckonsTo_3 : cX6_reckonsTo.data.toList.drop 70 = dktX6_reckonsTo_3 := dk_seg dksX6_reckonsTo_2 24 rfl rfl
theorem dksX6_reckonsTo_4 : cX6_reckonsTo.data.toList.drop 93 = dktX6_reckonsTo_4 := dk_seg dksX6_reckonsTo_3 23 rfl rfl
theorem dksX6_reckonsTo_5 : cX6_reckonsTo.data.toList.drop 117 = dktX6_reckonsTo_5 := dk_seg dksX6_reckonsTo_4 24 rfl rfl
theorem dksX6_reckonsTo_6 : cX6_reckonsTo.data.toList.drop 141 = dktX6_reckonsTo_6 := dk_seg dksX6_reckonsTo_5 24 rfl rfl
theorem dksX6_reckonsTo_7 : cX6_reckonsTo.data.toList.drop 165 = dktX6_reckonsTo_7 := dk_seg dksX6_reckonsTo_6 24 rfl rfl
theorem dksX6_reckonsTo_8 : cX6_reckonsTo.data.toList.drop 189 = dktX6_reckonsTo_8 := dk_seg dksX6_reckonsTo_7 24 rfl rfl
theorem dksX6_reckonsTo_9 : cX6_reckonsTo.data.toList.drop 213 = dktX6_reckonsTo_9 := dk_seg dksX6_reckonsTo_8 24 rfl rfl
theorem dksX6_reckonsTo_10 : cX6_reckonsTo.data.toList.drop 237 = dktX6_reckonsTo_10 := dk_seg dksX6_reckonsTo_9 24 rfl rfl
theorem dX6_reckonsTo_0 : decode cX6_reckonsTo 0 = .ok (.iconst 0, 1) := dk_3 (dk_at dksX6_reckonsTo_0 0 rfl rfl)
theorem dX6_reckonsTo_1 : decode cX6_reckonsTo 1 = .ok (.istore_n 3, 1) := dk_62 (dk_at dksX6_reckonsTo_0 1 rfl rfl)
theorem dX6_reckonsTo_2 : decode cX6_reckonsTo 2 = .ok (.sipush 260, 3) := dk_17 1 4 (dk_at dksX6_reckonsTo_0 2 rfl rfl)
theorem dX6_reckonsTo_5 : decode cX6_reckonsTo 5 = .ok (.iload_n 1, 1) := dk_27 (dk_at dksX6_reckonsTo_0 5 rfl rfl)
theorem dX6_reckonsTo_6 : decode cX6_reckonsTo 6 = .ok (.sipush 260, 3) := dk_17 1 4 (dk_at dksX6_reckonsTo_0 6 rfl rfl)
theorem dX6_reckonsTo_9 : decode cX6_reckonsTo 9 = .ok (.idiv, 1) := dk_108 (dk_at dksX6_reckonsTo_0 9 rfl rfl)
theorem dX6_reckonsTo_10 : decode cX6_reckonsTo 10 = .ok (.imul, 1) := dk_104 (dk_at dksX6_reckonsTo_0 10 rfl rfl)
theorem dX6_reckonsTo_11 : decode cX6_reckonsTo 11 = .ok (.istore 4, 2) := dk_54 4 (dk_at dksX6_reckonsTo_0 11 rfl rfl)
theorem dX6_reckonsTo_13 : decode cX6_reckonsTo 13 = .ok (.iload_n 1, 1) := dk_27 (dk_at dksX6_reckonsTo_0 13 rfl rfl)
theorem dX6_reckonsTo_14 : decode cX6_reckonsTo 14 = .ok (.istore 5, 2) := dk_54 5 (dk_at dksX6_reckonsTo_0 14 rfl rfl)
theorem dX6_reckonsTo_16 : decode cX6_reckonsTo 16 = .ok (.iload 5, 2) := dk_21 5 (dk_at dksX6_reckonsTo_0 16 rfl rfl)
theorem dX6_reckonsTo_18 : decode cX6_reckonsTo 18 = .ok (.iload_n 2, 1) := dk_28 (dk_at dksX6_reckonsTo_0 18 rfl rfl)
theorem dX6_reckonsTo_19 : decode cX6_reckonsTo 19 = .ok (.if_icmp .ge 214, 3) := dk_162 0 214 (dk_at dksX6_reckonsTo_0 19 rfl rfl)
theorem dX6_reckonsTo_22 : decode cX6_reckonsTo 22 = .ok (.aload_n 0, 1) := dk_42 (dk_at dksX6_reckonsTo_0 22 rfl rfl)
theorem dX6_reckonsTo_23 : decode cX6_reckonsTo 23 = .ok (.getfield 53, 3) := dk_180 0 53 (dk_at dksX6_reckonsTo_1 0 rfl rfl)
theorem dX6_reckonsTo_26 : decode cX6_reckonsTo 26 = .ok (.iload 5, 2) := dk_21 5 (dk_at dksX6_reckonsTo_1 3 rfl rfl)
theorem dX6_reckonsTo_28 : decode cX6_reckonsTo 28 = .ok (.iaload, 1) := dk_46 (dk_at dksX6_reckonsTo_1 5 rfl rfl)
theorem dX6_reckonsTo_29 : decode cX6_reckonsTo 29 = .ok (.ldc 149, 2) := dk_18 149 (dk_at dksX6_reckonsTo_1 6 rfl rfl)
theorem dX6_reckonsTo_31 : decode cX6_reckonsTo 31 = .ok (.idiv, 1) := dk_108 (dk_at dksX6_reckonsTo_1 8 rfl rfl)
theorem dX6_reckonsTo_32 : decode cX6_reckonsTo 32 = .ok (.istore 6, 2) := dk_54 6 (dk_at dksX6_reckonsTo_1 9 rfl rfl)
theorem dX6_reckonsTo_34 : decode cX6_reckonsTo 34 = .ok (.aload_n 0, 1) := dk_42 (dk_at dksX6_reckonsTo_1 11 rfl rfl)
theorem dX6_reckonsTo_35 : decode cX6_reckonsTo 35 = .ok (.getfield 53, 3) := dk_180 0 53 (dk_at dksX6_reckonsTo_1 12 rfl rfl)
theorem dX6_reckonsTo_38 : decode cX6_reckonsTo 38 = .ok (.iload 5, 2) := dk_21 5 (dk_at dksX6_reckonsTo_1 15 rfl rfl)
theorem dX6_reckonsTo_40 : decode cX6_reckonsTo 40 = .ok (.iaload, 1) := dk_46 (dk_at dksX6_reckonsTo_1 17 rfl rfl)
theorem dX6_reckonsTo_41 : decode cX6_reckonsTo 41 = .ok (.ldc 149, 2) := dk_18 149 (dk_at dksX6_reckonsTo_1 18 rfl rfl)
theorem dX6_reckonsTo_43 : decode cX6_reckonsTo 43 = .ok (.irem, 1) := dk_112 (dk_at dksX6_reckonsTo_1 20 rfl rfl)
theorem dX6_reckonsTo_44 : decode cX6_reckonsTo 44 = .ok (.istore 7, 2) := dk_54 7 (dk_at dksX6_reckonsTo_1 21 rfl rfl)
theorem dX6_reckonsTo_46 : decode cX6_reckonsTo 46 = .ok (.iload 5, 2) := dk_21 5 (dk_at dksX6_reckonsTo_2 0 rfl rfl)
theorem dX6_reckonsTo_48 : decode cX6_reckonsTo 48 = .ok (.iconst 1, 1) := dk_4 (dk_at dksX6_reckonsTo_2 2 rfl rfl)
theorem dX6_reckonsTo_49 : decode cX6_reckonsTo 49 = .ok (.iadd, 1) := dk_96 (dk_at dksX6_reckonsTo_2 3 rfl rfl)
theorem dX6_reckonsTo_50 : decode cX6_reckonsTo 50 = .ok (.istore 5, 2) := dk_54 5 (dk_at dksX6_reckonsTo_2 4 rfl rfl)
theorem dX6_reckonsTo_52 : decode cX6_reckonsTo 52 = .ok (.iload 6, 2) := dk_21 6 (dk_at dksX6_reckonsTo_2 6 rfl rfl)
theorem dX6_reckonsTo_54 : decode cX6_reckonsTo 54 = .ok (.ifCond .eq 9, 3) := dk_153 0 9 (dk_at dksX6_reckonsTo_2 8 rfl rfl)
theorem dX6_reckonsTo_57 : decode cX6_reckonsTo 57 = .ok (.iload 6, 2) := dk_21 6 (dk_at dksX6_reckonsTo_2 11 rfl rfl)
theorem dX6_reckonsTo_59 : decode cX6_reckonsTo 59 = .ok (.iconst 1, 1) := dk_4 (dk_at dksX6_reckonsTo_2 13 rfl rfl)
theorem dX6_reckonsTo_60 : decode cX6_reckonsTo 60 = .ok (.if_icmp .ne 33, 3) := dk_160 0 33 (dk_at dksX6_reckonsTo_2 14 rfl rfl)
theorem dX6_reckonsTo_63 : decode cX6_reckonsTo 63 = .ok (.aload_n 0, 1) := dk_42 (dk_at dksX6_reckonsTo_2 17 rfl rfl)
theorem dX6_reckonsTo_64 : decode cX6_reckonsTo 64 = .ok (.getfield 68, 3) := dk_180 0 68 (dk_at dksX6_reckonsTo_2 18 rfl rfl)
theorem dX6_reckonsTo_67 : decode cX6_reckonsTo 67 = .ok (.iload_n 3, 1) := dk_29 (dk_at dksX6_reckonsTo_2 21 rfl rfl)
theorem dX6_reckonsTo_68 : decode cX6_reckonsTo 68 = .ok (.iload 6, 2) := dk_21 6 (dk_at dksX6_reckonsTo_2 22 rfl rfl)
theorem dX6_reckonsTo_70 : decode cX6_reckonsTo 70 = .ok (.ifCond .ne 8, 3) := dk_154 0 8 (dk_at dksX6_reckonsTo_3 0 rfl rfl)
theorem dX6_reckonsTo_73 : decode cX6_reckonsTo 73 = .ok (.iload 7, 2) := dk_21 7 (dk_at dksX6_reckonsTo_3 3 rfl rfl)
theorem dX6_reckonsTo_75 : decode cX6_reckonsTo 75 = .ok (.goto 10, 3) := dk_167 0 10 (dk_at dksX6_reckonsTo_3 5 rfl rfl)
theorem dX6_reckonsTo_78 : decode cX6_reckonsTo 78 = .ok (.aload_n 0, 1) := dk_42 (dk_at dksX6_reckonsTo_3 8 rfl rfl)
theorem dX6_reckonsTo_79 : decode cX6_reckonsTo 79 = .ok (.getfield 71, 3) := dk_180 0 71 (dk_at dksX6_reckonsTo_3 9 rfl rfl)
theorem dX6_reckonsTo_82 : decode cX6_reckonsTo 82 = .ok (.iload 7, 2) := dk_21 7 (dk_at dksX6_reckonsTo_3 12 rfl rfl)
theorem dX6_reckonsTo_84 : decode cX6_reckonsTo 84 = .ok (.iaload, 1) := dk_46 (dk_at dksX6_reckonsTo_3 14 rfl rfl)
theorem dX6_reckonsTo_85 : decode cX6_reckonsTo 85 = .ok (.iastore, 1) := dk_79 (dk_at dksX6_reckonsTo_3 15 rfl rfl)
theorem dX6_reckonsTo_86 : decode cX6_reckonsTo 86 = .ok (.iload_n 3, 1) := dk_29 (dk_at dksX6_reckonsTo_3 16 rfl rfl)
theorem dX6_reckonsTo_87 : decode cX6_reckonsTo 87 = .ok (.iconst 1, 1) := dk_4 (dk_at dksX6_reckonsTo_3 17 rfl rfl)
theorem dX6_reckonsTo_88 : decode cX6_reckonsTo 88 = .ok (.iadd, 1) := dk_96 (dk_at dksX6_reckonsTo_3 18 rfl rfl)
theorem dX6_reckonsTo_89 : decode cX6_reckonsTo 89 = .ok (.istore_n 3, 1) := dk_62 (dk_at dksX6_reckonsTo_3 19 rfl rfl)
theorem dX6_reckonsTo_90 : decode cX6_reckonsTo 90 = .ok (.goto 140, 3) := dk_167 0 140 (dk_at dksX6_reckonsTo_3 20 rfl rfl)
theorem dX6_reckonsTo_93 : decode cX6_reckonsTo 93 = .ok (.iload 6, 2) := dk_21 6 (dk_at dksX6_reckonsTo_4 0 rfl rfl)
theorem dX6_reckonsTo_95 : decode cX6_reckonsTo 95 = .ok (.bipush 10, 2) := dk_16 10 (dk_at dksX6_reckonsTo_4 2 rfl rfl)
theorem dX6_reckonsTo_97 : decode cX6_reckonsTo 97 = .ok (.if_icmp .ne 24, 3) := dk_160 0 24 (dk_at dksX6_reckonsTo_4 4 rfl rfl)
theorem dX6_reckonsTo_100 : decode cX6_reckonsTo 100 = .ok (.aload_n 0, 1) := dk_42 (dk_at dksX6_reckonsTo_4 7 rfl rfl)
theorem dX6_reckonsTo_101 : decode cX6_reckonsTo 101 = .ok (.getfield 68, 3) := dk_180 0 68 (dk_at dksX6_reckonsTo_4 8 rfl rfl)
theorem dX6_reckonsTo_104 : decode cX6_reckonsTo 104 = .ok (.iload_n 3, 1) := dk_29 (dk_at dksX6_reckonsTo_4 11 rfl rfl)
theorem dX6_reckonsTo_105 : decode cX6_reckonsTo 105 = .ok (.iconst 1, 1) := dk_4 (dk_at dksX6_reckonsTo_4 12 rfl rfl)
theorem dX6_reckonsTo_106 : decode cX6_reckonsTo 106 = .ok (.isub, 1) := dk_100 (dk_at dksX6_reckonsTo_4 13 rfl rfl)
theorem dX6_reckonsTo_107 : decode cX6_reckonsTo 107 = .ok (.iconst 1, 1) := dk_4 (dk_at dksX6_reckonsTo_4 14 rfl rfl)
theorem dX6_reckonsTo_108 : decode cX6_reckonsTo 108 = .ok (.aload_n 0, 1) := dk_42 (dk_at dksX6_reckonsTo_4 15 rfl rfl)
theorem dX6_reckonsTo_109 : decode cX6_reckonsTo 109 = .ok (.getfield 68, 3) := dk_180 0 68 (dk_at dksX6_reckonsTo_4 16 rfl rfl)
theorem dX6_reckonsTo_112 : decode cX6_reckonsTo 112 = .ok (.iload_n 3, 1) := dk_29 (dk_at dksX6_reckonsTo_4 19 rfl rfl)
theorem dX6_reckonsTo_113 : decode cX6_reckonsTo 113 = .ok (.iconst 1, 1) := dk_4 (dk_at dksX6_reckonsTo_4 20 rfl rfl)
theorem dX6_reckonsTo_114 : decode cX6_reckonsTo 114 = .ok (.isub, 1) := dk_100 (dk_at dksX6_reckonsTo_4 21 rfl rfl)
theorem dX6_reckonsTo_115 : decode cX6_reckonsTo 115 = .ok (.iaload, 1) := dk_46 (dk_at dksX6_reckonsTo_4 22 rfl rfl)
theorem dX6_reckonsTo_116 : decode cX6_reckonsTo 116 = .ok (.isub, 1) := dk_100 (dk_at dksX6_reckonsTo_4 23 rfl rfl)
theorem dX6_reckonsTo_117 : decode cX6_reckonsTo 117 = .ok (.iastore, 1) := dk_79 (dk_at dksX6_reckonsTo_5 0 rfl rfl)
theorem dX6_reckonsTo_118 : decode cX6_reckonsTo 118 = .ok (.goto 112, 3) := dk_167 0 112 (dk_at dksX6_reckonsTo_5 1 rfl rfl)
theorem dX6_reckonsTo_121 : decode cX6_reckonsTo 121 = .ok (.iload 6, 2) := dk_21 6 (dk_at dksX6_reckonsTo_5 4 rfl rfl)
theorem dX6_reckonsTo_123 : decode cX6_reckonsTo 123 = .ok (.bipush 11, 2) := dk_16 11 (dk_at dksX6_reckonsTo_5 6 rfl rfl)
theorem dX6_reckonsTo_125 : decode cX6_reckonsTo 125 = .ok (.if_icmp .eq 10, 3) := dk_159 0 10 (dk_at dksX6_reckonsTo_5 8 rfl rfl)
theorem dX6_reckonsTo_128 : decode cX6_reckonsTo 128 = .ok (.iload 6, 2) := dk_21 6 (dk_at dksX6_reckonsTo_5 11 rfl rfl)
theorem dX6_reckonsTo_130 : decode cX6_reckonsTo 130 = .ok (.bipush 12, 2) := dk_16 12 (dk_at dksX6_reckonsTo_5 13 rfl rfl)
theorem dX6_reckonsTo_132 : decode cX6_reckonsTo 132 = .ok (.if_icmp .ne 43, 3) := dk_160 0 43 (dk_at dksX6_reckonsTo_5 15 rfl rfl)
theorem dX6_reckonsTo_135 : decode cX6_reckonsTo 135 = .ok (.aload_n 0, 1) := dk_42 (dk_at dksX6_reckonsTo_5 18 rfl rfl)
theorem dX6_reckonsTo_136 : decode cX6_reckonsTo 136 = .ok (.getfield 68, 3) := dk_180 0 68 (dk_at dksX6_reckonsTo_5 19 rfl rfl)
theorem dX6_reckonsTo_139 : decode cX6_reckonsTo 139 = .ok (.iload_n 3, 1) := dk_29 (dk_at dksX6_reckonsTo_5 22 rfl rfl)
theorem dX6_reckonsTo_140 : decode cX6_reckonsTo 140 = .ok (.iconst 1, 1) := dk_4 (dk_at dksX6_reckonsTo_5 23 rfl rfl)
theorem dX6_reckonsTo_141 : decode cX6_reckonsTo 141 = .ok (.isub, 1) := dk_100 (dk_at dksX6_reckonsTo_6 0 rfl rfl)
theorem dX6_reckonsTo_142 : decode cX6_reckonsTo 142 = .ok (.iaload, 1) := dk_46 (dk_at dksX6_reckonsTo_6 1 rfl rfl)
theorem dX6_reckonsTo_143 : decode cX6_reckonsTo 143 = .ok (.iload 6, 2) := dk_21 6 (dk_at dksX6_reckonsTo_6 2 rfl rfl)
theorem dX6_reckonsTo_145 : decode cX6_reckonsTo 145 = .ok (.bipush 12, 2) := dk_16 12 (dk_at dksX6_reckonsTo_6 4 rfl rfl)
theorem dX6_reckonsTo_147 : decode cX6_reckonsTo 147 = .ok (.if_icmp .ne 7, 3) := dk_160 0 7 (dk_at dksX6_reckonsTo_6 6 rfl rfl)
theorem dX6_reckonsTo_150 : decode cX6_reckonsTo 150 = .ok (.iconst 1, 1) := dk_4 (dk_at dksX6_reckonsTo_6 9 rfl rfl)
theorem dX6_reckonsTo_151 : decode cX6_reckonsTo 151 = .ok (.goto 4, 3) := dk_167 0 4 (dk_at dksX6_reckonsTo_6 10 rfl rfl)
theorem dX6_reckonsTo_154 : decode cX6_reckonsTo 154 = .ok (.iconst 0, 1) := dk_3 (dk_at dksX6_reckonsTo_6 13 rfl rfl)
theorem dX6_reckonsTo_155 : decode cX6_reckonsTo 155 = .ok (.if_icmp .ne 13, 3) := dk_160 0 13 (dk_at dksX6_reckonsTo_6 14 rfl rfl)
theorem dX6_reckonsTo_158 : decode cX6_reckonsTo 158 = .ok (.iload 4, 2) := dk_21 4 (dk_at dksX6_reckonsTo_6 17 rfl rfl)
theorem dX6_reckonsTo_160 : decode cX6_reckonsTo 160 = .ok (.iload 7, 2) := dk_21 7 (dk_at dksX6_reckonsTo_6 19 rfl rfl)
theorem dX6_reckonsTo_162 : decode cX6_reckonsTo 162 = .ok (.iadd, 1) := dk_96 (dk_at dksX6_reckonsTo_6 21 rfl rfl)
theorem dX6_reckonsTo_163 : decode cX6_reckonsTo 163 = .ok (.istore 5, 2) := dk_54 5 (dk_at dksX6_reckonsTo_6 22 rfl rfl)
theorem dX6_reckonsTo_165 : decode cX6_reckonsTo 165 = .ok (.goto 65, 3) := dk_167 0 65 (dk_at dksX6_reckonsTo_7 0 rfl rfl)
theorem dX6_reckonsTo_168 : decode cX6_reckonsTo 168 = .ok (.iload_n 3, 1) := dk_29 (dk_at dksX6_reckonsTo_7 3 rfl rfl)
theorem dX6_reckonsTo_169 : decode cX6_reckonsTo 169 = .ok (.iconst 1, 1) := dk_4 (dk_at dksX6_reckonsTo_7 4 rfl rfl)
theorem dX6_reckonsTo_170 : decode cX6_reckonsTo 170 = .ok (.isub, 1) := dk_100 (dk_at dksX6_reckonsTo_7 5 rfl rfl)
theorem dX6_reckonsTo_171 : decode cX6_reckonsTo 171 = .ok (.istore_n 3, 1) := dk_62 (dk_at dksX6_reckonsTo_7 6 rfl rfl)
theorem dX6_reckonsTo_172 : decode cX6_reckonsTo 172 = .ok (.goto 58, 3) := dk_167 0 58 (dk_at dksX6_reckonsTo_7 7 rfl rfl)
theorem dX6_reckonsTo_175 : decode cX6_reckonsTo 175 = .ok (.iload_n 3, 1) := dk_29 (dk_at dksX6_reckonsTo_7 10 rfl rfl)
theorem dX6_reckonsTo_176 : decode cX6_reckonsTo 176 = .ok (.iconst 1, 1) := dk_4 (dk_at dksX6_reckonsTo_7 11 rfl rfl)
theorem dX6_reckonsTo_177 : decode cX6_reckonsTo 177 = .ok (.isub, 1) := dk_100 (dk_at dksX6_reckonsTo_7 12 rfl rfl)
theorem dX6_reckonsTo_178 : decode cX6_reckonsTo 178 = .ok (.istore_n 3, 1) := dk_62 (dk_at dksX6_reckonsTo_7 13 rfl rfl)
theorem dX6_reckonsTo_179 : decode cX6_reckonsTo 179 = .ok (.iload 6, 2) := dk_21 6 (dk_at dksX6_reckonsTo_7 14 rfl rfl)
theorem dX6_reckonsTo_181 : decode cX6_reckonsTo 181 = .ok (.iconst 5, 1) := dk_8 (dk_at dksX6_reckonsTo_7 16 rfl rfl)
theorem dX6_reckonsTo_182 : decode cX6_reckonsTo 182 = .ok (.if_icmp .eq 10, 3) := dk_159 0 10 (dk_at dksX6_reckonsTo_7 17 rfl rfl)
theorem dX6_reckonsTo_185 : decode cX6_reckonsTo 185 = .ok (.iload 6, 2) := dk_21 6 (dk_at dksX6_reckonsTo_7 20 rfl rfl)
theorem dX6_reckonsTo_187 : decode cX6_reckonsTo 187 = .ok (.bipush 6, 2) := dk_16 6 (dk_at dksX6_reckonsTo_7 22 rfl rfl)
theorem dX6_reckonsTo_189 : decode cX6_reckonsTo 189 = .ok (.if_icmp .ne 14, 3) := dk_160 0 14 (dk_at dksX6_reckonsTo_8 0 rfl rfl)
theorem dX6_reckonsTo_192 : decode cX6_reckonsTo 192 = .ok (.aload_n 0, 1) := dk_42 (dk_at dksX6_reckonsTo_8 3 rfl rfl)
theorem dX6_reckonsTo_193 : decode cX6_reckonsTo 193 = .ok (.getfield 68, 3) := dk_180 0 68 (dk_at dksX6_reckonsTo_8 4 rfl rfl)
theorem dX6_reckonsTo_196 : decode cX6_reckonsTo 196 = .ok (.iload_n 3, 1) := dk_29 (dk_at dksX6_reckonsTo_8 7 rfl rfl)
theorem dX6_reckonsTo_197 : decode cX6_reckonsTo 197 = .ok (.iaload, 1) := dk_46 (dk_at dksX6_reckonsTo_8 8 rfl rfl)
theorem dX6_reckonsTo_198 : decode cX6_reckonsTo 198 = .ok (.ifCond .ne 5, 3) := dk_154 0 5 (dk_at dksX6_reckonsTo_8 9 rfl rfl)
theorem dX6_reckonsTo_201 : decode cX6_reckonsTo 201 = .ok (.iconst 0, 1) := dk_3 (dk_at dksX6_reckonsTo_8 12 rfl rfl)
theorem dX6_reckonsTo_202 : decode cX6_reckonsTo 202 = .ok (.ireturn, 1) := dk_172 (dk_at dksX6_reckonsTo_8 13 rfl rfl)
theorem dX6_reckonsTo_203 : decode cX6_reckonsTo 203 = .ok (.aload_n 0, 1) := dk_42 (dk_at dksX6_reckonsTo_8 14 rfl rfl)
theorem dX6_reckonsTo_204 : decode cX6_reckonsTo 204 = .ok (.getfield 68, 3) := dk_180 0 68 (dk_at dksX6_reckonsTo_8 15 rfl rfl)
theorem dX6_reckonsTo_207 : decode cX6_reckonsTo 207 = .ok (.iload_n 3, 1) := dk_29 (dk_at dksX6_reckonsTo_8 18 rfl rfl)
theorem dX6_reckonsTo_208 : decode cX6_reckonsTo 208 = .ok (.iconst 1, 1) := dk_4 (dk_at dksX6_reckonsTo_8 19 rfl rfl)
theorem dX6_reckonsTo_209 : decode cX6_reckonsTo 209 = .ok (.isub, 1) := dk_100 (dk_at dksX6_reckonsTo_8 20 rfl rfl)
theorem dX6_reckonsTo_210 : decode cX6_reckonsTo 210 = .ok (.iload 6, 2) := dk_21 6 (dk_at dksX6_reckonsTo_8 21 rfl rfl)
theorem dX6_reckonsTo_212 : decode cX6_reckonsTo 212 = .ok (.aload_n 0, 1) := dk_42 (dk_at dksX6_reckonsTo_8 23 rfl rfl)
theorem dX6_reckonsTo_213 : decode cX6_reckonsTo 213 = .ok (.getfield 68, 3) := dk_180 0 68 (dk_at dksX6_reckonsTo_9 0 rfl rfl)
theorem dX6_reckonsTo_216 : decode cX6_reckonsTo 216 = .ok (.iload_n 3, 1) := dk_29 (dk_at dksX6_reckonsTo_9 3 rfl rfl)
theorem dX6_reckonsTo_217 : decode cX6_reckonsTo 217 = .ok (.iconst 1, 1) := dk_4 (dk_at dksX6_reckonsTo_9 4 rfl rfl)
theorem dX6_reckonsTo_218 : decode cX6_reckonsTo 218 = .ok (.isub, 1) := dk_100 (dk_at dksX6_reckonsTo_9 5 rfl rfl)
theorem dX6_reckonsTo_219 : decode cX6_reckonsTo 219 = .ok (.iaload, 1) := dk_46 (dk_at dksX6_reckonsTo_9 6 rfl rfl)
theorem dX6_reckonsTo_220 : decode cX6_reckonsTo 220 = .ok (.aload_n 0, 1) := dk_42 (dk_at dksX6_reckonsTo_9 7 rfl rfl)
theorem dX6_reckonsTo_221 : decode cX6_reckonsTo 221 = .ok (.getfield 68, 3) := dk_180 0 68 (dk_at dksX6_reckonsTo_9 8 rfl rfl)
theorem dX6_reckonsTo_224 : decode cX6_reckonsTo 224 = .ok (.iload_n 3, 1) := dk_29 (dk_at dksX6_reckonsTo_9 11 rfl rfl)
theorem dX6_reckonsTo_225 : decode cX6_reckonsTo 225 = .ok (.iaload, 1) := dk_46 (dk_at dksX6_reckonsTo_9 12 rfl rfl)
theorem dX6_reckonsTo_226 : decode cX6_reckonsTo 226 = .ok (.invokestatic 219, 3) := dk_184 0 219 (dk_at dksX6_reckonsTo_9 13 rfl rfl)
theorem dX6_reckonsTo_229 : decode cX6_reckonsTo 229 = .ok (.iastore, 1) := dk_79 (dk_at dksX6_reckonsTo_9 16 rfl rfl)
theorem dX6_reckonsTo_230 : decode cX6_reckonsTo 230 = .ok (.goto (-214), 3) := dk_167 255 42 (dk_at dksX6_reckonsTo_9 17 rfl rfl)
theorem dX6_reckonsTo_233 : decode cX6_reckonsTo 233 = .ok (.aload_n 0, 1) := dk_42 (dk_at dksX6_reckonsTo_9 20 rfl rfl)
theorem dX6_reckonsTo_234 : decode cX6_reckonsTo 234 = .ok (.getfield 68, 3) := dk_180 0 68 (dk_at dksX6_reckonsTo_9 21 rfl rfl)
theorem dX6_reckonsTo_237 : decode cX6_reckonsTo 237 = .ok (.iconst 0, 1) := dk_3 (dk_at dksX6_reckonsTo_10 0 rfl rfl)
theorem dX6_reckonsTo_238 : decode cX6_reckonsTo 238 = .ok (.iaload, 1) := dk_46 (dk_at dksX6_reckonsTo_10 1 rfl rfl)
theorem dX6_reckonsTo_239 : decode cX6_reckonsTo 239 = .ok (.ireturn, 1) := dk_172 (dk_at dksX6_reckonsTo_10 2 rfl rfl)
abbrev cX6_reckon : ByteArray := prog_20_method_39_code
def yX6_reckon : MethodName := ⟨RX6, "reckon", "(III)I"⟩
def dkwX6_reckon_4 : List UInt8 := [160, 0, 7, 4, 167, 0, 4, 3, 172]
abbrev dktX6_reckon_4 : List UInt8 := dkwX6_reckon_4 ++ []
def dkwX6_reckon_3 : List UInt8 := [162, 0, 7, 4, 167, 0, 4, 3, 172, 27, 28, 164, 0, 7, 4, 167, 0, 4, 3, 172, 27, 28]
abbrev dktX6_reckon_3 : List UInt8 := dkwX6_reckon_3 ++ dktX6_reckon_4
def dkwX6_reckon_2 : List UInt8 := [27, 28, 96, 172, 27, 28, 100, 172, 27, 28, 104, 172, 27, 28, 108, 172, 27, 28, 112, 172, 27, 28]
abbrev dktX6_reckon_2 : List UInt8 := dkwX6_reckon_2 ++ dktX6_reckon_3
def dkwX6_reckon_1 : List UInt8 := [170, 0, 0, 0, 0, 0, 85, 0, 0, 0, 2, 0, 0, 0, 8, 0, 0, 0, 43, 0, 0, 0, 47, 0, 0, 0, 51, 0, 0, 0, 55, 0, 0, 0, 59, 0, 0, 0, 63, 0, 0, 0, 74]
abbrev dktX6_reckon_1 : List UInt8 := dkwX6_reckon_1 ++ dktX6_reckon_2
def dkwX6_reckon_0 : List UInt8 := [26]
abbrev dktX6_reckon_0 : List UInt8 := dkwX6_reckon_0 ++ dktX6_reckon_1
theorem dksX6_reckon_0 : cX6_reckon.data.toList.drop 0 = dktX6_reckon_0 := by decide +kernel
theorem dksX6_reckon_1 : cX6_reckon.data.toList.drop 1 = dktX6_reckon_1 := dk_seg dksX6_reckon_0 1 rfl rfl
theorem dksX6_reckon_2 : cX6_reckon.data.toList.drop 44 = dktX6_reckon_2 := dk_seg dksX6_reckon_1 43 rfl rfl
theorem dksX6_reckon_3 : cX6_reckon.data.toList.drop 66 = dktX6_reckon_3 := dk_seg dksX6_reckon_2 22 rfl rfl
theorem dksX6_reckon_4 : cX6_reckon.data.toList.drop 88 = dktX6_reckon_4 := dk_seg dksX6_reckon_3 22 rfl rfl
theorem dX6_reckon_0 : decode cX6_reckon 0 = .ok (.iload_n 0, 1) := dk_26 (dk_at dksX6_reckon_0 0 rfl rfl)
theorem dX6_reckon_1 : decode cX6_reckon 1 = .ok (.tableswitch 85 2 8 #[43, 47, 51, 55, 59, 63, 74], 43) := by decide +kernel
theorem dX6_reckon_44 : decode cX6_reckon 44 = .ok (.iload_n 1, 1) := dk_27 (dk_at dksX6_reckon_2 0 rfl rfl)
theorem dX6_reckon_45 : decode cX6_reckon 45 = .ok (.iload_n 2, 1) := dk_28 (dk_at dksX6_reckon_2 1 rfl rfl)
theorem dX6_reckon_46 : decode cX6_reckon 46 = .ok (.iadd, 1) := dk_96 (dk_at dksX6_reckon_2 2 rfl rfl)
theorem dX6_reckon_47 : decode cX6_reckon 47 = .ok (.ireturn, 1) := dk_172 (dk_at dksX6_reckon_2 3 rfl rfl)
theorem dX6_reckon_48 : decode cX6_reckon 48 = .ok (.iload_n 1, 1) := dk_27 (dk_at dksX6_reckon_2 4 rfl rfl)
theorem dX6_reckon_49 : decode cX6_reckon 49 = .ok (.iload_n 2, 1) := dk_28 (dk_at dksX6_reckon_2 5 rfl rfl)
theorem dX6_reckon_50 : decode cX6_reckon 50 = .ok (.isub, 1) := dk_100 (dk_at dksX6_reckon_2 6 rfl rfl)
theorem dX6_reckon_51 : decode cX6_reckon 51 = .ok (.ireturn, 1) := dk_172 (dk_at dksX6_reckon_2 7 rfl rfl)
theorem dX6_reckon_52 : decode cX6_reckon 52 = .ok (.iload_n 1, 1) := dk_27 (dk_at dksX6_reckon_2 8 rfl rfl)
theorem dX6_reckon_53 : decode cX6_reckon 53 = .ok (.iload_n 2, 1) := dk_28 (dk_at dksX6_reckon_2 9 rfl rfl)
theorem dX6_reckon_54 : decode cX6_reckon 54 = .ok (.imul, 1) := dk_104 (dk_at dksX6_reckon_2 10 rfl rfl)
theorem dX6_reckon_55 : decode cX6_reckon 55 = .ok (.ireturn, 1) := dk_172 (dk_at dksX6_reckon_2 11 rfl rfl)
theorem dX6_reckon_56 : decode cX6_reckon 56 = .ok (.iload_n 1, 1) := dk_27 (dk_at dksX6_reckon_2 12 rfl rfl)
theorem dX6_reckon_57 : decode cX6_reckon 57 = .ok (.iload_n 2, 1) := dk_28 (dk_at dksX6_reckon_2 13 rfl rfl)
theorem dX6_reckon_58 : decode cX6_reckon 58 = .ok (.idiv, 1) := dk_108 (dk_at dksX6_reckon_2 14 rfl rfl)
theorem dX6_reckon_59 : decode cX6_reckon 59 = .ok (.ireturn, 1) := dk_172 (dk_at dksX6_reckon_2 15 rfl rfl)
theorem dX6_reckon_60 : decode cX6_reckon 60 = .ok (.iload_n 1, 1) := dk_27 (dk_at dksX6_reckon_2 16 rfl rfl)
theorem dX6_reckon_61 : decode cX6_reckon 61 = .ok (.iload_n 2, 1) := dk_28 (dk_at dksX6_reckon_2 17 rfl rfl)
theorem dX6_reckon_62 : decode cX6_reckon 62 = .ok (.irem, 1) := dk_112 (dk_at dksX6_reckon_2 18 rfl rfl)
theorem dX6_reckon_63 : decode cX6_reckon 63 = .ok (.ireturn, 1) := dk_172 (dk_at dksX6_reckon_2 19 rfl rfl)
theorem dX6_reckon_64 : decode cX6_reckon 64 = .ok (.iload_n 1, 1) := dk_27 (dk_at dksX6_reckon_2 20 rfl rfl)
theorem dX6_reckon_65 : decode cX6_reckon 65 = .ok (.iload_n 2, 1) := dk_28 (dk_at dksX6_reckon_2 21 rfl rfl)
theorem dX6_reckon_66 : decode cX6_reckon 66 = .ok (.if_icmp .ge 7, 3) := dk_162 0 7 (dk_at dksX6_reckon_3 0 rfl rfl)
theorem dX6_reckon_69 : decode cX6_reckon 69 = .ok (.iconst 1, 1) := dk_4 (dk_at dksX6_reckon_3 3 rfl rfl)
theorem dX6_reckon_70 : decode cX6_reckon 70 = .ok (.goto 4, 3) := dk_167 0 4 (dk_at dksX6_reckon_3 4 rfl rfl)
theorem dX6_reckon_73 : decode cX6_reckon 73 = .ok (.iconst 0, 1) := dk_3 (dk_at dksX6_reckon_3 7 rfl rfl)
theorem dX6_reckon_74 : decode cX6_reckon 74 = .ok (.ireturn, 1) := dk_172 (dk_at dksX6_reckon_3 8 rfl rfl)
theorem dX6_reckon_75 : decode cX6_reckon 75 = .ok (.iload_n 1, 1) := dk_27 (dk_at dksX6_reckon_3 9 rfl rfl)
theorem dX6_reckon_76 : decode cX6_reckon 76 = .ok (.iload_n 2, 1) := dk_28 (dk_at dksX6_reckon_3 10 rfl rfl)
theorem dX6_reckon_77 : decode cX6_reckon 77 = .ok (.if_icmp .le 7, 3) := dk_164 0 7 (dk_at dksX6_reckon_3 11 rfl rfl)
theorem dX6_reckon_80 : decode cX6_reckon 80 = .ok (.iconst 1, 1) := dk_4 (dk_at dksX6_reckon_3 14 rfl rfl)
theorem dX6_reckon_81 : decode cX6_reckon 81 = .ok (.goto 4, 3) := dk_167 0 4 (dk_at dksX6_reckon_3 15 rfl rfl)
theorem dX6_reckon_84 : decode cX6_reckon 84 = .ok (.iconst 0, 1) := dk_3 (dk_at dksX6_reckon_3 18 rfl rfl)
theorem dX6_reckon_85 : decode cX6_reckon 85 = .ok (.ireturn, 1) := dk_172 (dk_at dksX6_reckon_3 19 rfl rfl)
theorem dX6_reckon_86 : decode cX6_reckon 86 = .ok (.iload_n 1, 1) := dk_27 (dk_at dksX6_reckon_3 20 rfl rfl)
theorem dX6_reckon_87 : decode cX6_reckon 87 = .ok (.iload_n 2, 1) := dk_28 (dk_at dksX6_reckon_3 21 rfl rfl)
theorem dX6_reckon_88 : decode cX6_reckon 88 = .ok (.if_icmp .ne 7, 3) := dk_160 0 7 (dk_at dksX6_reckon_4 0 rfl rfl)
theorem dX6_reckon_91 : decode cX6_reckon 91 = .ok (.iconst 1, 1) := dk_4 (dk_at dksX6_reckon_4 3 rfl rfl)
theorem dX6_reckon_92 : decode cX6_reckon 92 = .ok (.goto 4, 3) := dk_167 0 4 (dk_at dksX6_reckon_4 4 rfl rfl)
theorem dX6_reckon_95 : decode cX6_reckon 95 = .ok (.iconst 0, 1) := dk_3 (dk_at dksX6_reckon_4 7 rfl rfl)
theorem dX6_reckon_96 : decode cX6_reckon 96 = .ok (.ireturn, 1) := dk_172 (dk_at dksX6_reckon_4 8 rfl rfl)
abbrev cX6_likedMost : ByteArray := prog_20_method_54_code
def yX6_likedMost : MethodName := ⟨RX6, "likedMost", "()I"⟩
def dkwX6_likedMost_4 : List UInt8 := [21, 4, 96, 60, 132, 4, 1, 167, 255, 169, 132, 3, 1, 167, 255, 154, 27, 172]
abbrev dktX6_likedMost_4 : List UInt8 := dkwX6_likedMost_4 ++ []
def dkwX6_likedMost_3 : List UInt8 := [42, 16, 101, 182, 1, 41, 54, 5, 21, 5, 28, 163, 0, 6, 167, 0, 14, 21, 5, 61, 16, 16, 29, 104]
abbrev dktX6_likedMost_3 : List UInt8 := dkwX6_likedMost_3 ++ dktX6_likedMost_4
def dkwX6_likedMost_2 : List UInt8 := [42, 29, 182, 1, 35, 126, 21, 4, 184, 0, 100, 154, 0, 6, 167, 0, 38, 42, 29, 21, 4, 182, 1, 38]
abbrev dktX6_likedMost_2 : List UInt8 := dkwX6_likedMost_2 ++ dktX6_likedMost_3
def dkwX6_likedMost_1 : List UInt8 := [180, 1, 17, 42, 180, 0, 227, 126, 29, 184, 0, 100, 153, 0, 64, 42, 180, 1, 17, 42, 180, 1, 32, 126]
abbrev dktX6_likedMost_1 : List UInt8 := dkwX6_likedMost_1 ++ dktX6_likedMost_2
def dkwX6_likedMost_0 : List UInt8 := [2, 60, 3, 61, 3, 62, 29, 16, 16, 162, 0, 102, 3, 54, 4, 21, 4, 16, 16, 162, 0, 86, 42]
abbrev dktX6_likedMost_0 : List UInt8 := dkwX6_likedMost_0 ++ dktX6_likedMost_1
theorem dksX6_likedMost_0 : cX6_likedMost.data.toList.drop 0 = dktX6_likedMost_0 := by decide +kernel
theorem dksX6_likedMost_1 : cX6_likedMost.data.toList.drop 23 = dktX6_likedMost_1 := dk_seg dksX6_likedMost_0 23 rfl rfl
theorem dksX6_likedMost_2 : cX6_likedMost.data.toList.drop 47 = dktX6_likedMost_2 := dk_seg dksX6_likedMost_1 24 rfl rfl
theorem dksX6_likedMost_3 : cX6_likedMost.data.toList.drop 71 = dktX6_likedMost_3 := dk_seg dksX6_likedMost_2 24 rfl rfl
theorem dksX6_likedMost_4 : cX6_likedMost.data.toList.drop 95 = dktX6_likedMost_4 := dk_seg dksX6_likedMost_3 24 rfl rfl
theorem dX6_likedMost_0 : decode cX6_likedMost 0 = .ok (.iconst (-1), 1) := dk_2 (dk_at dksX6_likedMost_0 0 rfl rfl)
theorem dX6_likedMost_1 : decode cX6_likedMost 1 = .ok (.istore_n 1, 1) := dk_60 (dk_at dksX6_likedMost_0 1 rfl rfl)
theorem dX6_likedMost_2 : decode cX6_likedMost 2 = .ok (.iconst 0, 1) := dk_3 (dk_at dksX6_likedMost_0 2 rfl rfl)
theorem dX6_likedMost_3 : decode cX6_likedMost 3 = .ok (.istore_n 2, 1) := dk_61 (dk_at dksX6_likedMost_0 3 rfl rfl)
theorem dX6_likedMost_4 : decode cX6_likedMost 4 = .ok (.iconst 0, 1) := dk_3 (dk_at dksX6_likedMost_0 4 rfl rfl)
theorem dX6_likedMost_5 : decode cX6_likedMost 5 = .ok (.istore_n 3, 1) := dk_62 (dk_at dksX6_likedMost_0 5 rfl rfl)
theorem dX6_likedMost_6 : decode cX6_likedMost 6 = .ok (.iload_n 3, 1) := dk_29 (dk_at dksX6_likedMost_0 6 rfl rfl)
theorem dX6_likedMost_7 : decode cX6_likedMost 7 = .ok (.bipush 16, 2) := dk_16 16 (dk_at dksX6_likedMost_0 7 rfl rfl)
theorem dX6_likedMost_9 : decode cX6_likedMost 9 = .ok (.if_icmp .ge 102, 3) := dk_162 0 102 (dk_at dksX6_likedMost_0 9 rfl rfl)
theorem dX6_likedMost_12 : decode cX6_likedMost 12 = .ok (.iconst 0, 1) := dk_3 (dk_at dksX6_likedMost_0 12 rfl rfl)
theorem dX6_likedMost_13 : decode cX6_likedMost 13 = .ok (.istore 4, 2) := dk_54 4 (dk_at dksX6_likedMost_0 13 rfl rfl)
theorem dX6_likedMost_15 : decode cX6_likedMost 15 = .ok (.iload 4, 2) := dk_21 4 (dk_at dksX6_likedMost_0 15 rfl rfl)
theorem dX6_likedMost_17 : decode cX6_likedMost 17 = .ok (.bipush 16, 2) := dk_16 16 (dk_at dksX6_likedMost_0 17 rfl rfl)
theorem dX6_likedMost_19 : decode cX6_likedMost 19 = .ok (.if_icmp .ge 86, 3) := dk_162 0 86 (dk_at dksX6_likedMost_0 19 rfl rfl)
theorem dX6_likedMost_22 : decode cX6_likedMost 22 = .ok (.aload_n 0, 1) := dk_42 (dk_at dksX6_likedMost_0 22 rfl rfl)
theorem dX6_likedMost_23 : decode cX6_likedMost 23 = .ok (.getfield 273, 3) := dk_180 1 17 (dk_at dksX6_likedMost_1 0 rfl rfl)
theorem dX6_likedMost_26 : decode cX6_likedMost 26 = .ok (.aload_n 0, 1) := dk_42 (dk_at dksX6_likedMost_1 3 rfl rfl)
theorem dX6_likedMost_27 : decode cX6_likedMost 27 = .ok (.getfield 227, 3) := dk_180 0 227 (dk_at dksX6_likedMost_1 4 rfl rfl)
theorem dX6_likedMost_30 : decode cX6_likedMost 30 = .ok (.iand, 1) := dk_126 (dk_at dksX6_likedMost_1 7 rfl rfl)
theorem dX6_likedMost_31 : decode cX6_likedMost 31 = .ok (.iload_n 3, 1) := dk_29 (dk_at dksX6_likedMost_1 8 rfl rfl)
theorem dX6_likedMost_32 : decode cX6_likedMost 32 = .ok (.invokestatic 100, 3) := dk_184 0 100 (dk_at dksX6_likedMost_1 9 rfl rfl)
theorem dX6_likedMost_35 : decode cX6_likedMost 35 = .ok (.ifCond .eq 64, 3) := dk_153 0 64 (dk_at dksX6_likedMost_1 12 rfl rfl)
theorem dX6_likedMost_38 : decode cX6_likedMost 38 = .ok (.aload_n 0, 1) := dk_42 (dk_at dksX6_likedMost_1 15 rfl rfl)
theorem dX6_likedMost_39 : decode cX6_likedMost 39 = .ok (.getfield 273, 3) := dk_180 1 17 (dk_at dksX6_likedMost_1 16 rfl rfl)
theorem dX6_likedMost_42 : decode cX6_likedMost 42 = .ok (.aload_n 0, 1) := dk_42 (dk_at dksX6_likedMost_1 19 rfl rfl)
theorem dX6_likedMost_43 : decode cX6_likedMost 43 = .ok (.getfield 288, 3) := dk_180 1 32 (dk_at dksX6_likedMost_1 20 rfl rfl)
theorem dX6_likedMost_46 : decode cX6_likedMost 46 = .ok (.iand, 1) := dk_126 (dk_at dksX6_likedMost_1 23 rfl rfl)
theorem dX6_likedMost_47 : decode cX6_likedMost 47 = .ok (.aload_n 0, 1) := dk_42 (dk_at dksX6_likedMost_2 0 rfl rfl)
theorem dX6_likedMost_48 : decode cX6_likedMost 48 = .ok (.iload_n 3, 1) := dk_29 (dk_at dksX6_likedMost_2 1 rfl rfl)
theorem dX6_likedMost_49 : decode cX6_likedMost 49 = .ok (.invokevirtual 291, 3) := dk_182 1 35 (dk_at dksX6_likedMost_2 2 rfl rfl)
theorem dX6_likedMost_52 : decode cX6_likedMost 52 = .ok (.iand, 1) := dk_126 (dk_at dksX6_likedMost_2 5 rfl rfl)
theorem dX6_likedMost_53 : decode cX6_likedMost 53 = .ok (.iload 4, 2) := dk_21 4 (dk_at dksX6_likedMost_2 6 rfl rfl)
theorem dX6_likedMost_55 : decode cX6_likedMost 55 = .ok (.invokestatic 100, 3) := dk_184 0 100 (dk_at dksX6_likedMost_2 8 rfl rfl)
theorem dX6_likedMost_58 : decode cX6_likedMost 58 = .ok (.ifCond .ne 6, 3) := dk_154 0 6 (dk_at dksX6_likedMost_2 11 rfl rfl)
theorem dX6_likedMost_61 : decode cX6_likedMost 61 = .ok (.goto 38, 3) := dk_167 0 38 (dk_at dksX6_likedMost_2 14 rfl rfl)
theorem dX6_likedMost_64 : decode cX6_likedMost 64 = .ok (.aload_n 0, 1) := dk_42 (dk_at dksX6_likedMost_2 17 rfl rfl)
theorem dX6_likedMost_65 : decode cX6_likedMost 65 = .ok (.iload_n 3, 1) := dk_29 (dk_at dksX6_likedMost_2 18 rfl rfl)
theorem dX6_likedMost_66 : decode cX6_likedMost 66 = .ok (.iload 4, 2) := dk_21 4 (dk_at dksX6_likedMost_2 19 rfl rfl)
theorem dX6_likedMost_68 : decode cX6_likedMost 68 = .ok (.invokevirtual 294, 3) := dk_182 1 38 (dk_at dksX6_likedMost_2 21 rfl rfl)
theorem dX6_likedMost_71 : decode cX6_likedMost 71 = .ok (.aload_n 0, 1) := dk_42 (dk_at dksX6_likedMost_3 0 rfl rfl)
theorem dX6_likedMost_72 : decode cX6_likedMost 72 = .ok (.bipush 101, 2) := dk_16 101 (dk_at dksX6_likedMost_3 1 rfl rfl)
theorem dX6_likedMost_74 : decode cX6_likedMost 74 = .ok (.invokevirtual 297, 3) := dk_182 1 41 (dk_at dksX6_likedMost_3 3 rfl rfl)
theorem dX6_likedMost_77 : decode cX6_likedMost 77 = .ok (.istore 5, 2) := dk_54 5 (dk_at dksX6_likedMost_3 6 rfl rfl)
theorem dX6_likedMost_79 : decode cX6_likedMost 79 = .ok (.iload 5, 2) := dk_21 5 (dk_at dksX6_likedMost_3 8 rfl rfl)
theorem dX6_likedMost_81 : decode cX6_likedMost 81 = .ok (.iload_n 2, 1) := dk_28 (dk_at dksX6_likedMost_3 10 rfl rfl)
theorem dX6_likedMost_82 : decode cX6_likedMost 82 = .ok (.if_icmp .gt 6, 3) := dk_163 0 6 (dk_at dksX6_likedMost_3 11 rfl rfl)
theorem dX6_likedMost_85 : decode cX6_likedMost 85 = .ok (.goto 14, 3) := dk_167 0 14 (dk_at dksX6_likedMost_3 14 rfl rfl)
theorem dX6_likedMost_88 : decode cX6_likedMost 88 = .ok (.iload 5, 2) := dk_21 5 (dk_at dksX6_likedMost_3 17 rfl rfl)
theorem dX6_likedMost_90 : decode cX6_likedMost 90 = .ok (.istore_n 2, 1) := dk_61 (dk_at dksX6_likedMost_3 19 rfl rfl)
theorem dX6_likedMost_91 : decode cX6_likedMost 91 = .ok (.bipush 16, 2) := dk_16 16 (dk_at dksX6_likedMost_3 20 rfl rfl)
theorem dX6_likedMost_93 : decode cX6_likedMost 93 = .ok (.iload_n 3, 1) := dk_29 (dk_at dksX6_likedMost_3 22 rfl rfl)
theorem dX6_likedMost_94 : decode cX6_likedMost 94 = .ok (.imul, 1) := dk_104 (dk_at dksX6_likedMost_3 23 rfl rfl)
theorem dX6_likedMost_95 : decode cX6_likedMost 95 = .ok (.iload 4, 2) := dk_21 4 (dk_at dksX6_likedMost_4 0 rfl rfl)
theorem dX6_likedMost_97 : decode cX6_likedMost 97 = .ok (.iadd, 1) := dk_96 (dk_at dksX6_likedMost_4 2 rfl rfl)
theorem dX6_likedMost_98 : decode cX6_likedMost 98 = .ok (.istore_n 1, 1) := dk_60 (dk_at dksX6_likedMost_4 3 rfl rfl)
theorem dX6_likedMost_99 : decode cX6_likedMost 99 = .ok (.iinc 4 1, 3) := dk_132 4 1 (dk_at dksX6_likedMost_4 4 rfl rfl)
theorem dX6_likedMost_102 : decode cX6_likedMost 102 = .ok (.goto (-87), 3) := dk_167 255 169 (dk_at dksX6_likedMost_4 7 rfl rfl)
theorem dX6_likedMost_105 : decode cX6_likedMost 105 = .ok (.iinc 3 1, 3) := dk_132 3 1 (dk_at dksX6_likedMost_4 10 rfl rfl)
theorem dX6_likedMost_108 : decode cX6_likedMost 108 = .ok (.goto (-102), 3) := dk_167 255 154 (dk_at dksX6_likedMost_4 13 rfl rfl)
theorem dX6_likedMost_111 : decode cX6_likedMost 111 = .ok (.iload_n 1, 1) := dk_27 (dk_at dksX6_likedMost_4 16 rfl rfl)
theorem dX6_likedMost_112 : decode cX6_likedMost 112 = .ok (.ireturn, 1) := dk_172 (dk_at dksX6_likedMost_4 17 rfl rfl)
abbrev cX6_friendsOf : ByteArray := prog_20_method_12_code
def yX6_friendsOf : MethodName := ⟨RX6, "friendsOf", "(I)I"⟩
def dkwX6_friendsOf_0 : List UInt8 := [42, 180, 0, 108, 42, 180, 0, 22, 27, 46, 2, 130, 126, 4, 27, 120, 2, 130, 126, 172]
abbrev dktX6_friendsOf_0 : List UInt8 := dkwX6_friendsOf_0 ++ []
theorem dksX6_friendsOf_0 : cX6_friendsOf.data.toList.drop 0 = dktX6_friendsOf_0 := by decide +kernel
theorem dX6_friendsOf_0 : decode cX6_friendsOf 0 = .ok (.aload_n 0, 1) := dk_42 (dk_at dksX6_friendsOf_0 0 rfl rfl)
theorem dX6_friendsOf_1 : decode cX6_friendsOf 1 = .ok (.getfield 108, 3) := dk_180 0 108 (dk_at dksX6_friendsOf_0 1 rfl rfl)
theorem dX6_friendsOf_4 : decode cX6_friendsOf 4 = .ok (.aload_n 0, 1) := dk_42 (dk_at dksX6_friendsOf_0 4 rfl rfl)
theorem dX6_friendsOf_5 : decode cX6_friendsOf 5 = .ok (.getfield 22, 3) := dk_180 0 22 (dk_at dksX6_friendsOf_0 5 rfl rfl)
theorem dX6_friendsOf_8 : decode cX6_friendsOf 8 = .ok (.iload_n 1, 1) := dk_27 (dk_at dksX6_friendsOf_0 8 rfl rfl)
theorem dX6_friendsOf_9 : decode cX6_friendsOf 9 = .ok (.iaload, 1) := dk_46 (dk_at dksX6_friendsOf_0 9 rfl rfl)
theorem dX6_friendsOf_10 : decode cX6_friendsOf 10 = .ok (.iconst (-1), 1) := dk_2 (dk_at dksX6_friendsOf_0 10 rfl rfl)
theorem dX6_friendsOf_11 : decode cX6_friendsOf 11 = .ok (.ixor, 1) := dk_130 (dk_at dksX6_friendsOf_0 11 rfl rfl)
theorem dX6_friendsOf_12 : decode cX6_friendsOf 12 = .ok (.iand, 1) := dk_126 (dk_at dksX6_friendsOf_0 12 rfl rfl)
theorem dX6_friendsOf_13 : decode cX6_friendsOf 13 = .ok (.iconst 1, 1) := dk_4 (dk_at dksX6_friendsOf_0 13 rfl rfl)
theorem dX6_friendsOf_14 : decode cX6_friendsOf 14 = .ok (.iload_n 1, 1) := dk_27 (dk_at dksX6_friendsOf_0 14 rfl rfl)
theorem dX6_friendsOf_15 : decode cX6_friendsOf 15 = .ok (.ishl, 1) := dk_120 (dk_at dksX6_friendsOf_0 15 rfl rfl)
theorem dX6_friendsOf_16 : decode cX6_friendsOf 16 = .ok (.iconst (-1), 1) := dk_2 (dk_at dksX6_friendsOf_0 16 rfl rfl)
theorem dX6_friendsOf_17 : decode cX6_friendsOf 17 = .ok (.ixor, 1) := dk_130 (dk_at dksX6_friendsOf_0 17 rfl rfl)
theorem dX6_friendsOf_18 : decode cX6_friendsOf 18 = .ok (.iand, 1) := dk_126 (dk_at dksX6_friendsOf_0 18 rfl rfl)
theorem dX6_friendsOf_19 : decode cX6_friendsOf 19 = .ok (.ireturn, 1) := dk_172 (dk_at dksX6_friendsOf_0 19 rfl rfl)
abbrev cX6_feelsTwo : ByteArray := prog_20_method_53_code
def yX6_feelsTwo : MethodName := ⟨RX6, "feelsTwo", "(II)V"⟩
def dkwX6_feelsTwo_2 : List UInt8 := [42, 180, 0, 71, 16, 9, 42, 180, 0, 77, 28, 46, 79, 177]
abbrev dktX6_feelsTwo_2 : List UInt8 := dkwX6_feelsTwo_2 ++ []
def dkwX6_feelsTwo_1 : List UInt8 := [42, 180, 0, 71, 7, 42, 27, 28, 182, 1, 29, 79, 42, 180, 0, 71, 8, 42, 28, 27, 182, 1, 29, 79]
abbrev dktX6_feelsTwo_1 : List UInt8 := dkwX6_feelsTwo_1 ++ dktX6_feelsTwo_2
def dkwX6_feelsTwo_0 : List UInt8 := [42, 27, 182, 1, 23, 42, 180, 0, 71, 4, 28, 79, 42, 180, 0, 71, 6, 42, 27, 28, 182, 1, 26, 79]
abbrev dktX6_feelsTwo_0 : List UInt8 := dkwX6_feelsTwo_0 ++ dktX6_feelsTwo_1
theorem dksX6_feelsTwo_0 : cX6_feelsTwo.data.toList.drop 0 = dktX6_feelsTwo_0 := by decide +kernel
theorem dksX6_feelsTwo_1 : cX6_feelsTwo.data.toList.drop 24 = dktX6_feelsTwo_1 := dk_seg dksX6_feelsTwo_0 24 rfl rfl
theorem dksX6_feelsTwo_2 : cX6_feelsTwo.data.toList.drop 48 = dktX6_feelsTwo_2 := dk_seg dksX6_feelsTwo_1 24 rfl rfl
theorem dX6_feelsTwo_0 : decode cX6_feelsTwo 0 = .ok (.aload_n 0, 1) := dk_42 (dk_at dksX6_feelsTwo_0 0 rfl rfl)
theorem dX6_feelsTwo_1 : decode cX6_feelsTwo 1 = .ok (.iload_n 1, 1) := dk_27 (dk_at dksX6_feelsTwo_0 1 rfl rfl)
theorem dX6_feelsTwo_2 : decode cX6_feelsTwo 2 = .ok (.invokevirtual 279, 3) := dk_182 1 23 (dk_at dksX6_feelsTwo_0 2 rfl rfl)
theorem dX6_feelsTwo_5 : decode cX6_feelsTwo 5 = .ok (.aload_n 0, 1) := dk_42 (dk_at dksX6_feelsTwo_0 5 rfl rfl)
theorem dX6_feelsTwo_6 : decode cX6_feelsTwo 6 = .ok (.getfield 71, 3) := dk_180 0 71 (dk_at dksX6_feelsTwo_0 6 rfl rfl)
theorem dX6_feelsTwo_9 : decode cX6_feelsTwo 9 = .ok (.iconst 1, 1) := dk_4 (dk_at dksX6_feelsTwo_0 9 rfl rfl)
theorem dX6_feelsTwo_10 : decode cX6_feelsTwo 10 = .ok (.iload_n 2, 1) := dk_28 (dk_at dksX6_feelsTwo_0 10 rfl rfl)
theorem dX6_feelsTwo_11 : decode cX6_feelsTwo 11 = .ok (.iastore, 1) := dk_79 (dk_at dksX6_feelsTwo_0 11 rfl rfl)
theorem dX6_feelsTwo_12 : decode cX6_feelsTwo 12 = .ok (.aload_n 0, 1) := dk_42 (dk_at dksX6_feelsTwo_0 12 rfl rfl)
theorem dX6_feelsTwo_13 : decode cX6_feelsTwo 13 = .ok (.getfield 71, 3) := dk_180 0 71 (dk_at dksX6_feelsTwo_0 13 rfl rfl)
theorem dX6_feelsTwo_16 : decode cX6_feelsTwo 16 = .ok (.iconst 3, 1) := dk_6 (dk_at dksX6_feelsTwo_0 16 rfl rfl)
theorem dX6_feelsTwo_17 : decode cX6_feelsTwo 17 = .ok (.aload_n 0, 1) := dk_42 (dk_at dksX6_feelsTwo_0 17 rfl rfl)
theorem dX6_feelsTwo_18 : decode cX6_feelsTwo 18 = .ok (.iload_n 1, 1) := dk_27 (dk_at dksX6_feelsTwo_0 18 rfl rfl)
theorem dX6_feelsTwo_19 : decode cX6_feelsTwo 19 = .ok (.iload_n 2, 1) := dk_28 (dk_at dksX6_feelsTwo_0 19 rfl rfl)
theorem dX6_feelsTwo_20 : decode cX6_feelsTwo 20 = .ok (.invokevirtual 282, 3) := dk_182 1 26 (dk_at dksX6_feelsTwo_0 20 rfl rfl)
theorem dX6_feelsTwo_23 : decode cX6_feelsTwo 23 = .ok (.iastore, 1) := dk_79 (dk_at dksX6_feelsTwo_0 23 rfl rfl)
theorem dX6_feelsTwo_24 : decode cX6_feelsTwo 24 = .ok (.aload_n 0, 1) := dk_42 (dk_at dksX6_feelsTwo_1 0 rfl rfl)
theorem dX6_feelsTwo_25 : decode cX6_feelsTwo 25 = .ok (.getfield 71, 3) := dk_180 0 71 (dk_at dksX6_feelsTwo_1 1 rfl rfl)
theorem dX6_feelsTwo_28 : decode cX6_feelsTwo 28 = .ok (.iconst 4, 1) := dk_7 (dk_at dksX6_feelsTwo_1 4 rfl rfl)
theorem dX6_feelsTwo_29 : decode cX6_feelsTwo 29 = .ok (.aload_n 0, 1) := dk_42 (dk_at dksX6_feelsTwo_1 5 rfl rfl)
theorem dX6_feelsTwo_30 : decode cX6_feelsTwo 30 = .ok (.iload_n 1, 1) := dk_27 (dk_at dksX6_feelsTwo_1 6 rfl rfl)
theorem dX6_feelsTwo_31 : decode cX6_feelsTwo 31 = .ok (.iload_n 2, 1) := dk_28 (dk_at dksX6_feelsTwo_1 7 rfl rfl)
theorem dX6_feelsTwo_32 : decode cX6_feelsTwo 32 = .ok (.invokevirtual 285, 3) := dk_182 1 29 (dk_at dksX6_feelsTwo_1 8 rfl rfl)
theorem dX6_feelsTwo_35 : decode cX6_feelsTwo 35 = .ok (.iastore, 1) := dk_79 (dk_at dksX6_feelsTwo_1 11 rfl rfl)
theorem dX6_feelsTwo_36 : decode cX6_feelsTwo 36 = .ok (.aload_n 0, 1) := dk_42 (dk_at dksX6_feelsTwo_1 12 rfl rfl)
theorem dX6_feelsTwo_37 : decode cX6_feelsTwo 37 = .ok (.getfield 71, 3) := dk_180 0 71 (dk_at dksX6_feelsTwo_1 13 rfl rfl)
theorem dX6_feelsTwo_40 : decode cX6_feelsTwo 40 = .ok (.iconst 5, 1) := dk_8 (dk_at dksX6_feelsTwo_1 16 rfl rfl)
theorem dX6_feelsTwo_41 : decode cX6_feelsTwo 41 = .ok (.aload_n 0, 1) := dk_42 (dk_at dksX6_feelsTwo_1 17 rfl rfl)
theorem dX6_feelsTwo_42 : decode cX6_feelsTwo 42 = .ok (.iload_n 2, 1) := dk_28 (dk_at dksX6_feelsTwo_1 18 rfl rfl)
theorem dX6_feelsTwo_43 : decode cX6_feelsTwo 43 = .ok (.iload_n 1, 1) := dk_27 (dk_at dksX6_feelsTwo_1 19 rfl rfl)
theorem dX6_feelsTwo_44 : decode cX6_feelsTwo 44 = .ok (.invokevirtual 285, 3) := dk_182 1 29 (dk_at dksX6_feelsTwo_1 20 rfl rfl)
theorem dX6_feelsTwo_47 : decode cX6_feelsTwo 47 = .ok (.iastore, 1) := dk_79 (dk_at dksX6_feelsTwo_1 23 rfl rfl)
theorem dX6_feelsTwo_48 : decode cX6_feelsTwo 48 = .ok (.aload_n 0, 1) := dk_42 (dk_at dksX6_feelsTwo_2 0 rfl rfl)
theorem dX6_feelsTwo_49 : decode cX6_feelsTwo 49 = .ok (.getfield 71, 3) := dk_180 0 71 (dk_at dksX6_feelsTwo_2 1 rfl rfl)
theorem dX6_feelsTwo_52 : decode cX6_feelsTwo 52 = .ok (.bipush 9, 2) := dk_16 9 (dk_at dksX6_feelsTwo_2 4 rfl rfl)
theorem dX6_feelsTwo_54 : decode cX6_feelsTwo 54 = .ok (.aload_n 0, 1) := dk_42 (dk_at dksX6_feelsTwo_2 6 rfl rfl)
theorem dX6_feelsTwo_55 : decode cX6_feelsTwo 55 = .ok (.getfield 77, 3) := dk_180 0 77 (dk_at dksX6_feelsTwo_2 7 rfl rfl)
theorem dX6_feelsTwo_58 : decode cX6_feelsTwo 58 = .ok (.iload_n 2, 1) := dk_28 (dk_at dksX6_feelsTwo_2 10 rfl rfl)
theorem dX6_feelsTwo_59 : decode cX6_feelsTwo 59 = .ok (.iaload, 1) := dk_46 (dk_at dksX6_feelsTwo_2 11 rfl rfl)
theorem dX6_feelsTwo_60 : decode cX6_feelsTwo 60 = .ok (.iastore, 1) := dk_79 (dk_at dksX6_feelsTwo_2 12 rfl rfl)
theorem dX6_feelsTwo_61 : decode cX6_feelsTwo 61 = .ok (.return_, 1) := dk_177 (dk_at dksX6_feelsTwo_2 13 rfl rfl)
abbrev cX6_apart : ByteArray := prog_20_method_13_code
def yX6_apart : MethodName := ⟨RX6, "apart", "(II)I"⟩
def dkwX6_apart_0 : List UInt8 := [42, 180, 0, 19, 27, 46, 42, 180, 0, 19, 28, 46, 100, 184, 0, 112, 172]
abbrev dktX6_apart_0 : List UInt8 := dkwX6_apart_0 ++ []
theorem dksX6_apart_0 : cX6_apart.data.toList.drop 0 = dktX6_apart_0 := by decide +kernel
theorem dX6_apart_0 : decode cX6_apart 0 = .ok (.aload_n 0, 1) := dk_42 (dk_at dksX6_apart_0 0 rfl rfl)
theorem dX6_apart_1 : decode cX6_apart 1 = .ok (.getfield 19, 3) := dk_180 0 19 (dk_at dksX6_apart_0 1 rfl rfl)
theorem dX6_apart_4 : decode cX6_apart 4 = .ok (.iload_n 1, 1) := dk_27 (dk_at dksX6_apart_0 4 rfl rfl)
theorem dX6_apart_5 : decode cX6_apart 5 = .ok (.iaload, 1) := dk_46 (dk_at dksX6_apart_0 5 rfl rfl)
theorem dX6_apart_6 : decode cX6_apart 6 = .ok (.aload_n 0, 1) := dk_42 (dk_at dksX6_apart_0 6 rfl rfl)
theorem dX6_apart_7 : decode cX6_apart 7 = .ok (.getfield 19, 3) := dk_180 0 19 (dk_at dksX6_apart_0 7 rfl rfl)
theorem dX6_apart_10 : decode cX6_apart 10 = .ok (.iload_n 2, 1) := dk_28 (dk_at dksX6_apart_0 10 rfl rfl)
theorem dX6_apart_11 : decode cX6_apart 11 = .ok (.iaload, 1) := dk_46 (dk_at dksX6_apart_0 11 rfl rfl)
theorem dX6_apart_12 : decode cX6_apart 12 = .ok (.isub, 1) := dk_100 (dk_at dksX6_apart_0 12 rfl rfl)
theorem dX6_apart_13 : decode cX6_apart 13 = .ok (.invokestatic 112, 3) := dk_184 0 112 (dk_at dksX6_apart_0 13 rfl rfl)
theorem dX6_apart_16 : decode cX6_apart 16 = .ok (.ireturn, 1) := dk_172 (dk_at dksX6_apart_0 16 rfl rfl)
abbrev cX6_favoursOf : ByteArray := prog_20_method_11_code
def yX6_favoursOf : MethodName := ⟨RX6, "favoursOf", "(II)I"⟩
def dkwX6_favoursOf_0 : List UInt8 := [42, 180, 0, 7, 16, 16, 16, 16, 27, 104, 96, 28, 96, 46, 172]
abbrev dktX6_favoursOf_0 : List UInt8 := dkwX6_favoursOf_0 ++ []
theorem dksX6_favoursOf_0 : cX6_favoursOf.data.toList.drop 0 = dktX6_favoursOf_0 := by decide +kernel
theorem dX6_favoursOf_0 : decode cX6_favoursOf 0 = .ok (.aload_n 0, 1) := dk_42 (dk_at dksX6_favoursOf_0 0 rfl rfl)
theorem dX6_favoursOf_1 : decode cX6_favoursOf 1 = .ok (.getfield 7, 3) := dk_180 0 7 (dk_at dksX6_favoursOf_0 1 rfl rfl)
theorem dX6_favoursOf_4 : decode cX6_favoursOf 4 = .ok (.bipush 16, 2) := dk_16 16 (dk_at dksX6_favoursOf_0 4 rfl rfl)
theorem dX6_favoursOf_6 : decode cX6_favoursOf 6 = .ok (.bipush 16, 2) := dk_16 16 (dk_at dksX6_favoursOf_0 6 rfl rfl)
theorem dX6_favoursOf_8 : decode cX6_favoursOf 8 = .ok (.iload_n 1, 1) := dk_27 (dk_at dksX6_favoursOf_0 8 rfl rfl)
theorem dX6_favoursOf_9 : decode cX6_favoursOf 9 = .ok (.imul, 1) := dk_104 (dk_at dksX6_favoursOf_0 9 rfl rfl)
theorem dX6_favoursOf_10 : decode cX6_favoursOf 10 = .ok (.iadd, 1) := dk_96 (dk_at dksX6_favoursOf_0 10 rfl rfl)
theorem dX6_favoursOf_11 : decode cX6_favoursOf 11 = .ok (.iload_n 2, 1) := dk_28 (dk_at dksX6_favoursOf_0 11 rfl rfl)
theorem dX6_favoursOf_12 : decode cX6_favoursOf 12 = .ok (.iadd, 1) := dk_96 (dk_at dksX6_favoursOf_0 12 rfl rfl)
theorem dX6_favoursOf_13 : decode cX6_favoursOf 13 = .ok (.iaload, 1) := dk_46 (dk_at dksX6_favoursOf_0 13 rfl rfl)
theorem dX6_favoursOf_14 : decode cX6_favoursOf 14 = .ok (.ireturn, 1) := dk_172 (dk_at dksX6_favoursOf_0 14 rfl rfl)
abbrev cX6_byLaw : ByteArray := prog_20_method_41_code
def yX6_byLaw : MethodName := ⟨RX6, "byLaw", "(I)I"⟩
def dkwX6_byLaw_3 : List UInt8 := [17, 39, 15, 164, 0, 9, 17, 39, 15, 167, 0, 4, 29, 172, 132, 2, 1, 167, 255, 172, 3, 172]
abbrev dktX6_byLaw_3 : List UInt8 := dkwX6_byLaw_3 ++ []
def dkwX6_byLaw_2 : List UInt8 := [180, 0, 59, 28, 46, 42, 180, 0, 62, 28, 46, 182, 0, 223, 62, 29, 156, 0, 7, 3, 167, 0, 17, 29]
abbrev dktX6_byLaw_2 : List UInt8 := dkwX6_byLaw_2 ++ dktX6_byLaw_3
def dkwX6_byLaw_1 : List UInt8 := [180, 0, 62, 28, 46, 42, 180, 0, 65, 28, 46, 182, 0, 223, 4, 159, 0, 6, 167, 0, 43, 42, 42]
abbrev dktX6_byLaw_1 : List UInt8 := dkwX6_byLaw_1 ++ dktX6_byLaw_2
def dkwX6_byLaw_0 : List UInt8 := [3, 61, 28, 42, 180, 0, 216, 162, 0, 82, 42, 180, 0, 56, 28, 46, 27, 160, 0, 66, 42, 42]
abbrev dktX6_byLaw_0 : List UInt8 := dkwX6_byLaw_0 ++ dktX6_byLaw_1
theorem dksX6_byLaw_0 : cX6_byLaw.data.toList.drop 0 = dktX6_byLaw_0 := by decide +kernel
theorem dksX6_byLaw_1 : cX6_byLaw.data.toList.drop 22 = dktX6_byLaw_1 := dk_seg dksX6_byLaw_0 22 rfl rfl
theorem dksX6_byLaw_2 : cX6_byLaw.data.toList.drop 45 = dktX6_byLaw_2 := dk_seg dksX6_byLaw_1 23 rfl rfl
theorem dksX6_byLaw_3 : cX6_byLaw.data.toList.drop 69 = dktX6_byLaw_3 := dk_seg dksX6_byLaw_2 24 rfl rfl
theorem dX6_byLaw_0 : decode cX6_byLaw 0 = .ok (.iconst 0, 1) := dk_3 (dk_at dksX6_byLaw_0 0 rfl rfl)
theorem dX6_byLaw_1 : decode cX6_byLaw 1 = .ok (.istore_n 2, 1) := dk_61 (dk_at dksX6_byLaw_0 1 rfl rfl)
theorem dX6_byLaw_2 : decode cX6_byLaw 2 = .ok (.iload_n 2, 1) := dk_28 (dk_at dksX6_byLaw_0 2 rfl rfl)
theorem dX6_byLaw_3 : decode cX6_byLaw 3 = .ok (.aload_n 0, 1) := dk_42 (dk_at dksX6_byLaw_0 3 rfl rfl)
theorem dX6_byLaw_4 : decode cX6_byLaw 4 = .ok (.getfield 216, 3) := dk_180 0 216 (dk_at dksX6_byLaw_0 4 rfl rfl)
theorem dX6_byLaw_7 : decode cX6_byLaw 7 = .ok (.if_icmp .ge 82, 3) := dk_162 0 82 (dk_at dksX6_byLaw_0 7 rfl rfl)
theorem dX6_byLaw_10 : decode cX6_byLaw 10 = .ok (.aload_n 0, 1) := dk_42 (dk_at dksX6_byLaw_0 10 rfl rfl)
theorem dX6_byLaw_11 : decode cX6_byLaw 11 = .ok (.getfield 56, 3) := dk_180 0 56 (dk_at dksX6_byLaw_0 11 rfl rfl)
theorem dX6_byLaw_14 : decode cX6_byLaw 14 = .ok (.iload_n 2, 1) := dk_28 (dk_at dksX6_byLaw_0 14 rfl rfl)
theorem dX6_byLaw_15 : decode cX6_byLaw 15 = .ok (.iaload, 1) := dk_46 (dk_at dksX6_byLaw_0 15 rfl rfl)
theorem dX6_byLaw_16 : decode cX6_byLaw 16 = .ok (.iload_n 1, 1) := dk_27 (dk_at dksX6_byLaw_0 16 rfl rfl)
theorem dX6_byLaw_17 : decode cX6_byLaw 17 = .ok (.if_icmp .ne 66, 3) := dk_160 0 66 (dk_at dksX6_byLaw_0 17 rfl rfl)
theorem dX6_byLaw_20 : decode cX6_byLaw 20 = .ok (.aload_n 0, 1) := dk_42 (dk_at dksX6_byLaw_0 20 rfl rfl)
theorem dX6_byLaw_21 : decode cX6_byLaw 21 = .ok (.aload_n 0, 1) := dk_42 (dk_at dksX6_byLaw_0 21 rfl rfl)
theorem dX6_byLaw_22 : decode cX6_byLaw 22 = .ok (.getfield 62, 3) := dk_180 0 62 (dk_at dksX6_byLaw_1 0 rfl rfl)
theorem dX6_byLaw_25 : decode cX6_byLaw 25 = .ok (.iload_n 2, 1) := dk_28 (dk_at dksX6_byLaw_1 3 rfl rfl)
theorem dX6_byLaw_26 : decode cX6_byLaw 26 = .ok (.iaload, 1) := dk_46 (dk_at dksX6_byLaw_1 4 rfl rfl)
theorem dX6_byLaw_27 : decode cX6_byLaw 27 = .ok (.aload_n 0, 1) := dk_42 (dk_at dksX6_byLaw_1 5 rfl rfl)
theorem dX6_byLaw_28 : decode cX6_byLaw 28 = .ok (.getfield 65, 3) := dk_180 0 65 (dk_at dksX6_byLaw_1 6 rfl rfl)
theorem dX6_byLaw_31 : decode cX6_byLaw 31 = .ok (.iload_n 2, 1) := dk_28 (dk_at dksX6_byLaw_1 9 rfl rfl)
theorem dX6_byLaw_32 : decode cX6_byLaw 32 = .ok (.iaload, 1) := dk_46 (dk_at dksX6_byLaw_1 10 rfl rfl)
theorem dX6_byLaw_33 : decode cX6_byLaw 33 = .ok (.invokevirtual 223, 3) := dk_182 0 223 (dk_at dksX6_byLaw_1 11 rfl rfl)
theorem dX6_byLaw_36 : decode cX6_byLaw 36 = .ok (.iconst 1, 1) := dk_4 (dk_at dksX6_byLaw_1 14 rfl rfl)
theorem dX6_byLaw_37 : decode cX6_byLaw 37 = .ok (.if_icmp .eq 6, 3) := dk_159 0 6 (dk_at dksX6_byLaw_1 15 rfl rfl)
theorem dX6_byLaw_40 : decode cX6_byLaw 40 = .ok (.goto 43, 3) := dk_167 0 43 (dk_at dksX6_byLaw_1 18 rfl rfl)
theorem dX6_byLaw_43 : decode cX6_byLaw 43 = .ok (.aload_n 0, 1) := dk_42 (dk_at dksX6_byLaw_1 21 rfl rfl)
theorem dX6_byLaw_44 : decode cX6_byLaw 44 = .ok (.aload_n 0, 1) := dk_42 (dk_at dksX6_byLaw_1 22 rfl rfl)
theorem dX6_byLaw_45 : decode cX6_byLaw 45 = .ok (.getfield 59, 3) := dk_180 0 59 (dk_at dksX6_byLaw_2 0 rfl rfl)
theorem dX6_byLaw_48 : decode cX6_byLaw 48 = .ok (.iload_n 2, 1) := dk_28 (dk_at dksX6_byLaw_2 3 rfl rfl)
theorem dX6_byLaw_49 : decode cX6_byLaw 49 = .ok (.iaload, 1) := dk_46 (dk_at dksX6_byLaw_2 4 rfl rfl)
theorem dX6_byLaw_50 : decode cX6_byLaw 50 = .ok (.aload_n 0, 1) := dk_42 (dk_at dksX6_byLaw_2 5 rfl rfl)
theorem dX6_byLaw_51 : decode cX6_byLaw 51 = .ok (.getfield 62, 3) := dk_180 0 62 (dk_at dksX6_byLaw_2 6 rfl rfl)
theorem dX6_byLaw_54 : decode cX6_byLaw 54 = .ok (.iload_n 2, 1) := dk_28 (dk_at dksX6_byLaw_2 9 rfl rfl)
theorem dX6_byLaw_55 : decode cX6_byLaw 55 = .ok (.iaload, 1) := dk_46 (dk_at dksX6_byLaw_2 10 rfl rfl)
theorem dX6_byLaw_56 : decode cX6_byLaw 56 = .ok (.invokevirtual 223, 3) := dk_182 0 223 (dk_at dksX6_byLaw_2 11 rfl rfl)
theorem dX6_byLaw_59 : decode cX6_byLaw 59 = .ok (.istore_n 3, 1) := dk_62 (dk_at dksX6_byLaw_2 14 rfl rfl)
theorem dX6_byLaw_60 : decode cX6_byLaw 60 = .ok (.iload_n 3, 1) := dk_29 (dk_at dksX6_byLaw_2 15 rfl rfl)
theorem dX6_byLaw_61 : decode cX6_byLaw 61 = .ok (.ifCond .ge 7, 3) := dk_156 0 7 (dk_at dksX6_byLaw_2 16 rfl rfl)
theorem dX6_byLaw_64 : decode cX6_byLaw 64 = .ok (.iconst 0, 1) := dk_3 (dk_at dksX6_byLaw_2 19 rfl rfl)
theorem dX6_byLaw_65 : decode cX6_byLaw 65 = .ok (.goto 17, 3) := dk_167 0 17 (dk_at dksX6_byLaw_2 20 rfl rfl)
theorem dX6_byLaw_68 : decode cX6_byLaw 68 = .ok (.iload_n 3, 1) := dk_29 (dk_at dksX6_byLaw_2 23 rfl rfl)
theorem dX6_byLaw_69 : decode cX6_byLaw 69 = .ok (.sipush 9999, 3) := dk_17 39 15 (dk_at dksX6_byLaw_3 0 rfl rfl)
theorem dX6_byLaw_72 : decode cX6_byLaw 72 = .ok (.if_icmp .le 9, 3) := dk_164 0 9 (dk_at dksX6_byLaw_3 3 rfl rfl)
theorem dX6_byLaw_75 : decode cX6_byLaw 75 = .ok (.sipush 9999, 3) := dk_17 39 15 (dk_at dksX6_byLaw_3 6 rfl rfl)
theorem dX6_byLaw_78 : decode cX6_byLaw 78 = .ok (.goto 4, 3) := dk_167 0 4 (dk_at dksX6_byLaw_3 9 rfl rfl)
theorem dX6_byLaw_81 : decode cX6_byLaw 81 = .ok (.iload_n 3, 1) := dk_29 (dk_at dksX6_byLaw_3 12 rfl rfl)
theorem dX6_byLaw_82 : decode cX6_byLaw 82 = .ok (.ireturn, 1) := dk_172 (dk_at dksX6_byLaw_3 13 rfl rfl)
theorem dX6_byLaw_83 : decode cX6_byLaw 83 = .ok (.iinc 2 1, 3) := dk_132 2 1 (dk_at dksX6_byLaw_3 14 rfl rfl)
theorem dX6_byLaw_86 : decode cX6_byLaw 86 = .ok (.goto (-84), 3) := dk_167 255 172 (dk_at dksX6_byLaw_3 17 rfl rfl)
theorem dX6_byLaw_89 : decode cX6_byLaw 89 = .ok (.iconst 0, 1) := dk_3 (dk_at dksX6_byLaw_3 20 rfl rfl)
theorem dX6_byLaw_90 : decode cX6_byLaw 90 = .ok (.ireturn, 1) := dk_172 (dk_at dksX6_byLaw_3 21 rfl rfl)
abbrev cX6_min : ByteArray := prog_20_method_3_code
def yX6_min : MethodName := ⟨RX6, "min", "(II)I"⟩
def dkwX6_min_0 : List UInt8 := [26, 27, 162, 0, 7, 26, 167, 0, 4, 27, 172]
abbrev dktX6_min_0 : List UInt8 := dkwX6_min_0 ++ []
theorem dksX6_min_0 : cX6_min.data.toList.drop 0 = dktX6_min_0 := by decide +kernel
theorem dX6_min_0 : decode cX6_min 0 = .ok (.iload_n 0, 1) := dk_26 (dk_at dksX6_min_0 0 rfl rfl)
theorem dX6_min_1 : decode cX6_min 1 = .ok (.iload_n 1, 1) := dk_27 (dk_at dksX6_min_0 1 rfl rfl)
theorem dX6_min_2 : decode cX6_min 2 = .ok (.if_icmp .ge 7, 3) := dk_162 0 7 (dk_at dksX6_min_0 2 rfl rfl)
theorem dX6_min_5 : decode cX6_min 5 = .ok (.iload_n 0, 1) := dk_26 (dk_at dksX6_min_0 5 rfl rfl)
theorem dX6_min_6 : decode cX6_min 6 = .ok (.goto 4, 3) := dk_167 0 4 (dk_at dksX6_min_0 6 rfl rfl)
theorem dX6_min_9 : decode cX6_min 9 = .ok (.iload_n 1, 1) := dk_27 (dk_at dksX6_min_0 9 rfl rfl)
theorem dX6_min_10 : decode cX6_min 10 = .ok (.ireturn, 1) := dk_172 (dk_at dksX6_min_0 10 rfl rfl)
abbrev cX6_goesToBed : ByteArray := prog_20_method_55_code
def yX6_goesToBed : MethodName := ⟨RX6, "goesToBed", "()V"⟩
def dkwX6_goesToBed_5 : List UInt8 := [4, 96, 184, 1, 47, 79, 132, 3, 1, 167, 255, 207, 177]
abbrev dktX6_goesToBed_5 : List UInt8 := dkwX6_goesToBed_5 ++ []
def dkwX6_goesToBed_4 : List UInt8 := [180, 1, 44, 159, 0, 27, 42, 180, 0, 7, 3, 29, 96, 17, 39, 15, 42, 180, 0, 7, 3, 29, 96, 46]
abbrev dktX6_goesToBed_4 : List UInt8 := dkwX6_goesToBed_4 ++ dktX6_goesToBed_5
def dkwX6_goesToBed_3 : List UInt8 := [132, 3, 1, 167, 255, 206, 3, 62, 29, 16, 16, 162, 0, 49, 27, 29, 184, 0, 100, 153, 0, 35, 29, 42]
abbrev dktX6_goesToBed_3 : List UInt8 := dkwX6_goesToBed_3 ++ dktX6_goesToBed_4
def dkwX6_goesToBed_2 : List UInt8 := [182, 1, 41, 54, 4, 21, 4, 28, 163, 0, 6, 167, 0, 11, 21, 4, 61, 42, 29, 181, 1, 44]
abbrev dktX6_goesToBed_2 : List UInt8 := dkwX6_goesToBed_2 ++ dktX6_goesToBed_3
def dkwX6_goesToBed_1 : List UInt8 := [162, 0, 50, 27, 29, 184, 0, 100, 154, 0, 6, 167, 0, 33, 42, 29, 182, 1, 23, 42, 16, 98]
abbrev dktX6_goesToBed_1 : List UInt8 := dkwX6_goesToBed_1 ++ dktX6_goesToBed_2
def dkwX6_goesToBed_0 : List UInt8 := [42, 180, 1, 17, 42, 180, 0, 227, 126, 60, 42, 2, 181, 1, 44, 2, 61, 3, 62, 29, 16, 16]
abbrev dktX6_goesToBed_0 : List UInt8 := dkwX6_goesToBed_0 ++ dktX6_goesToBed_1
theorem dksX6_goesToBed_0 : cX6_goesToBed.data.toList.drop 0 = dktX6_goesToBed_0 := by decide +kernel
theorem dksX6_goesToBed_1 : cX6_goesToBed.data.toList.drop 22 = dktX6_goesToBed_1 := dk_seg dksX6_goesToBed_0 22 rfl rfl
theorem dksX6_goesToBed_2 : cX6_goesToBed.data.toList.drop 44 = dktX6_goesToBed_2 := dk_seg dksX6_goesToBed_1 22 rfl rfl
theorem dksX6_goesToBed_3 : cX6_goesToBed.data.toList.drop 66 = dktX6_goesToBed_3 := dk_seg dksX6_goesToBed_2 22 rfl rfl
theorem dksX6_goesToBed_4 : cX6_goesToBed.data.toList.drop 90 = dktX6_goesToBed_4 := dk_seg dksX6_goesToBed_3 24 rfl rfl
theorem dksX6_goesToBed_5 : cX6_goesToBed.data.toList.drop 114 = dktX6_goesToBed_5 := dk_seg dksX6_goesToBed_4 24 rfl rfl
theorem dX6_goesToBed_0 : decode cX6_goesToBed 0 = .ok (.aload_n 0, 1) := dk_42 (dk_at dksX6_goesToBed_0 0 rfl rfl)
theorem dX6_goesToBed_1 : decode cX6_goesToBed 1 = .ok (.getfield 273, 3) := dk_180 1 17 (dk_at dksX6_goesToBed_0 1 rfl rfl)
theorem dX6_goesToBed_4 : decode cX6_goesToBed 4 = .ok (.aload_n 0, 1) := dk_42 (dk_at dksX6_goesToBed_0 4 rfl rfl)
theorem dX6_goesToBed_5 : decode cX6_goesToBed 5 = .ok (.getfield 227, 3) := dk_180 0 227 (dk_at dksX6_goesToBed_0 5 rfl rfl)
theorem dX6_goesToBed_8 : decode cX6_goesToBed 8 = .ok (.iand, 1) := dk_126 (dk_at dksX6_goesToBed_0 8 rfl rfl)
theorem dX6_goesToBed_9 : decode cX6_goesToBed 9 = .ok (.istore_n 1, 1) := dk_60 (dk_at dksX6_goesToBed_0 9 rfl rfl)
theorem dX6_goesToBed_10 : decode cX6_goesToBed 10 = .ok (.aload_n 0, 1) := dk_42 (dk_at dksX6_goesToBed_0 10 rfl rfl)
theorem dX6_goesToBed_11 : decode cX6_goesToBed 11 = .ok (.iconst (-1), 1) := dk_2 (dk_at dksX6_goesToBed_0 11 rfl rfl)
theorem dX6_goesToBed_12 : decode cX6_goesToBed 12 = .ok (.putfield 300, 3) := dk_181 1 44 (dk_at dksX6_goesToBed_0 12 rfl rfl)
theorem dX6_goesToBed_15 : decode cX6_goesToBed 15 = .ok (.iconst (-1), 1) := dk_2 (dk_at dksX6_goesToBed_0 15 rfl rfl)
theorem dX6_goesToBed_16 : decode cX6_goesToBed 16 = .ok (.istore_n 2, 1) := dk_61 (dk_at dksX6_goesToBed_0 16 rfl rfl)
theorem dX6_goesToBed_17 : decode cX6_goesToBed 17 = .ok (.iconst 0, 1) := dk_3 (dk_at dksX6_goesToBed_0 17 rfl rfl)
theorem dX6_goesToBed_18 : decode cX6_goesToBed 18 = .ok (.istore_n 3, 1) := dk_62 (dk_at dksX6_goesToBed_0 18 rfl rfl)
theorem dX6_goesToBed_19 : decode cX6_goesToBed 19 = .ok (.iload_n 3, 1) := dk_29 (dk_at dksX6_goesToBed_0 19 rfl rfl)
theorem dX6_goesToBed_20 : decode cX6_goesToBed 20 = .ok (.bipush 16, 2) := dk_16 16 (dk_at dksX6_goesToBed_0 20 rfl rfl)
theorem dX6_goesToBed_22 : decode cX6_goesToBed 22 = .ok (.if_icmp .ge 50, 3) := dk_162 0 50 (dk_at dksX6_goesToBed_1 0 rfl rfl)
theorem dX6_goesToBed_25 : decode cX6_goesToBed 25 = .ok (.iload_n 1, 1) := dk_27 (dk_at dksX6_goesToBed_1 3 rfl rfl)
theorem dX6_goesToBed_26 : decode cX6_goesToBed 26 = .ok (.iload_n 3, 1) := dk_29 (dk_at dksX6_goesToBed_1 4 rfl rfl)
theorem dX6_goesToBed_27 : decode cX6_goesToBed 27 = .ok (.invokestatic 100, 3) := dk_184 0 100 (dk_at dksX6_goesToBed_1 5 rfl rfl)
theorem dX6_goesToBed_30 : decode cX6_goesToBed 30 = .ok (.ifCond .ne 6, 3) := dk_154 0 6 (dk_at dksX6_goesToBed_1 8 rfl rfl)
theorem dX6_goesToBed_33 : decode cX6_goesToBed 33 = .ok (.goto 33, 3) := dk_167 0 33 (dk_at dksX6_goesToBed_1 11 rfl rfl)
theorem dX6_goesToBed_36 : decode cX6_goesToBed 36 = .ok (.aload_n 0, 1) := dk_42 (dk_at dksX6_goesToBed_1 14 rfl rfl)
theorem dX6_goesToBed_37 : decode cX6_goesToBed 37 = .ok (.iload_n 3, 1) := dk_29 (dk_at dksX6_goesToBed_1 15 rfl rfl)
theorem dX6_goesToBed_38 : decode cX6_goesToBed 38 = .ok (.invokevirtual 279, 3) := dk_182 1 23 (dk_at dksX6_goesToBed_1 16 rfl rfl)
theorem dX6_goesToBed_41 : decode cX6_goesToBed 41 = .ok (.aload_n 0, 1) := dk_42 (dk_at dksX6_goesToBed_1 19 rfl rfl)
theorem dX6_goesToBed_42 : decode cX6_goesToBed 42 = .ok (.bipush 98, 2) := dk_16 98 (dk_at dksX6_goesToBed_1 20 rfl rfl)
theorem dX6_goesToBed_44 : decode cX6_goesToBed 44 = .ok (.invokevirtual 297, 3) := dk_182 1 41 (dk_at dksX6_goesToBed_2 0 rfl rfl)
theorem dX6_goesToBed_47 : decode cX6_goesToBed 47 = .ok (.istore 4, 2) := dk_54 4 (dk_at dksX6_goesToBed_2 3 rfl rfl)
theorem dX6_goesToBed_49 : decode cX6_goesToBed 49 = .ok (.iload 4, 2) := dk_21 4 (dk_at dksX6_goesToBed_2 5 rfl rfl)
theorem dX6_goesToBed_51 : decode cX6_goesToBed 51 = .ok (.iload_n 2, 1) := dk_28 (dk_at dksX6_goesToBed_2 7 rfl rfl)
theorem dX6_goesToBed_52 : decode cX6_goesToBed 52 = .ok (.if_icmp .gt 6, 3) := dk_163 0 6 (dk_at dksX6_goesToBed_2 8 rfl rfl)
theorem dX6_goesToBed_55 : decode cX6_goesToBed 55 = .ok (.goto 11, 3) := dk_167 0 11 (dk_at dksX6_goesToBed_2 11 rfl rfl)
theorem dX6_goesToBed_58 : decode cX6_goesToBed 58 = .ok (.iload 4, 2) := dk_21 4 (dk_at dksX6_goesToBed_2 14 rfl rfl)
theorem dX6_goesToBed_60 : decode cX6_goesToBed 60 = .ok (.istore_n 2, 1) := dk_61 (dk_at dksX6_goesToBed_2 16 rfl rfl)
theorem dX6_goesToBed_61 : decode cX6_goesToBed 61 = .ok (.aload_n 0, 1) := dk_42 (dk_at dksX6_goesToBed_2 17 rfl rfl)
theorem dX6_goesToBed_62 : decode cX6_goesToBed 62 = .ok (.iload_n 3, 1) := dk_29 (dk_at dksX6_goesToBed_2 18 rfl rfl)
theorem dX6_goesToBed_63 : decode cX6_goesToBed 63 = .ok (.putfield 300, 3) := dk_181 1 44 (dk_at dksX6_goesToBed_2 19 rfl rfl)
theorem dX6_goesToBed_66 : decode cX6_goesToBed 66 = .ok (.iinc 3 1, 3) := dk_132 3 1 (dk_at dksX6_goesToBed_3 0 rfl rfl)
theorem dX6_goesToBed_69 : decode cX6_goesToBed 69 = .ok (.goto (-50), 3) := dk_167 255 206 (dk_at dksX6_goesToBed_3 3 rfl rfl)
theorem dX6_goesToBed_72 : decode cX6_goesToBed 72 = .ok (.iconst 0, 1) := dk_3 (dk_at dksX6_goesToBed_3 6 rfl rfl)
theorem dX6_goesToBed_73 : decode cX6_goesToBed 73 = .ok (.istore_n 3, 1) := dk_62 (dk_at dksX6_goesToBed_3 7 rfl rfl)
theorem dX6_goesToBed_74 : decode cX6_goesToBed 74 = .ok (.iload_n 3, 1) := dk_29 (dk_at dksX6_goesToBed_3 8 rfl rfl)
theorem dX6_goesToBed_75 : decode cX6_goesToBed 75 = .ok (.bipush 16, 2) := dk_16 16 (dk_at dksX6_goesToBed_3 9 rfl rfl)
theorem dX6_goesToBed_77 : decode cX6_goesToBed 77 = .ok (.if_icmp .ge 49, 3) := dk_162 0 49 (dk_at dksX6_goesToBed_3 11 rfl rfl)
theorem dX6_goesToBed_80 : decode cX6_goesToBed 80 = .ok (.iload_n 1, 1) := dk_27 (dk_at dksX6_goesToBed_3 14 rfl rfl)
theorem dX6_goesToBed_81 : decode cX6_goesToBed 81 = .ok (.iload_n 3, 1) := dk_29 (dk_at dksX6_goesToBed_3 15 rfl rfl)
theorem dX6_goesToBed_82 : decode cX6_goesToBed 82 = .ok (.invokestatic 100, 3) := dk_184 0 100 (dk_at dksX6_goesToBed_3 16 rfl rfl)
theorem dX6_goesToBed_85 : decode cX6_goesToBed 85 = .ok (.ifCond .eq 35, 3) := dk_153 0 35 (dk_at dksX6_goesToBed_3 19 rfl rfl)
theorem dX6_goesToBed_88 : decode cX6_goesToBed 88 = .ok (.iload_n 3, 1) := dk_29 (dk_at dksX6_goesToBed_3 22 rfl rfl)
theorem dX6_goesToBed_89 : decode cX6_goesToBed 89 = .ok (.aload_n 0, 1) := dk_42 (dk_at dksX6_goesToBed_3 23 rfl rfl)
theorem dX6_goesToBed_90 : decode cX6_goesToBed 90 = .ok (.getfield 300, 3) := dk_180 1 44 (dk_at dksX6_goesToBed_4 0 rfl rfl)
theorem dX6_goesToBed_93 : decode cX6_goesToBed 93 = .ok (.if_icmp .eq 27, 3) := dk_159 0 27 (dk_at dksX6_goesToBed_4 3 rfl rfl)
theorem dX6_goesToBed_96 : decode cX6_goesToBed 96 = .ok (.aload_n 0, 1) := dk_42 (dk_at dksX6_goesToBed_4 6 rfl rfl)
theorem dX6_goesToBed_97 : decode cX6_goesToBed 97 = .ok (.getfield 7, 3) := dk_180 0 7 (dk_at dksX6_goesToBed_4 7 rfl rfl)
theorem dX6_goesToBed_100 : decode cX6_goesToBed 100 = .ok (.iconst 0, 1) := dk_3 (dk_at dksX6_goesToBed_4 10 rfl rfl)
theorem dX6_goesToBed_101 : decode cX6_goesToBed 101 = .ok (.iload_n 3, 1) := dk_29 (dk_at dksX6_goesToBed_4 11 rfl rfl)
theorem dX6_goesToBed_102 : decode cX6_goesToBed 102 = .ok (.iadd, 1) := dk_96 (dk_at dksX6_goesToBed_4 12 rfl rfl)
theorem dX6_goesToBed_103 : decode cX6_goesToBed 103 = .ok (.sipush 9999, 3) := dk_17 39 15 (dk_at dksX6_goesToBed_4 13 rfl rfl)
theorem dX6_goesToBed_106 : decode cX6_goesToBed 106 = .ok (.aload_n 0, 1) := dk_42 (dk_at dksX6_goesToBed_4 16 rfl rfl)
theorem dX6_goesToBed_107 : decode cX6_goesToBed 107 = .ok (.getfield 7, 3) := dk_180 0 7 (dk_at dksX6_goesToBed_4 17 rfl rfl)
theorem dX6_goesToBed_110 : decode cX6_goesToBed 110 = .ok (.iconst 0, 1) := dk_3 (dk_at dksX6_goesToBed_4 20 rfl rfl)
theorem dX6_goesToBed_111 : decode cX6_goesToBed 111 = .ok (.iload_n 3, 1) := dk_29 (dk_at dksX6_goesToBed_4 21 rfl rfl)
theorem dX6_goesToBed_112 : decode cX6_goesToBed 112 = .ok (.iadd, 1) := dk_96 (dk_at dksX6_goesToBed_4 22 rfl rfl)
theorem dX6_goesToBed_113 : decode cX6_goesToBed 113 = .ok (.iaload, 1) := dk_46 (dk_at dksX6_goesToBed_4 23 rfl rfl)
theorem dX6_goesToBed_114 : decode cX6_goesToBed 114 = .ok (.iconst 1, 1) := dk_4 (dk_at dksX6_goesToBed_5 0 rfl rfl)
theorem dX6_goesToBed_115 : decode cX6_goesToBed 115 = .ok (.iadd, 1) := dk_96 (dk_at dksX6_goesToBed_5 1 rfl rfl)
theorem dX6_goesToBed_116 : decode cX6_goesToBed 116 = .ok (.invokestatic 303, 3) := dk_184 1 47 (dk_at dksX6_goesToBed_5 2 rfl rfl)
theorem dX6_goesToBed_119 : decode cX6_goesToBed 119 = .ok (.iastore, 1) := dk_79 (dk_at dksX6_goesToBed_5 5 rfl rfl)
theorem dX6_goesToBed_120 : decode cX6_goesToBed 120 = .ok (.iinc 3 1, 3) := dk_132 3 1 (dk_at dksX6_goesToBed_5 6 rfl rfl)
theorem dX6_goesToBed_123 : decode cX6_goesToBed 123 = .ok (.goto (-49), 3) := dk_167 255 207 (dk_at dksX6_goesToBed_5 9 rfl rfl)
theorem dX6_goesToBed_126 : decode cX6_goesToBed 126 = .ok (.return_, 1) := dk_177 (dk_at dksX6_goesToBed_5 12 rfl rfl)
abbrev cX6_tried : ByteArray := prog_20_method_61_code
def yX6_tried : MethodName := ⟨RX6, "tried", "(II)I"⟩
def dkwX6_tried_7 : List UInt8 := [180, 0, 13, 42, 180, 0, 7, 184, 1, 68, 29, 172]
abbrev dktX6_tried_7 : List UInt8 := dkwX6_tried_7 ++ []
def dkwX6_tried_6 : List UInt8 := [180, 0, 7, 3, 28, 96, 16, 10, 100, 46, 167, 0, 11, 42, 28, 16, 30, 100, 182, 1, 75, 62, 42]
abbrev dktX6_tried_6 : List UInt8 := dkwX6_tried_6 ++ dktX6_tried_7
def dkwX6_tried_5 : List UInt8 := [180, 1, 44, 62, 167, 0, 40, 42, 182, 1, 72, 62, 167, 0, 32, 28, 16, 30, 162, 0, 17, 42]
abbrev dktX6_tried_5 : List UInt8 := dkwX6_tried_5 ++ dktX6_tried_6
def dkwX6_tried_4 : List UInt8 := [42, 180, 1, 56, 62, 167, 0, 61, 42, 180, 1, 44, 2, 160, 0, 8, 16, 254, 167, 0, 7, 42]
abbrev dktX6_tried_4 : List UInt8 := dkwX6_tried_4 ++ dktX6_tried_5
def dkwX6_tried_3 : List UInt8 := [170, 0, 0, 0, 0, 0, 0, 65, 0, 0, 0, 0, 0, 0, 0, 2, 0, 0, 0, 28, 0, 0, 0, 36, 0, 0, 0, 57]
abbrev dktX6_tried_3 : List UInt8 := dkwX6_tried_3 ++ dktX6_tried_4
def dkwX6_tried_2 : List UInt8 := [180, 0, 13, 184, 1, 68, 42, 27, 182, 1, 65, 28]
abbrev dktX6_tried_2 : List UInt8 := dkwX6_tried_2 ++ dktX6_tried_3
def dkwX6_tried_1 : List UInt8 := [182, 0, 233, 154, 0, 16, 42, 28, 16, 30, 100, 182, 0, 233, 154, 0, 5, 2, 172, 42, 180, 0, 7, 42]
abbrev dktX6_tried_1 : List UInt8 := dkwX6_tried_1 ++ dktX6_tried_2
def dkwX6_tried_0 : List UInt8 := [27, 4, 16, 100, 184, 0, 104, 153, 0, 34, 28, 3, 5, 184, 0, 104, 154, 0, 27, 42, 28, 16, 10, 100]
abbrev dktX6_tried_0 : List UInt8 := dkwX6_tried_0 ++ dktX6_tried_1
theorem dksX6_tried_0 : cX6_tried.data.toList.drop 0 = dktX6_tried_0 := by decide +kernel
theorem dksX6_tried_1 : cX6_tried.data.toList.drop 24 = dktX6_tried_1 := dk_seg dksX6_tried_0 24 rfl rfl
theorem dksX6_tried_2 : cX6_tried.data.toList.drop 48 = dktX6_tried_2 := dk_seg dksX6_tried_1 24 rfl rfl
theorem dksX6_tried_3 : cX6_tried.data.toList.drop 60 = dktX6_tried_3 := dk_seg dksX6_tried_2 12 rfl rfl
theorem dksX6_tried_4 : cX6_tried.data.toList.drop 88 = dktX6_tried_4 := dk_seg dksX6_tried_3 28 rfl rfl
theorem dksX6_tried_5 : cX6_tried.data.toList.drop 110 = dktX6_tried_5 := dk_seg dksX6_tried_4 22 rfl rfl
theorem dksX6_tried_6 : cX6_tried.data.toList.drop 132 = dktX6_tried_6 := dk_seg dksX6_tried_5 22 rfl rfl
theorem dksX6_tried_7 : cX6_tried.data.toList.drop 155 = dktX6_tried_7 := dk_seg dksX6_tried_6 23 rfl rfl
theorem dX6_tried_0 : decode cX6_tried 0 = .ok (.iload_n 1, 1) := dk_27 (dk_at dksX6_tried_0 0 rfl rfl)
theorem dX6_tried_1 : decode cX6_tried 1 = .ok (.iconst 1, 1) := dk_4 (dk_at dksX6_tried_0 1 rfl rfl)
theorem dX6_tried_2 : decode cX6_tried 2 = .ok (.bipush 100, 2) := dk_16 100 (dk_at dksX6_tried_0 2 rfl rfl)
theorem dX6_tried_4 : decode cX6_tried 4 = .ok (.invokestatic 104, 3) := dk_184 0 104 (dk_at dksX6_tried_0 4 rfl rfl)
theorem dX6_tried_7 : decode cX6_tried 7 = .ok (.ifCond .eq 34, 3) := dk_153 0 34 (dk_at dksX6_tried_0 7 rfl rfl)
theorem dX6_tried_10 : decode cX6_tried 10 = .ok (.iload_n 2, 1) := dk_28 (dk_at dksX6_tried_0 10 rfl rfl)
theorem dX6_tried_11 : decode cX6_tried 11 = .ok (.iconst 0, 1) := dk_3 (dk_at dksX6_tried_0 11 rfl rfl)
theorem dX6_tried_12 : decode cX6_tried 12 = .ok (.iconst 2, 1) := dk_5 (dk_at dksX6_tried_0 12 rfl rfl)
theorem dX6_tried_13 : decode cX6_tried 13 = .ok (.invokestatic 104, 3) := dk_184 0 104 (dk_at dksX6_tried_0 13 rfl rfl)
theorem dX6_tried_16 : decode cX6_tried 16 = .ok (.ifCond .ne 27, 3) := dk_154 0 27 (dk_at dksX6_tried_0 16 rfl rfl)
theorem dX6_tried_19 : decode cX6_tried 19 = .ok (.aload_n 0, 1) := dk_42 (dk_at dksX6_tried_0 19 rfl rfl)
theorem dX6_tried_20 : decode cX6_tried 20 = .ok (.iload_n 2, 1) := dk_28 (dk_at dksX6_tried_0 20 rfl rfl)
theorem dX6_tried_21 : decode cX6_tried 21 = .ok (.bipush 10, 2) := dk_16 10 (dk_at dksX6_tried_0 21 rfl rfl)
theorem dX6_tried_23 : decode cX6_tried 23 = .ok (.isub, 1) := dk_100 (dk_at dksX6_tried_0 23 rfl rfl)
theorem dX6_tried_24 : decode cX6_tried 24 = .ok (.invokevirtual 233, 3) := dk_182 0 233 (dk_at dksX6_tried_1 0 rfl rfl)
theorem dX6_tried_27 : decode cX6_tried 27 = .ok (.ifCond .ne 16, 3) := dk_154 0 16 (dk_at dksX6_tried_1 3 rfl rfl)
theorem dX6_tried_30 : decode cX6_tried 30 = .ok (.aload_n 0, 1) := dk_42 (dk_at dksX6_tried_1 6 rfl rfl)
theorem dX6_tried_31 : decode cX6_tried 31 = .ok (.iload_n 2, 1) := dk_28 (dk_at dksX6_tried_1 7 rfl rfl)
theorem dX6_tried_32 : decode cX6_tried 32 = .ok (.bipush 30, 2) := dk_16 30 (dk_at dksX6_tried_1 8 rfl rfl)
theorem dX6_tried_34 : decode cX6_tried 34 = .ok (.isub, 1) := dk_100 (dk_at dksX6_tried_1 10 rfl rfl)
theorem dX6_tried_35 : decode cX6_tried 35 = .ok (.invokevirtual 233, 3) := dk_182 0 233 (dk_at dksX6_tried_1 11 rfl rfl)
theorem dX6_tried_38 : decode cX6_tried 38 = .ok (.ifCond .ne 5, 3) := dk_154 0 5 (dk_at dksX6_tried_1 14 rfl rfl)
theorem dX6_tried_41 : decode cX6_tried 41 = .ok (.iconst (-1), 1) := dk_2 (dk_at dksX6_tried_1 17 rfl rfl)
theorem dX6_tried_42 : decode cX6_tried 42 = .ok (.ireturn, 1) := dk_172 (dk_at dksX6_tried_1 18 rfl rfl)
theorem dX6_tried_43 : decode cX6_tried 43 = .ok (.aload_n 0, 1) := dk_42 (dk_at dksX6_tried_1 19 rfl rfl)
theorem dX6_tried_44 : decode cX6_tried 44 = .ok (.getfield 7, 3) := dk_180 0 7 (dk_at dksX6_tried_1 20 rfl rfl)
theorem dX6_tried_47 : decode cX6_tried 47 = .ok (.aload_n 0, 1) := dk_42 (dk_at dksX6_tried_1 23 rfl rfl)
theorem dX6_tried_48 : decode cX6_tried 48 = .ok (.getfield 13, 3) := dk_180 0 13 (dk_at dksX6_tried_2 0 rfl rfl)
theorem dX6_tried_51 : decode cX6_tried 51 = .ok (.invokestatic 324, 3) := dk_184 1 68 (dk_at dksX6_tried_2 3 rfl rfl)
theorem dX6_tried_54 : decode cX6_tried 54 = .ok (.aload_n 0, 1) := dk_42 (dk_at dksX6_tried_2 6 rfl rfl)
theorem dX6_tried_55 : decode cX6_tried 55 = .ok (.iload_n 1, 1) := dk_27 (dk_at dksX6_tried_2 7 rfl rfl)
theorem dX6_tried_56 : decode cX6_tried 56 = .ok (.invokevirtual 321, 3) := dk_182 1 65 (dk_at dksX6_tried_2 8 rfl rfl)
theorem dX6_tried_59 : decode cX6_tried 59 = .ok (.iload_n 2, 1) := dk_28 (dk_at dksX6_tried_2 11 rfl rfl)
theorem dX6_tried_60 : decode cX6_tried 60 = .ok (.tableswitch 65 0 2 #[28, 36, 57], 28) := by decide +kernel
theorem dX6_tried_88 : decode cX6_tried 88 = .ok (.aload_n 0, 1) := dk_42 (dk_at dksX6_tried_4 0 rfl rfl)
theorem dX6_tried_89 : decode cX6_tried 89 = .ok (.getfield 312, 3) := dk_180 1 56 (dk_at dksX6_tried_4 1 rfl rfl)
theorem dX6_tried_92 : decode cX6_tried 92 = .ok (.istore_n 3, 1) := dk_62 (dk_at dksX6_tried_4 4 rfl rfl)
theorem dX6_tried_93 : decode cX6_tried 93 = .ok (.goto 61, 3) := dk_167 0 61 (dk_at dksX6_tried_4 5 rfl rfl)
theorem dX6_tried_96 : decode cX6_tried 96 = .ok (.aload_n 0, 1) := dk_42 (dk_at dksX6_tried_4 8 rfl rfl)
theorem dX6_tried_97 : decode cX6_tried 97 = .ok (.getfield 300, 3) := dk_180 1 44 (dk_at dksX6_tried_4 9 rfl rfl)
theorem dX6_tried_100 : decode cX6_tried 100 = .ok (.iconst (-1), 1) := dk_2 (dk_at dksX6_tried_4 12 rfl rfl)
theorem dX6_tried_101 : decode cX6_tried 101 = .ok (.if_icmp .ne 8, 3) := dk_160 0 8 (dk_at dksX6_tried_4 13 rfl rfl)
theorem dX6_tried_104 : decode cX6_tried 104 = .ok (.bipush (-2), 2) := dk_16 254 (dk_at dksX6_tried_4 16 rfl rfl)
theorem dX6_tried_106 : decode cX6_tried 106 = .ok (.goto 7, 3) := dk_167 0 7 (dk_at dksX6_tried_4 18 rfl rfl)
theorem dX6_tried_109 : decode cX6_tried 109 = .ok (.aload_n 0, 1) := dk_42 (dk_at dksX6_tried_4 21 rfl rfl)
theorem dX6_tried_110 : decode cX6_tried 110 = .ok (.getfield 300, 3) := dk_180 1 44 (dk_at dksX6_tried_5 0 rfl rfl)
theorem dX6_tried_113 : decode cX6_tried 113 = .ok (.istore_n 3, 1) := dk_62 (dk_at dksX6_tried_5 3 rfl rfl)
theorem dX6_tried_114 : decode cX6_tried 114 = .ok (.goto 40, 3) := dk_167 0 40 (dk_at dksX6_tried_5 4 rfl rfl)
theorem dX6_tried_117 : decode cX6_tried 117 = .ok (.aload_n 0, 1) := dk_42 (dk_at dksX6_tried_5 7 rfl rfl)
theorem dX6_tried_118 : decode cX6_tried 118 = .ok (.invokevirtual 328, 3) := dk_182 1 72 (dk_at dksX6_tried_5 8 rfl rfl)
theorem dX6_tried_121 : decode cX6_tried 121 = .ok (.istore_n 3, 1) := dk_62 (dk_at dksX6_tried_5 11 rfl rfl)
theorem dX6_tried_122 : decode cX6_tried 122 = .ok (.goto 32, 3) := dk_167 0 32 (dk_at dksX6_tried_5 12 rfl rfl)
theorem dX6_tried_125 : decode cX6_tried 125 = .ok (.iload_n 2, 1) := dk_28 (dk_at dksX6_tried_5 15 rfl rfl)
theorem dX6_tried_126 : decode cX6_tried 126 = .ok (.bipush 30, 2) := dk_16 30 (dk_at dksX6_tried_5 16 rfl rfl)
theorem dX6_tried_128 : decode cX6_tried 128 = .ok (.if_icmp .ge 17, 3) := dk_162 0 17 (dk_at dksX6_tried_5 18 rfl rfl)
theorem dX6_tried_131 : decode cX6_tried 131 = .ok (.aload_n 0, 1) := dk_42 (dk_at dksX6_tried_5 21 rfl rfl)
theorem dX6_tried_132 : decode cX6_tried 132 = .ok (.getfield 7, 3) := dk_180 0 7 (dk_at dksX6_tried_6 0 rfl rfl)
theorem dX6_tried_135 : decode cX6_tried 135 = .ok (.iconst 0, 1) := dk_3 (dk_at dksX6_tried_6 3 rfl rfl)
theorem dX6_tried_136 : decode cX6_tried 136 = .ok (.iload_n 2, 1) := dk_28 (dk_at dksX6_tried_6 4 rfl rfl)
theorem dX6_tried_137 : decode cX6_tried 137 = .ok (.iadd, 1) := dk_96 (dk_at dksX6_tried_6 5 rfl rfl)
theorem dX6_tried_138 : decode cX6_tried 138 = .ok (.bipush 10, 2) := dk_16 10 (dk_at dksX6_tried_6 6 rfl rfl)
theorem dX6_tried_140 : decode cX6_tried 140 = .ok (.isub, 1) := dk_100 (dk_at dksX6_tried_6 8 rfl rfl)
theorem dX6_tried_141 : decode cX6_tried 141 = .ok (.iaload, 1) := dk_46 (dk_at dksX6_tried_6 9 rfl rfl)
theorem dX6_tried_142 : decode cX6_tried 142 = .ok (.goto 11, 3) := dk_167 0 11 (dk_at dksX6_tried_6 10 rfl rfl)
theorem dX6_tried_145 : decode cX6_tried 145 = .ok (.aload_n 0, 1) := dk_42 (dk_at dksX6_tried_6 13 rfl rfl)
theorem dX6_tried_146 : decode cX6_tried 146 = .ok (.iload_n 2, 1) := dk_28 (dk_at dksX6_tried_6 14 rfl rfl)
theorem dX6_tried_147 : decode cX6_tried 147 = .ok (.bipush 30, 2) := dk_16 30 (dk_at dksX6_tried_6 15 rfl rfl)
theorem dX6_tried_149 : decode cX6_tried 149 = .ok (.isub, 1) := dk_100 (dk_at dksX6_tried_6 17 rfl rfl)
theorem dX6_tried_150 : decode cX6_tried 150 = .ok (.invokevirtual 331, 3) := dk_182 1 75 (dk_at dksX6_tried_6 18 rfl rfl)
theorem dX6_tried_153 : decode cX6_tried 153 = .ok (.istore_n 3, 1) := dk_62 (dk_at dksX6_tried_6 21 rfl rfl)
theorem dX6_tried_154 : decode cX6_tried 154 = .ok (.aload_n 0, 1) := dk_42 (dk_at dksX6_tried_6 22 rfl rfl)
theorem dX6_tried_155 : decode cX6_tried 155 = .ok (.getfield 13, 3) := dk_180 0 13 (dk_at dksX6_tried_7 0 rfl rfl)
theorem dX6_tried_158 : decode cX6_tried 158 = .ok (.aload_n 0, 1) := dk_42 (dk_at dksX6_tried_7 3 rfl rfl)
theorem dX6_tried_159 : decode cX6_tried 159 = .ok (.getfield 7, 3) := dk_180 0 7 (dk_at dksX6_tried_7 4 rfl rfl)
theorem dX6_tried_162 : decode cX6_tried 162 = .ok (.invokestatic 324, 3) := dk_184 1 68 (dk_at dksX6_tried_7 7 rfl rfl)
theorem dX6_tried_165 : decode cX6_tried 165 = .ok (.iload_n 3, 1) := dk_29 (dk_at dksX6_tried_7 10 rfl rfl)
theorem dX6_tried_166 : decode cX6_tried 166 = .ok (.ireturn, 1) := dk_172 (dk_at dksX6_tried_7 11 rfl rfl)
abbrev cX6_copies : ByteArray := prog_20_method_9_code
def yX6_copies : MethodName := ⟨RX6, "copies", "([I[I)V"⟩
def dkwX6_copies_0 : List UInt8 := [3, 61, 28, 17, 1, 18, 162, 0, 15, 43, 28, 42, 28, 46, 79, 132, 2, 1, 167, 255, 240, 177]
abbrev dktX6_copies_0 : List UInt8 := dkwX6_copies_0 ++ []
theorem dksX6_copies_0 : cX6_copies.data.toList.drop 0 = dktX6_copies_0 := by decide +kernel
theorem dX6_copies_0 : decode cX6_copies 0 = .ok (.iconst 0, 1) := dk_3 (dk_at dksX6_copies_0 0 rfl rfl)
theorem dX6_copies_1 : decode cX6_copies 1 = .ok (.istore_n 2, 1) := dk_61 (dk_at dksX6_copies_0 1 rfl rfl)
theorem dX6_copies_2 : decode cX6_copies 2 = .ok (.iload_n 2, 1) := dk_28 (dk_at dksX6_copies_0 2 rfl rfl)
theorem dX6_copies_3 : decode cX6_copies 3 = .ok (.sipush 274, 3) := dk_17 1 18 (dk_at dksX6_copies_0 3 rfl rfl)
theorem dX6_copies_6 : decode cX6_copies 6 = .ok (.if_icmp .ge 15, 3) := dk_162 0 15 (dk_at dksX6_copies_0 6 rfl rfl)
theorem dX6_copies_9 : decode cX6_copies 9 = .ok (.aload_n 1, 1) := dk_43 (dk_at dksX6_copies_0 9 rfl rfl)
theorem dX6_copies_10 : decode cX6_copies 10 = .ok (.iload_n 2, 1) := dk_28 (dk_at dksX6_copies_0 10 rfl rfl)
theorem dX6_copies_11 : decode cX6_copies 11 = .ok (.aload_n 0, 1) := dk_42 (dk_at dksX6_copies_0 11 rfl rfl)
theorem dX6_copies_12 : decode cX6_copies 12 = .ok (.iload_n 2, 1) := dk_28 (dk_at dksX6_copies_0 12 rfl rfl)
theorem dX6_copies_13 : decode cX6_copies 13 = .ok (.iaload, 1) := dk_46 (dk_at dksX6_copies_0 13 rfl rfl)
theorem dX6_copies_14 : decode cX6_copies 14 = .ok (.iastore, 1) := dk_79 (dk_at dksX6_copies_0 14 rfl rfl)
theorem dX6_copies_15 : decode cX6_copies 15 = .ok (.iinc 2 1, 3) := dk_132 2 1 (dk_at dksX6_copies_0 15 rfl rfl)
theorem dX6_copies_18 : decode cX6_copies 18 = .ok (.goto (-16), 3) := dk_167 255 240 (dk_at dksX6_copies_0 18 rfl rfl)
theorem dX6_copies_21 : decode cX6_copies 21 = .ok (.return_, 1) := dk_177 (dk_at dksX6_copies_0 21 rfl rfl)
abbrev cX6_nightsOfAll : ByteArray := prog_20_method_60_code
def yX6_nightsOfAll : MethodName := ⟨RX6, "nightsOfAll", "()I"⟩
def dkwX6_nightsOfAll_1 : List UInt8 := [167, 255, 236, 27, 172]
abbrev dktX6_nightsOfAll_1 : List UInt8 := dkwX6_nightsOfAll_1 ++ []
def dkwX6_nightsOfAll_0 : List UInt8 := [3, 60, 3, 61, 28, 16, 16, 162, 0, 20, 27, 42, 180, 0, 7, 3, 28, 96, 46, 96, 60, 132, 2, 1]
abbrev dktX6_nightsOfAll_0 : List UInt8 := dkwX6_nightsOfAll_0 ++ dktX6_nightsOfAll_1
theorem dksX6_nightsOfAll_0 : cX6_nightsOfAll.data.toList.drop 0 = dktX6_nightsOfAll_0 := by decide +kernel
theorem dksX6_nightsOfAll_1 : cX6_nightsOfAll.data.toList.drop 24 = dktX6_nightsOfAll_1 := dk_seg dksX6_nightsOfAll_0 24 rfl rfl
theorem dX6_nightsOfAll_0 : decode cX6_nightsOfAll 0 = .ok (.iconst 0, 1) := dk_3 (dk_at dksX6_nightsOfAll_0 0 rfl rfl)
theorem dX6_nightsOfAll_1 : decode cX6_nightsOfAll 1 = .ok (.istore_n 1, 1) := dk_60 (dk_at dksX6_nightsOfAll_0 1 rfl rfl)
theorem dX6_nightsOfAll_2 : decode cX6_nightsOfAll 2 = .ok (.iconst 0, 1) := dk_3 (dk_at dksX6_nightsOfAll_0 2 rfl rfl)
theorem dX6_nightsOfAll_3 : decode cX6_nightsOfAll 3 = .ok (.istore_n 2, 1) := dk_61 (dk_at dksX6_nightsOfAll_0 3 rfl rfl)
theorem dX6_nightsOfAll_4 : decode cX6_nightsOfAll 4 = .ok (.iload_n 2, 1) := dk_28 (dk_at dksX6_nightsOfAll_0 4 rfl rfl)
theorem dX6_nightsOfAll_5 : decode cX6_nightsOfAll 5 = .ok (.bipush 16, 2) := dk_16 16 (dk_at dksX6_nightsOfAll_0 5 rfl rfl)
theorem dX6_nightsOfAll_7 : decode cX6_nightsOfAll 7 = .ok (.if_icmp .ge 20, 3) := dk_162 0 20 (dk_at dksX6_nightsOfAll_0 7 rfl rfl)
theorem dX6_nightsOfAll_10 : decode cX6_nightsOfAll 10 = .ok (.iload_n 1, 1) := dk_27 (dk_at dksX6_nightsOfAll_0 10 rfl rfl)
theorem dX6_nightsOfAll_11 : decode cX6_nightsOfAll 11 = .ok (.aload_n 0, 1) := dk_42 (dk_at dksX6_nightsOfAll_0 11 rfl rfl)
theorem dX6_nightsOfAll_12 : decode cX6_nightsOfAll 12 = .ok (.getfield 7, 3) := dk_180 0 7 (dk_at dksX6_nightsOfAll_0 12 rfl rfl)
theorem dX6_nightsOfAll_15 : decode cX6_nightsOfAll 15 = .ok (.iconst 0, 1) := dk_3 (dk_at dksX6_nightsOfAll_0 15 rfl rfl)
theorem dX6_nightsOfAll_16 : decode cX6_nightsOfAll 16 = .ok (.iload_n 2, 1) := dk_28 (dk_at dksX6_nightsOfAll_0 16 rfl rfl)
theorem dX6_nightsOfAll_17 : decode cX6_nightsOfAll 17 = .ok (.iadd, 1) := dk_96 (dk_at dksX6_nightsOfAll_0 17 rfl rfl)
theorem dX6_nightsOfAll_18 : decode cX6_nightsOfAll 18 = .ok (.iaload, 1) := dk_46 (dk_at dksX6_nightsOfAll_0 18 rfl rfl)
theorem dX6_nightsOfAll_19 : decode cX6_nightsOfAll 19 = .ok (.iadd, 1) := dk_96 (dk_at dksX6_nightsOfAll_0 19 rfl rfl)
theorem dX6_nightsOfAll_20 : decode cX6_nightsOfAll 20 = .ok (.istore_n 1, 1) := dk_60 (dk_at dksX6_nightsOfAll_0 20 rfl rfl)
theorem dX6_nightsOfAll_21 : decode cX6_nightsOfAll 21 = .ok (.iinc 2 1, 3) := dk_132 2 1 (dk_at dksX6_nightsOfAll_0 21 rfl rfl)
theorem dX6_nightsOfAll_24 : decode cX6_nightsOfAll 24 = .ok (.goto (-20), 3) := dk_167 255 236 (dk_at dksX6_nightsOfAll_1 0 rfl rfl)
theorem dX6_nightsOfAll_27 : decode cX6_nightsOfAll 27 = .ok (.iload_n 1, 1) := dk_27 (dk_at dksX6_nightsOfAll_1 3 rfl rfl)
theorem dX6_nightsOfAll_28 : decode cX6_nightsOfAll 28 = .ok (.ireturn, 1) := dk_172 (dk_at dksX6_nightsOfAll_1 4 rfl rfl)
abbrev cX6_favoursToAll : ByteArray := prog_20_method_59_code
def yX6_favoursToAll : MethodName := ⟨RX6, "favoursToAll", "(I)I"⟩
def dkwX6_favoursToAll_1 : List UInt8 := [167, 255, 238, 28, 172]
abbrev dktX6_favoursToAll_1 : List UInt8 := dkwX6_favoursToAll_1 ++ []
def dkwX6_favoursToAll_0 : List UInt8 := [3, 61, 3, 62, 29, 16, 16, 162, 0, 18, 28, 42, 27, 29, 182, 1, 29, 96, 61, 132, 3, 1]
abbrev dktX6_favoursToAll_0 : List UInt8 := dkwX6_favoursToAll_0 ++ dktX6_favoursToAll_1
theorem dksX6_favoursToAll_0 : cX6_favoursToAll.data.toList.drop 0 = dktX6_favoursToAll_0 := by decide +kernel
theorem dksX6_favoursToAll_1 : cX6_favoursToAll.data.toList.drop 22 = dktX6_favoursToAll_1 := dk_seg dksX6_favoursToAll_0 22 rfl rfl
theorem dX6_favoursToAll_0 : decode cX6_favoursToAll 0 = .ok (.iconst 0, 1) := dk_3 (dk_at dksX6_favoursToAll_0 0 rfl rfl)
theorem dX6_favoursToAll_1 : decode cX6_favoursToAll 1 = .ok (.istore_n 2, 1) := dk_61 (dk_at dksX6_favoursToAll_0 1 rfl rfl)
theorem dX6_favoursToAll_2 : decode cX6_favoursToAll 2 = .ok (.iconst 0, 1) := dk_3 (dk_at dksX6_favoursToAll_0 2 rfl rfl)
theorem dX6_favoursToAll_3 : decode cX6_favoursToAll 3 = .ok (.istore_n 3, 1) := dk_62 (dk_at dksX6_favoursToAll_0 3 rfl rfl)
theorem dX6_favoursToAll_4 : decode cX6_favoursToAll 4 = .ok (.iload_n 3, 1) := dk_29 (dk_at dksX6_favoursToAll_0 4 rfl rfl)
theorem dX6_favoursToAll_5 : decode cX6_favoursToAll 5 = .ok (.bipush 16, 2) := dk_16 16 (dk_at dksX6_favoursToAll_0 5 rfl rfl)
theorem dX6_favoursToAll_7 : decode cX6_favoursToAll 7 = .ok (.if_icmp .ge 18, 3) := dk_162 0 18 (dk_at dksX6_favoursToAll_0 7 rfl rfl)
theorem dX6_favoursToAll_10 : decode cX6_favoursToAll 10 = .ok (.iload_n 2, 1) := dk_28 (dk_at dksX6_favoursToAll_0 10 rfl rfl)
theorem dX6_favoursToAll_11 : decode cX6_favoursToAll 11 = .ok (.aload_n 0, 1) := dk_42 (dk_at dksX6_favoursToAll_0 11 rfl rfl)
theorem dX6_favoursToAll_12 : decode cX6_favoursToAll 12 = .ok (.iload_n 1, 1) := dk_27 (dk_at dksX6_favoursToAll_0 12 rfl rfl)
theorem dX6_favoursToAll_13 : decode cX6_favoursToAll 13 = .ok (.iload_n 3, 1) := dk_29 (dk_at dksX6_favoursToAll_0 13 rfl rfl)
theorem dX6_favoursToAll_14 : decode cX6_favoursToAll 14 = .ok (.invokevirtual 285, 3) := dk_182 1 29 (dk_at dksX6_favoursToAll_0 14 rfl rfl)
theorem dX6_favoursToAll_17 : decode cX6_favoursToAll 17 = .ok (.iadd, 1) := dk_96 (dk_at dksX6_favoursToAll_0 17 rfl rfl)
theorem dX6_favoursToAll_18 : decode cX6_favoursToAll 18 = .ok (.istore_n 2, 1) := dk_61 (dk_at dksX6_favoursToAll_0 18 rfl rfl)
theorem dX6_favoursToAll_19 : decode cX6_favoursToAll 19 = .ok (.iinc 3 1, 3) := dk_132 3 1 (dk_at dksX6_favoursToAll_0 19 rfl rfl)
theorem dX6_favoursToAll_22 : decode cX6_favoursToAll 22 = .ok (.goto (-18), 3) := dk_167 255 238 (dk_at dksX6_favoursToAll_1 0 rfl rfl)
theorem dX6_favoursToAll_25 : decode cX6_favoursToAll 25 = .ok (.iload_n 2, 1) := dk_28 (dk_at dksX6_favoursToAll_1 3 rfl rfl)
theorem dX6_favoursToAll_26 : decode cX6_favoursToAll 26 = .ok (.ireturn, 1) := dk_172 (dk_at dksX6_favoursToAll_1 4 rfl rfl)
abbrev cX6_personIs : ByteArray := prog_20_method_63_code
def yX6_personIs : MethodName := ⟨RX6, "personIs", "(II)I"⟩
def dkwX6_personIs_3 : List UInt8 := [172, 42, 180, 0, 22, 27, 46, 172, 42, 27, 182, 1, 75, 172, 42, 27, 182, 1, 78, 172, 2, 172]
abbrev dktX6_personIs_3 : List UInt8 := dkwX6_personIs_3 ++ []
def dkwX6_personIs_2 : List UInt8 := [42, 180, 0, 19, 27, 46, 172, 42, 180, 0, 227, 27, 122, 4, 126, 172, 42, 180, 0, 7, 3, 27, 96, 46]
abbrev dktX6_personIs_2 : List UInt8 := dkwX6_personIs_2 ++ dktX6_personIs_3
def dkwX6_personIs_1 : List UInt8 := [170, 0, 0, 0, 81, 0, 0, 0, 0, 0, 0, 0, 5, 0, 0, 0, 37, 0, 0, 0, 44, 0, 0, 0, 53, 0, 0, 0, 62, 0, 0, 0, 69, 0, 0, 0, 75]
abbrev dktX6_personIs_1 : List UInt8 := dkwX6_personIs_1 ++ dktX6_personIs_2
def dkwX6_personIs_0 : List UInt8 := [42, 27, 182, 0, 233, 154, 0, 5, 2, 172, 28]
abbrev dktX6_personIs_0 : List UInt8 := dkwX6_personIs_0 ++ dktX6_personIs_1
theorem dksX6_personIs_0 : cX6_personIs.data.toList.drop 0 = dktX6_personIs_0 := by decide +kernel
theorem dksX6_personIs_1 : cX6_personIs.data.toList.drop 11 = dktX6_personIs_1 := dk_seg dksX6_personIs_0 11 rfl rfl
theorem dksX6_personIs_2 : cX6_personIs.data.toList.drop 48 = dktX6_personIs_2 := dk_seg dksX6_personIs_1 37 rfl rfl
theorem dksX6_personIs_3 : cX6_personIs.data.toList.drop 72 = dktX6_personIs_3 := dk_seg dksX6_personIs_2 24 rfl rfl
theorem dX6_personIs_0 : decode cX6_personIs 0 = .ok (.aload_n 0, 1) := dk_42 (dk_at dksX6_personIs_0 0 rfl rfl)
theorem dX6_personIs_1 : decode cX6_personIs 1 = .ok (.iload_n 1, 1) := dk_27 (dk_at dksX6_personIs_0 1 rfl rfl)
theorem dX6_personIs_2 : decode cX6_personIs 2 = .ok (.invokevirtual 233, 3) := dk_182 0 233 (dk_at dksX6_personIs_0 2 rfl rfl)
theorem dX6_personIs_5 : decode cX6_personIs 5 = .ok (.ifCond .ne 5, 3) := dk_154 0 5 (dk_at dksX6_personIs_0 5 rfl rfl)
theorem dX6_personIs_8 : decode cX6_personIs 8 = .ok (.iconst (-1), 1) := dk_2 (dk_at dksX6_personIs_0 8 rfl rfl)
theorem dX6_personIs_9 : decode cX6_personIs 9 = .ok (.ireturn, 1) := dk_172 (dk_at dksX6_personIs_0 9 rfl rfl)
theorem dX6_personIs_10 : decode cX6_personIs 10 = .ok (.iload_n 2, 1) := dk_28 (dk_at dksX6_personIs_0 10 rfl rfl)
theorem dX6_personIs_11 : decode cX6_personIs 11 = .ok (.tableswitch 81 0 5 #[37, 44, 53, 62, 69, 75], 37) := by decide +kernel
theorem dX6_personIs_48 : decode cX6_personIs 48 = .ok (.aload_n 0, 1) := dk_42 (dk_at dksX6_personIs_2 0 rfl rfl)
theorem dX6_personIs_49 : decode cX6_personIs 49 = .ok (.getfield 19, 3) := dk_180 0 19 (dk_at dksX6_personIs_2 1 rfl rfl)
theorem dX6_personIs_52 : decode cX6_personIs 52 = .ok (.iload_n 1, 1) := dk_27 (dk_at dksX6_personIs_2 4 rfl rfl)
theorem dX6_personIs_53 : decode cX6_personIs 53 = .ok (.iaload, 1) := dk_46 (dk_at dksX6_personIs_2 5 rfl rfl)
theorem dX6_personIs_54 : decode cX6_personIs 54 = .ok (.ireturn, 1) := dk_172 (dk_at dksX6_personIs_2 6 rfl rfl)
theorem dX6_personIs_55 : decode cX6_personIs 55 = .ok (.aload_n 0, 1) := dk_42 (dk_at dksX6_personIs_2 7 rfl rfl)
theorem dX6_personIs_56 : decode cX6_personIs 56 = .ok (.getfield 227, 3) := dk_180 0 227 (dk_at dksX6_personIs_2 8 rfl rfl)
theorem dX6_personIs_59 : decode cX6_personIs 59 = .ok (.iload_n 1, 1) := dk_27 (dk_at dksX6_personIs_2 11 rfl rfl)
theorem dX6_personIs_60 : decode cX6_personIs 60 = .ok (.ishr, 1) := dk_122 (dk_at dksX6_personIs_2 12 rfl rfl)
theorem dX6_personIs_61 : decode cX6_personIs 61 = .ok (.iconst 1, 1) := dk_4 (dk_at dksX6_personIs_2 13 rfl rfl)
theorem dX6_personIs_62 : decode cX6_personIs 62 = .ok (.iand, 1) := dk_126 (dk_at dksX6_personIs_2 14 rfl rfl)
theorem dX6_personIs_63 : decode cX6_personIs 63 = .ok (.ireturn, 1) := dk_172 (dk_at dksX6_personIs_2 15 rfl rfl)
theorem dX6_personIs_64 : decode cX6_personIs 64 = .ok (.aload_n 0, 1) := dk_42 (dk_at dksX6_personIs_2 16 rfl rfl)
theorem dX6_personIs_65 : decode cX6_personIs 65 = .ok (.getfield 7, 3) := dk_180 0 7 (dk_at dksX6_personIs_2 17 rfl rfl)
theorem dX6_personIs_68 : decode cX6_personIs 68 = .ok (.iconst 0, 1) := dk_3 (dk_at dksX6_personIs_2 20 rfl rfl)
theorem dX6_personIs_69 : decode cX6_personIs 69 = .ok (.iload_n 1, 1) := dk_27 (dk_at dksX6_personIs_2 21 rfl rfl)
theorem dX6_personIs_70 : decode cX6_personIs 70 = .ok (.iadd, 1) := dk_96 (dk_at dksX6_personIs_2 22 rfl rfl)
theorem dX6_personIs_71 : decode cX6_personIs 71 = .ok (.iaload, 1) := dk_46 (dk_at dksX6_personIs_2 23 rfl rfl)
theorem dX6_personIs_72 : decode cX6_personIs 72 = .ok (.ireturn, 1) := dk_172 (dk_at dksX6_personIs_3 0 rfl rfl)
theorem dX6_personIs_73 : decode cX6_personIs 73 = .ok (.aload_n 0, 1) := dk_42 (dk_at dksX6_personIs_3 1 rfl rfl)
theorem dX6_personIs_74 : decode cX6_personIs 74 = .ok (.getfield 22, 3) := dk_180 0 22 (dk_at dksX6_personIs_3 2 rfl rfl)
theorem dX6_personIs_77 : decode cX6_personIs 77 = .ok (.iload_n 1, 1) := dk_27 (dk_at dksX6_personIs_3 5 rfl rfl)
theorem dX6_personIs_78 : decode cX6_personIs 78 = .ok (.iaload, 1) := dk_46 (dk_at dksX6_personIs_3 6 rfl rfl)
theorem dX6_personIs_79 : decode cX6_personIs 79 = .ok (.ireturn, 1) := dk_172 (dk_at dksX6_personIs_3 7 rfl rfl)
theorem dX6_personIs_80 : decode cX6_personIs 80 = .ok (.aload_n 0, 1) := dk_42 (dk_at dksX6_personIs_3 8 rfl rfl)
theorem dX6_personIs_81 : decode cX6_personIs 81 = .ok (.iload_n 1, 1) := dk_27 (dk_at dksX6_personIs_3 9 rfl rfl)
theorem dX6_personIs_82 : decode cX6_personIs 82 = .ok (.invokevirtual 331, 3) := dk_182 1 75 (dk_at dksX6_personIs_3 10 rfl rfl)
theorem dX6_personIs_85 : decode cX6_personIs 85 = .ok (.ireturn, 1) := dk_172 (dk_at dksX6_personIs_3 13 rfl rfl)
theorem dX6_personIs_86 : decode cX6_personIs 86 = .ok (.aload_n 0, 1) := dk_42 (dk_at dksX6_personIs_3 14 rfl rfl)
theorem dX6_personIs_87 : decode cX6_personIs 87 = .ok (.iload_n 1, 1) := dk_27 (dk_at dksX6_personIs_3 15 rfl rfl)
theorem dX6_personIs_88 : decode cX6_personIs 88 = .ok (.invokevirtual 334, 3) := dk_182 1 78 (dk_at dksX6_personIs_3 16 rfl rfl)
theorem dX6_personIs_91 : decode cX6_personIs 91 = .ok (.ireturn, 1) := dk_172 (dk_at dksX6_personIs_3 19 rfl rfl)
theorem dX6_personIs_92 : decode cX6_personIs 92 = .ok (.iconst (-1), 1) := dk_2 (dk_at dksX6_personIs_3 20 rfl rfl)
theorem dX6_personIs_93 : decode cX6_personIs 93 = .ok (.ireturn, 1) := dk_172 (dk_at dksX6_personIs_3 21 rfl rfl)
abbrev cX6_favoursOfAllTo : ByteArray := prog_20_method_62_code
def yX6_favoursOfAllTo : MethodName := ⟨RX6, "favoursOfAllTo", "(I)I"⟩
def dkwX6_favoursOfAllTo_1 : List UInt8 := [167, 255, 238, 28, 172]
abbrev dktX6_favoursOfAllTo_1 : List UInt8 := dkwX6_favoursOfAllTo_1 ++ []
def dkwX6_favoursOfAllTo_0 : List UInt8 := [3, 61, 3, 62, 29, 16, 16, 162, 0, 18, 28, 42, 29, 27, 182, 1, 29, 96, 61, 132, 3, 1]
abbrev dktX6_favoursOfAllTo_0 : List UInt8 := dkwX6_favoursOfAllTo_0 ++ dktX6_favoursOfAllTo_1
theorem dksX6_favoursOfAllTo_0 : cX6_favoursOfAllTo.data.toList.drop 0 = dktX6_favoursOfAllTo_0 := by decide +kernel
theorem dksX6_favoursOfAllTo_1 : cX6_favoursOfAllTo.data.toList.drop 22 = dktX6_favoursOfAllTo_1 := dk_seg dksX6_favoursOfAllTo_0 22 rfl rfl
theorem dX6_favoursOfAllTo_0 : decode cX6_favoursOfAllTo 0 = .ok (.iconst 0, 1) := dk_3 (dk_at dksX6_favoursOfAllTo_0 0 rfl rfl)
theorem dX6_favoursOfAllTo_1 : decode cX6_favoursOfAllTo 1 = .ok (.istore_n 2, 1) := dk_61 (dk_at dksX6_favoursOfAllTo_0 1 rfl rfl)
theorem dX6_favoursOfAllTo_2 : decode cX6_favoursOfAllTo 2 = .ok (.iconst 0, 1) := dk_3 (dk_at dksX6_favoursOfAllTo_0 2 rfl rfl)
theorem dX6_favoursOfAllTo_3 : decode cX6_favoursOfAllTo 3 = .ok (.istore_n 3, 1) := dk_62 (dk_at dksX6_favoursOfAllTo_0 3 rfl rfl)
theorem dX6_favoursOfAllTo_4 : decode cX6_favoursOfAllTo 4 = .ok (.iload_n 3, 1) := dk_29 (dk_at dksX6_favoursOfAllTo_0 4 rfl rfl)
theorem dX6_favoursOfAllTo_5 : decode cX6_favoursOfAllTo 5 = .ok (.bipush 16, 2) := dk_16 16 (dk_at dksX6_favoursOfAllTo_0 5 rfl rfl)
theorem dX6_favoursOfAllTo_7 : decode cX6_favoursOfAllTo 7 = .ok (.if_icmp .ge 18, 3) := dk_162 0 18 (dk_at dksX6_favoursOfAllTo_0 7 rfl rfl)
theorem dX6_favoursOfAllTo_10 : decode cX6_favoursOfAllTo 10 = .ok (.iload_n 2, 1) := dk_28 (dk_at dksX6_favoursOfAllTo_0 10 rfl rfl)
theorem dX6_favoursOfAllTo_11 : decode cX6_favoursOfAllTo 11 = .ok (.aload_n 0, 1) := dk_42 (dk_at dksX6_favoursOfAllTo_0 11 rfl rfl)
theorem dX6_favoursOfAllTo_12 : decode cX6_favoursOfAllTo 12 = .ok (.iload_n 3, 1) := dk_29 (dk_at dksX6_favoursOfAllTo_0 12 rfl rfl)
theorem dX6_favoursOfAllTo_13 : decode cX6_favoursOfAllTo 13 = .ok (.iload_n 1, 1) := dk_27 (dk_at dksX6_favoursOfAllTo_0 13 rfl rfl)
theorem dX6_favoursOfAllTo_14 : decode cX6_favoursOfAllTo 14 = .ok (.invokevirtual 285, 3) := dk_182 1 29 (dk_at dksX6_favoursOfAllTo_0 14 rfl rfl)
theorem dX6_favoursOfAllTo_17 : decode cX6_favoursOfAllTo 17 = .ok (.iadd, 1) := dk_96 (dk_at dksX6_favoursOfAllTo_0 17 rfl rfl)
theorem dX6_favoursOfAllTo_18 : decode cX6_favoursOfAllTo 18 = .ok (.istore_n 2, 1) := dk_61 (dk_at dksX6_favoursOfAllTo_0 18 rfl rfl)
theorem dX6_favoursOfAllTo_19 : decode cX6_favoursOfAllTo 19 = .ok (.iinc 3 1, 3) := dk_132 3 1 (dk_at dksX6_favoursOfAllTo_0 19 rfl rfl)
theorem dX6_favoursOfAllTo_22 : decode cX6_favoursOfAllTo 22 = .ok (.goto (-18), 3) := dk_167 255 238 (dk_at dksX6_favoursOfAllTo_1 0 rfl rfl)
theorem dX6_favoursOfAllTo_25 : decode cX6_favoursOfAllTo 25 = .ok (.iload_n 2, 1) := dk_28 (dk_at dksX6_favoursOfAllTo_1 3 rfl rfl)
theorem dX6_favoursOfAllTo_26 : decode cX6_favoursOfAllTo 26 = .ok (.ireturn, 1) := dk_172 (dk_at dksX6_favoursOfAllTo_1 4 rfl rfl)
abbrev cX6_favours : ByteArray := prog_20_method_64_code
def yX6_favours : MethodName := ⟨RX6, "favours", "(II)I"⟩
def dkwX6_favours_1 : List UInt8 := [167, 0, 4, 2, 172]
abbrev dktX6_favours_1 : List UInt8 := dkwX6_favours_1 ++ []
def dkwX6_favours_0 : List UInt8 := [42, 27, 182, 0, 233, 153, 0, 20, 42, 28, 182, 0, 233, 153, 0, 12, 42, 27, 28, 182, 1, 29]
abbrev dktX6_favours_0 : List UInt8 := dkwX6_favours_0 ++ dktX6_favours_1
theorem dksX6_favours_0 : cX6_favours.data.toList.drop 0 = dktX6_favours_0 := by decide +kernel
theorem dksX6_favours_1 : cX6_favours.data.toList.drop 22 = dktX6_favours_1 := dk_seg dksX6_favours_0 22 rfl rfl
theorem dX6_favours_0 : decode cX6_favours 0 = .ok (.aload_n 0, 1) := dk_42 (dk_at dksX6_favours_0 0 rfl rfl)
theorem dX6_favours_1 : decode cX6_favours 1 = .ok (.iload_n 1, 1) := dk_27 (dk_at dksX6_favours_0 1 rfl rfl)
theorem dX6_favours_2 : decode cX6_favours 2 = .ok (.invokevirtual 233, 3) := dk_182 0 233 (dk_at dksX6_favours_0 2 rfl rfl)
theorem dX6_favours_5 : decode cX6_favours 5 = .ok (.ifCond .eq 20, 3) := dk_153 0 20 (dk_at dksX6_favours_0 5 rfl rfl)
theorem dX6_favours_8 : decode cX6_favours 8 = .ok (.aload_n 0, 1) := dk_42 (dk_at dksX6_favours_0 8 rfl rfl)
theorem dX6_favours_9 : decode cX6_favours 9 = .ok (.iload_n 2, 1) := dk_28 (dk_at dksX6_favours_0 9 rfl rfl)
theorem dX6_favours_10 : decode cX6_favours 10 = .ok (.invokevirtual 233, 3) := dk_182 0 233 (dk_at dksX6_favours_0 10 rfl rfl)
theorem dX6_favours_13 : decode cX6_favours 13 = .ok (.ifCond .eq 12, 3) := dk_153 0 12 (dk_at dksX6_favours_0 13 rfl rfl)
theorem dX6_favours_16 : decode cX6_favours 16 = .ok (.aload_n 0, 1) := dk_42 (dk_at dksX6_favours_0 16 rfl rfl)
theorem dX6_favours_17 : decode cX6_favours 17 = .ok (.iload_n 1, 1) := dk_27 (dk_at dksX6_favours_0 17 rfl rfl)
theorem dX6_favours_18 : decode cX6_favours 18 = .ok (.iload_n 2, 1) := dk_28 (dk_at dksX6_favours_0 18 rfl rfl)
theorem dX6_favours_19 : decode cX6_favours 19 = .ok (.invokevirtual 285, 3) := dk_182 1 29 (dk_at dksX6_favours_0 19 rfl rfl)
theorem dX6_favours_22 : decode cX6_favours 22 = .ok (.goto 4, 3) := dk_167 0 4 (dk_at dksX6_favours_1 0 rfl rfl)
theorem dX6_favours_25 : decode cX6_favours 25 = .ok (.iconst (-1), 1) := dk_2 (dk_at dksX6_favours_1 3 rfl rfl)
theorem dX6_favours_26 : decode cX6_favours 26 = .ok (.ireturn, 1) := dk_172 (dk_at dksX6_favours_1 4 rfl rfl)
abbrev cX6_stayOut : ByteArray := prog_20_method_67_code
def yX6_stayOut : MethodName := ⟨RX6, "stayOut", "(I)I"⟩
def dkwX6_stayOut_1 : List UInt8 := [167, 0, 7, 42, 182, 1, 84, 172]
abbrev dktX6_stayOut_1 : List UInt8 := dkwX6_stayOut_1 ++ []
def dkwX6_stayOut_0 : List UInt8 := [27, 3, 4, 184, 0, 104, 154, 0, 5, 2, 172, 27, 154, 0, 13, 42, 182, 1, 84, 184, 1, 20]
abbrev dktX6_stayOut_0 : List UInt8 := dkwX6_stayOut_0 ++ dktX6_stayOut_1
theorem dksX6_stayOut_0 : cX6_stayOut.data.toList.drop 0 = dktX6_stayOut_0 := by decide +kernel
theorem dksX6_stayOut_1 : cX6_stayOut.data.toList.drop 22 = dktX6_stayOut_1 := dk_seg dksX6_stayOut_0 22 rfl rfl
theorem dX6_stayOut_0 : decode cX6_stayOut 0 = .ok (.iload_n 1, 1) := dk_27 (dk_at dksX6_stayOut_0 0 rfl rfl)
theorem dX6_stayOut_1 : decode cX6_stayOut 1 = .ok (.iconst 0, 1) := dk_3 (dk_at dksX6_stayOut_0 1 rfl rfl)
theorem dX6_stayOut_2 : decode cX6_stayOut 2 = .ok (.iconst 1, 1) := dk_4 (dk_at dksX6_stayOut_0 2 rfl rfl)
theorem dX6_stayOut_3 : decode cX6_stayOut 3 = .ok (.invokestatic 104, 3) := dk_184 0 104 (dk_at dksX6_stayOut_0 3 rfl rfl)
theorem dX6_stayOut_6 : decode cX6_stayOut 6 = .ok (.ifCond .ne 5, 3) := dk_154 0 5 (dk_at dksX6_stayOut_0 6 rfl rfl)
theorem dX6_stayOut_9 : decode cX6_stayOut 9 = .ok (.iconst (-1), 1) := dk_2 (dk_at dksX6_stayOut_0 9 rfl rfl)
theorem dX6_stayOut_10 : decode cX6_stayOut 10 = .ok (.ireturn, 1) := dk_172 (dk_at dksX6_stayOut_0 10 rfl rfl)
theorem dX6_stayOut_11 : decode cX6_stayOut 11 = .ok (.iload_n 1, 1) := dk_27 (dk_at dksX6_stayOut_0 11 rfl rfl)
theorem dX6_stayOut_12 : decode cX6_stayOut 12 = .ok (.ifCond .ne 13, 3) := dk_154 0 13 (dk_at dksX6_stayOut_0 12 rfl rfl)
theorem dX6_stayOut_15 : decode cX6_stayOut 15 = .ok (.aload_n 0, 1) := dk_42 (dk_at dksX6_stayOut_0 15 rfl rfl)
theorem dX6_stayOut_16 : decode cX6_stayOut 16 = .ok (.invokevirtual 340, 3) := dk_182 1 84 (dk_at dksX6_stayOut_0 16 rfl rfl)
theorem dX6_stayOut_19 : decode cX6_stayOut 19 = .ok (.invokestatic 276, 3) := dk_184 1 20 (dk_at dksX6_stayOut_0 19 rfl rfl)
theorem dX6_stayOut_22 : decode cX6_stayOut 22 = .ok (.goto 7, 3) := dk_167 0 7 (dk_at dksX6_stayOut_1 0 rfl rfl)
theorem dX6_stayOut_25 : decode cX6_stayOut 25 = .ok (.aload_n 0, 1) := dk_42 (dk_at dksX6_stayOut_1 3 rfl rfl)
theorem dX6_stayOut_26 : decode cX6_stayOut 26 = .ok (.invokevirtual 340, 3) := dk_182 1 84 (dk_at dksX6_stayOut_1 4 rfl rfl)
theorem dX6_stayOut_29 : decode cX6_stayOut 29 = .ok (.ireturn, 1) := dk_172 (dk_at dksX6_stayOut_1 7 rfl rfl)
abbrev cX6_mustStay : ByteArray := prog_20_method_66_code
def yX6_mustStay : MethodName := ⟨RX6, "mustStay", "()I"⟩
def dkwX6_mustStay_3 : List UInt8 := [167, 255, 194, 27, 172]
abbrev dktX6_mustStay_3 : List UInt8 := dkwX6_mustStay_3 ++ []
def dkwX6_mustStay_2 : List UInt8 := [61, 21, 4, 42, 180, 0, 227, 2, 130, 126, 154, 0, 9, 27, 4, 29, 120, 128, 60, 132, 3, 1]
abbrev dktX6_mustStay_2 : List UInt8 := dkwX6_mustStay_2 ++ dktX6_mustStay_3
def dkwX6_mustStay_1 : List UInt8 := [184, 0, 100, 153, 0, 6, 167, 0, 37, 42, 29, 42, 180, 0, 108, 182, 1, 81, 54, 4, 28, 21, 4, 128]
abbrev dktX6_mustStay_1 : List UInt8 := dkwX6_mustStay_1 ++ dktX6_mustStay_2
def dkwX6_mustStay_0 : List UInt8 := [3, 60, 3, 61, 3, 62, 29, 16, 16, 162, 0, 62, 42, 29, 182, 0, 233, 153, 0, 48, 28, 29]
abbrev dktX6_mustStay_0 : List UInt8 := dkwX6_mustStay_0 ++ dktX6_mustStay_1
theorem dksX6_mustStay_0 : cX6_mustStay.data.toList.drop 0 = dktX6_mustStay_0 := by decide +kernel
theorem dksX6_mustStay_1 : cX6_mustStay.data.toList.drop 22 = dktX6_mustStay_1 := dk_seg dksX6_mustStay_0 22 rfl rfl
theorem dksX6_mustStay_2 : cX6_mustStay.data.toList.drop 46 = dktX6_mustStay_2 := dk_seg dksX6_mustStay_1 24 rfl rfl
theorem dksX6_mustStay_3 : cX6_mustStay.data.toList.drop 68 = dktX6_mustStay_3 := dk_seg dksX6_mustStay_2 22 rfl rfl
theorem dX6_mustStay_0 : decode cX6_mustStay 0 = .ok (.iconst 0, 1) := dk_3 (dk_at dksX6_mustStay_0 0 rfl rfl)
theorem dX6_mustStay_1 : decode cX6_mustStay 1 = .ok (.istore_n 1, 1) := dk_60 (dk_at dksX6_mustStay_0 1 rfl rfl)
theorem dX6_mustStay_2 : decode cX6_mustStay 2 = .ok (.iconst 0, 1) := dk_3 (dk_at dksX6_mustStay_0 2 rfl rfl)
theorem dX6_mustStay_3 : decode cX6_mustStay 3 = .ok (.istore_n 2, 1) := dk_61 (dk_at dksX6_mustStay_0 3 rfl rfl)
theorem dX6_mustStay_4 : decode cX6_mustStay 4 = .ok (.iconst 0, 1) := dk_3 (dk_at dksX6_mustStay_0 4 rfl rfl)
theorem dX6_mustStay_5 : decode cX6_mustStay 5 = .ok (.istore_n 3, 1) := dk_62 (dk_at dksX6_mustStay_0 5 rfl rfl)
theorem dX6_mustStay_6 : decode cX6_mustStay 6 = .ok (.iload_n 3, 1) := dk_29 (dk_at dksX6_mustStay_0 6 rfl rfl)
theorem dX6_mustStay_7 : decode cX6_mustStay 7 = .ok (.bipush 16, 2) := dk_16 16 (dk_at dksX6_mustStay_0 7 rfl rfl)
theorem dX6_mustStay_9 : decode cX6_mustStay 9 = .ok (.if_icmp .ge 62, 3) := dk_162 0 62 (dk_at dksX6_mustStay_0 9 rfl rfl)
theorem dX6_mustStay_12 : decode cX6_mustStay 12 = .ok (.aload_n 0, 1) := dk_42 (dk_at dksX6_mustStay_0 12 rfl rfl)
theorem dX6_mustStay_13 : decode cX6_mustStay 13 = .ok (.iload_n 3, 1) := dk_29 (dk_at dksX6_mustStay_0 13 rfl rfl)
theorem dX6_mustStay_14 : decode cX6_mustStay 14 = .ok (.invokevirtual 233, 3) := dk_182 0 233 (dk_at dksX6_mustStay_0 14 rfl rfl)
theorem dX6_mustStay_17 : decode cX6_mustStay 17 = .ok (.ifCond .eq 48, 3) := dk_153 0 48 (dk_at dksX6_mustStay_0 17 rfl rfl)
theorem dX6_mustStay_20 : decode cX6_mustStay 20 = .ok (.iload_n 2, 1) := dk_28 (dk_at dksX6_mustStay_0 20 rfl rfl)
theorem dX6_mustStay_21 : decode cX6_mustStay 21 = .ok (.iload_n 3, 1) := dk_29 (dk_at dksX6_mustStay_0 21 rfl rfl)
theorem dX6_mustStay_22 : decode cX6_mustStay 22 = .ok (.invokestatic 100, 3) := dk_184 0 100 (dk_at dksX6_mustStay_1 0 rfl rfl)
theorem dX6_mustStay_25 : decode cX6_mustStay 25 = .ok (.ifCond .eq 6, 3) := dk_153 0 6 (dk_at dksX6_mustStay_1 3 rfl rfl)
theorem dX6_mustStay_28 : decode cX6_mustStay 28 = .ok (.goto 37, 3) := dk_167 0 37 (dk_at dksX6_mustStay_1 6 rfl rfl)
theorem dX6_mustStay_31 : decode cX6_mustStay 31 = .ok (.aload_n 0, 1) := dk_42 (dk_at dksX6_mustStay_1 9 rfl rfl)
theorem dX6_mustStay_32 : decode cX6_mustStay 32 = .ok (.iload_n 3, 1) := dk_29 (dk_at dksX6_mustStay_1 10 rfl rfl)
theorem dX6_mustStay_33 : decode cX6_mustStay 33 = .ok (.aload_n 0, 1) := dk_42 (dk_at dksX6_mustStay_1 11 rfl rfl)
theorem dX6_mustStay_34 : decode cX6_mustStay 34 = .ok (.getfield 108, 3) := dk_180 0 108 (dk_at dksX6_mustStay_1 12 rfl rfl)
theorem dX6_mustStay_37 : decode cX6_mustStay 37 = .ok (.invokevirtual 337, 3) := dk_182 1 81 (dk_at dksX6_mustStay_1 15 rfl rfl)
theorem dX6_mustStay_40 : decode cX6_mustStay 40 = .ok (.istore 4, 2) := dk_54 4 (dk_at dksX6_mustStay_1 18 rfl rfl)
theorem dX6_mustStay_42 : decode cX6_mustStay 42 = .ok (.iload_n 2, 1) := dk_28 (dk_at dksX6_mustStay_1 20 rfl rfl)
theorem dX6_mustStay_43 : decode cX6_mustStay 43 = .ok (.iload 4, 2) := dk_21 4 (dk_at dksX6_mustStay_1 21 rfl rfl)
theorem dX6_mustStay_45 : decode cX6_mustStay 45 = .ok (.ior, 1) := dk_128 (dk_at dksX6_mustStay_1 23 rfl rfl)
theorem dX6_mustStay_46 : decode cX6_mustStay 46 = .ok (.istore_n 2, 1) := dk_61 (dk_at dksX6_mustStay_2 0 rfl rfl)
theorem dX6_mustStay_47 : decode cX6_mustStay 47 = .ok (.iload 4, 2) := dk_21 4 (dk_at dksX6_mustStay_2 1 rfl rfl)
theorem dX6_mustStay_49 : decode cX6_mustStay 49 = .ok (.aload_n 0, 1) := dk_42 (dk_at dksX6_mustStay_2 3 rfl rfl)
theorem dX6_mustStay_50 : decode cX6_mustStay 50 = .ok (.getfield 227, 3) := dk_180 0 227 (dk_at dksX6_mustStay_2 4 rfl rfl)
theorem dX6_mustStay_53 : decode cX6_mustStay 53 = .ok (.iconst (-1), 1) := dk_2 (dk_at dksX6_mustStay_2 7 rfl rfl)
theorem dX6_mustStay_54 : decode cX6_mustStay 54 = .ok (.ixor, 1) := dk_130 (dk_at dksX6_mustStay_2 8 rfl rfl)
theorem dX6_mustStay_55 : decode cX6_mustStay 55 = .ok (.iand, 1) := dk_126 (dk_at dksX6_mustStay_2 9 rfl rfl)
theorem dX6_mustStay_56 : decode cX6_mustStay 56 = .ok (.ifCond .ne 9, 3) := dk_154 0 9 (dk_at dksX6_mustStay_2 10 rfl rfl)
theorem dX6_mustStay_59 : decode cX6_mustStay 59 = .ok (.iload_n 1, 1) := dk_27 (dk_at dksX6_mustStay_2 13 rfl rfl)
theorem dX6_mustStay_60 : decode cX6_mustStay 60 = .ok (.iconst 1, 1) := dk_4 (dk_at dksX6_mustStay_2 14 rfl rfl)
theorem dX6_mustStay_61 : decode cX6_mustStay 61 = .ok (.iload_n 3, 1) := dk_29 (dk_at dksX6_mustStay_2 15 rfl rfl)
theorem dX6_mustStay_62 : decode cX6_mustStay 62 = .ok (.ishl, 1) := dk_120 (dk_at dksX6_mustStay_2 16 rfl rfl)
theorem dX6_mustStay_63 : decode cX6_mustStay 63 = .ok (.ior, 1) := dk_128 (dk_at dksX6_mustStay_2 17 rfl rfl)
theorem dX6_mustStay_64 : decode cX6_mustStay 64 = .ok (.istore_n 1, 1) := dk_60 (dk_at dksX6_mustStay_2 18 rfl rfl)
theorem dX6_mustStay_65 : decode cX6_mustStay 65 = .ok (.iinc 3 1, 3) := dk_132 3 1 (dk_at dksX6_mustStay_2 19 rfl rfl)
theorem dX6_mustStay_68 : decode cX6_mustStay 68 = .ok (.goto (-62), 3) := dk_167 255 194 (dk_at dksX6_mustStay_3 0 rfl rfl)
theorem dX6_mustStay_71 : decode cX6_mustStay 71 = .ok (.iload_n 1, 1) := dk_27 (dk_at dksX6_mustStay_3 3 rfl rfl)
theorem dX6_mustStay_72 : decode cX6_mustStay 72 = .ok (.ireturn, 1) := dk_172 (dk_at dksX6_mustStay_3 4 rfl rfl)
abbrev cX6_groupOf : ByteArray := prog_20_method_65_code
def yX6_groupOf : MethodName := ⟨RX6, "groupOf", "(II)I"⟩
def dkwX6_groupOf_2 : List UInt8 := [132, 5, 1, 167, 255, 225, 167, 255, 210, 29, 172]
abbrev dktX6_groupOf_2 : List UInt8 := dkwX6_groupOf_2 ++ []
def dkwX6_groupOf_1 : List UInt8 := [162, 0, 30, 21, 4, 21, 5, 184, 0, 100, 153, 0, 14, 29, 42, 21, 5, 182, 1, 35, 28, 126, 128, 62]
abbrev dktX6_groupOf_1 : List UInt8 := dkwX6_groupOf_1 ++ dktX6_groupOf_2
def dkwX6_groupOf_0 : List UInt8 := [4, 27, 120, 62, 3, 54, 4, 29, 21, 4, 159, 0, 46, 29, 54, 4, 3, 54, 5, 21, 5, 16, 16]
abbrev dktX6_groupOf_0 : List UInt8 := dkwX6_groupOf_0 ++ dktX6_groupOf_1
theorem dksX6_groupOf_0 : cX6_groupOf.data.toList.drop 0 = dktX6_groupOf_0 := by decide +kernel
theorem dksX6_groupOf_1 : cX6_groupOf.data.toList.drop 23 = dktX6_groupOf_1 := dk_seg dksX6_groupOf_0 23 rfl rfl
theorem dksX6_groupOf_2 : cX6_groupOf.data.toList.drop 47 = dktX6_groupOf_2 := dk_seg dksX6_groupOf_1 24 rfl rfl
theorem dX6_groupOf_0 : decode cX6_groupOf 0 = .ok (.iconst 1, 1) := dk_4 (dk_at dksX6_groupOf_0 0 rfl rfl)
theorem dX6_groupOf_1 : decode cX6_groupOf 1 = .ok (.iload_n 1, 1) := dk_27 (dk_at dksX6_groupOf_0 1 rfl rfl)
theorem dX6_groupOf_2 : decode cX6_groupOf 2 = .ok (.ishl, 1) := dk_120 (dk_at dksX6_groupOf_0 2 rfl rfl)
theorem dX6_groupOf_3 : decode cX6_groupOf 3 = .ok (.istore_n 3, 1) := dk_62 (dk_at dksX6_groupOf_0 3 rfl rfl)
theorem dX6_groupOf_4 : decode cX6_groupOf 4 = .ok (.iconst 0, 1) := dk_3 (dk_at dksX6_groupOf_0 4 rfl rfl)
theorem dX6_groupOf_5 : decode cX6_groupOf 5 = .ok (.istore 4, 2) := dk_54 4 (dk_at dksX6_groupOf_0 5 rfl rfl)
theorem dX6_groupOf_7 : decode cX6_groupOf 7 = .ok (.iload_n 3, 1) := dk_29 (dk_at dksX6_groupOf_0 7 rfl rfl)
theorem dX6_groupOf_8 : decode cX6_groupOf 8 = .ok (.iload 4, 2) := dk_21 4 (dk_at dksX6_groupOf_0 8 rfl rfl)
theorem dX6_groupOf_10 : decode cX6_groupOf 10 = .ok (.if_icmp .eq 46, 3) := dk_159 0 46 (dk_at dksX6_groupOf_0 10 rfl rfl)
theorem dX6_groupOf_13 : decode cX6_groupOf 13 = .ok (.iload_n 3, 1) := dk_29 (dk_at dksX6_groupOf_0 13 rfl rfl)
theorem dX6_groupOf_14 : decode cX6_groupOf 14 = .ok (.istore 4, 2) := dk_54 4 (dk_at dksX6_groupOf_0 14 rfl rfl)
theorem dX6_groupOf_16 : decode cX6_groupOf 16 = .ok (.iconst 0, 1) := dk_3 (dk_at dksX6_groupOf_0 16 rfl rfl)
theorem dX6_groupOf_17 : decode cX6_groupOf 17 = .ok (.istore 5, 2) := dk_54 5 (dk_at dksX6_groupOf_0 17 rfl rfl)
theorem dX6_groupOf_19 : decode cX6_groupOf 19 = .ok (.iload 5, 2) := dk_21 5 (dk_at dksX6_groupOf_0 19 rfl rfl)
theorem dX6_groupOf_21 : decode cX6_groupOf 21 = .ok (.bipush 16, 2) := dk_16 16 (dk_at dksX6_groupOf_0 21 rfl rfl)
theorem dX6_groupOf_23 : decode cX6_groupOf 23 = .ok (.if_icmp .ge 30, 3) := dk_162 0 30 (dk_at dksX6_groupOf_1 0 rfl rfl)
theorem dX6_groupOf_26 : decode cX6_groupOf 26 = .ok (.iload 4, 2) := dk_21 4 (dk_at dksX6_groupOf_1 3 rfl rfl)
theorem dX6_groupOf_28 : decode cX6_groupOf 28 = .ok (.iload 5, 2) := dk_21 5 (dk_at dksX6_groupOf_1 5 rfl rfl)
theorem dX6_groupOf_30 : decode cX6_groupOf 30 = .ok (.invokestatic 100, 3) := dk_184 0 100 (dk_at dksX6_groupOf_1 7 rfl rfl)
theorem dX6_groupOf_33 : decode cX6_groupOf 33 = .ok (.ifCond .eq 14, 3) := dk_153 0 14 (dk_at dksX6_groupOf_1 10 rfl rfl)
theorem dX6_groupOf_36 : decode cX6_groupOf 36 = .ok (.iload_n 3, 1) := dk_29 (dk_at dksX6_groupOf_1 13 rfl rfl)
theorem dX6_groupOf_37 : decode cX6_groupOf 37 = .ok (.aload_n 0, 1) := dk_42 (dk_at dksX6_groupOf_1 14 rfl rfl)
theorem dX6_groupOf_38 : decode cX6_groupOf 38 = .ok (.iload 5, 2) := dk_21 5 (dk_at dksX6_groupOf_1 15 rfl rfl)
theorem dX6_groupOf_40 : decode cX6_groupOf 40 = .ok (.invokevirtual 291, 3) := dk_182 1 35 (dk_at dksX6_groupOf_1 17 rfl rfl)
theorem dX6_groupOf_43 : decode cX6_groupOf 43 = .ok (.iload_n 2, 1) := dk_28 (dk_at dksX6_groupOf_1 20 rfl rfl)
theorem dX6_groupOf_44 : decode cX6_groupOf 44 = .ok (.iand, 1) := dk_126 (dk_at dksX6_groupOf_1 21 rfl rfl)
theorem dX6_groupOf_45 : decode cX6_groupOf 45 = .ok (.ior, 1) := dk_128 (dk_at dksX6_groupOf_1 22 rfl rfl)
theorem dX6_groupOf_46 : decode cX6_groupOf 46 = .ok (.istore_n 3, 1) := dk_62 (dk_at dksX6_groupOf_1 23 rfl rfl)
theorem dX6_groupOf_47 : decode cX6_groupOf 47 = .ok (.iinc 5 1, 3) := dk_132 5 1 (dk_at dksX6_groupOf_2 0 rfl rfl)
theorem dX6_groupOf_50 : decode cX6_groupOf 50 = .ok (.goto (-31), 3) := dk_167 255 225 (dk_at dksX6_groupOf_2 3 rfl rfl)
theorem dX6_groupOf_53 : decode cX6_groupOf 53 = .ok (.goto (-46), 3) := dk_167 255 210 (dk_at dksX6_groupOf_2 6 rfl rfl)
theorem dX6_groupOf_56 : decode cX6_groupOf 56 = .ok (.iload_n 3, 1) := dk_29 (dk_at dksX6_groupOf_2 9 rfl rfl)
theorem dX6_groupOf_57 : decode cX6_groupOf 57 = .ok (.ireturn, 1) := dk_172 (dk_at dksX6_groupOf_2 10 rfl rfl)
abbrev cX6_inOrder : ByteArray := prog_20_method_69_code
def yX6_inOrder : MethodName := ⟨RX6, "inOrder", "(II)I"⟩
def dkwX6_inOrder_6 : List UInt8 := [126, 184, 1, 87, 54, 6, 132, 7, 1, 167, 255, 178, 28, 154, 0, 8, 21, 5, 167, 0, 5, 21, 6, 172]
abbrev dktX6_inOrder_6 : List UInt8 := dkwX6_inOrder_6 ++ []
def dkwX6_inOrder_5 : List UInt8 := [54, 5, 167, 255, 224, 21, 4, 4, 21, 5, 120, 2, 130, 126, 54, 4, 42, 21, 5, 182, 1, 35, 21, 4]
abbrev dktX6_inOrder_5 : List UInt8 := dkwX6_inOrder_5 ++ dktX6_inOrder_6
def dkwX6_inOrder_4 : List UInt8 := [21, 5, 184, 0, 100, 153, 0, 15, 42, 21, 4, 21, 5, 29, 182, 1, 90, 154, 0, 12, 21, 5, 4, 96]
abbrev dktX6_inOrder_4 : List UInt8 := dkwX6_inOrder_4 ++ dktX6_inOrder_5
def dkwX6_inOrder_3 : List UInt8 := [54, 7, 21, 7, 27, 163, 0, 78, 42, 180, 0, 108, 184, 1, 87, 54, 5, 21, 4, 29, 2, 130, 126]
abbrev dktX6_inOrder_3 : List UInt8 := dkwX6_inOrder_3 ++ dktX6_inOrder_4
def dkwX6_inOrder_2 : List UInt8 := [180, 0, 108, 29, 2, 130, 126, 184, 1, 20, 161, 0, 6, 16, 252, 172, 2, 54, 5, 2, 54, 6, 3]
abbrev dktX6_inOrder_2 : List UInt8 := dkwX6_inOrder_2 ++ dktX6_inOrder_3
def dkwX6_inOrder_1 : List UInt8 := [182, 1, 84, 42, 180, 0, 108, 42, 180, 0, 227, 2, 130, 126, 128, 62, 42, 180, 0, 108, 54, 4, 27, 42]
abbrev dktX6_inOrder_1 : List UInt8 := dkwX6_inOrder_1 ++ dktX6_inOrder_2
def dkwX6_inOrder_0 : List UInt8 := [27, 3, 16, 15, 184, 0, 104, 153, 0, 12, 28, 3, 4, 184, 0, 104, 154, 0, 5, 2, 172, 42]
abbrev dktX6_inOrder_0 : List UInt8 := dkwX6_inOrder_0 ++ dktX6_inOrder_1
theorem dksX6_inOrder_0 : cX6_inOrder.data.toList.drop 0 = dktX6_inOrder_0 := by decide +kernel
theorem dksX6_inOrder_1 : cX6_inOrder.data.toList.drop 22 = dktX6_inOrder_1 := dk_seg dksX6_inOrder_0 22 rfl rfl
theorem dksX6_inOrder_2 : cX6_inOrder.data.toList.drop 46 = dktX6_inOrder_2 := dk_seg dksX6_inOrder_1 24 rfl rfl
theorem dksX6_inOrder_3 : cX6_inOrder.data.toList.drop 69 = dktX6_inOrder_3 := dk_seg dksX6_inOrder_2 23 rfl rfl
theorem dksX6_inOrder_4 : cX6_inOrder.data.toList.drop 92 = dktX6_inOrder_4 := dk_seg dksX6_inOrder_3 23 rfl rfl
theorem dksX6_inOrder_5 : cX6_inOrder.data.toList.drop 116 = dktX6_inOrder_5 := dk_seg dksX6_inOrder_4 24 rfl rfl
theorem dksX6_inOrder_6 : cX6_inOrder.data.toList.drop 140 = dktX6_inOrder_6 := dk_seg dksX6_inOrder_5 24 rfl rfl
theorem dX6_inOrder_0 : decode cX6_inOrder 0 = .ok (.iload_n 1, 1) := dk_27 (dk_at dksX6_inOrder_0 0 rfl rfl)
theorem dX6_inOrder_1 : decode cX6_inOrder 1 = .ok (.iconst 0, 1) := dk_3 (dk_at dksX6_inOrder_0 1 rfl rfl)
theorem dX6_inOrder_2 : decode cX6_inOrder 2 = .ok (.bipush 15, 2) := dk_16 15 (dk_at dksX6_inOrder_0 2 rfl rfl)
theorem dX6_inOrder_4 : decode cX6_inOrder 4 = .ok (.invokestatic 104, 3) := dk_184 0 104 (dk_at dksX6_inOrder_0 4 rfl rfl)
theorem dX6_inOrder_7 : decode cX6_inOrder 7 = .ok (.ifCond .eq 12, 3) := dk_153 0 12 (dk_at dksX6_inOrder_0 7 rfl rfl)
theorem dX6_inOrder_10 : decode cX6_inOrder 10 = .ok (.iload_n 2, 1) := dk_28 (dk_at dksX6_inOrder_0 10 rfl rfl)
theorem dX6_inOrder_11 : decode cX6_inOrder 11 = .ok (.iconst 0, 1) := dk_3 (dk_at dksX6_inOrder_0 11 rfl rfl)
theorem dX6_inOrder_12 : decode cX6_inOrder 12 = .ok (.iconst 1, 1) := dk_4 (dk_at dksX6_inOrder_0 12 rfl rfl)
theorem dX6_inOrder_13 : decode cX6_inOrder 13 = .ok (.invokestatic 104, 3) := dk_184 0 104 (dk_at dksX6_inOrder_0 13 rfl rfl)
theorem dX6_inOrder_16 : decode cX6_inOrder 16 = .ok (.ifCond .ne 5, 3) := dk_154 0 5 (dk_at dksX6_inOrder_0 16 rfl rfl)
theorem dX6_inOrder_19 : decode cX6_inOrder 19 = .ok (.iconst (-1), 1) := dk_2 (dk_at dksX6_inOrder_0 19 rfl rfl)
theorem dX6_inOrder_20 : decode cX6_inOrder 20 = .ok (.ireturn, 1) := dk_172 (dk_at dksX6_inOrder_0 20 rfl rfl)
theorem dX6_inOrder_21 : decode cX6_inOrder 21 = .ok (.aload_n 0, 1) := dk_42 (dk_at dksX6_inOrder_0 21 rfl rfl)
theorem dX6_inOrder_22 : decode cX6_inOrder 22 = .ok (.invokevirtual 340, 3) := dk_182 1 84 (dk_at dksX6_inOrder_1 0 rfl rfl)
theorem dX6_inOrder_25 : decode cX6_inOrder 25 = .ok (.aload_n 0, 1) := dk_42 (dk_at dksX6_inOrder_1 3 rfl rfl)
theorem dX6_inOrder_26 : decode cX6_inOrder 26 = .ok (.getfield 108, 3) := dk_180 0 108 (dk_at dksX6_inOrder_1 4 rfl rfl)
theorem dX6_inOrder_29 : decode cX6_inOrder 29 = .ok (.aload_n 0, 1) := dk_42 (dk_at dksX6_inOrder_1 7 rfl rfl)
theorem dX6_inOrder_30 : decode cX6_inOrder 30 = .ok (.getfield 227, 3) := dk_180 0 227 (dk_at dksX6_inOrder_1 8 rfl rfl)
theorem dX6_inOrder_33 : decode cX6_inOrder 33 = .ok (.iconst (-1), 1) := dk_2 (dk_at dksX6_inOrder_1 11 rfl rfl)
theorem dX6_inOrder_34 : decode cX6_inOrder 34 = .ok (.ixor, 1) := dk_130 (dk_at dksX6_inOrder_1 12 rfl rfl)
theorem dX6_inOrder_35 : decode cX6_inOrder 35 = .ok (.iand, 1) := dk_126 (dk_at dksX6_inOrder_1 13 rfl rfl)
theorem dX6_inOrder_36 : decode cX6_inOrder 36 = .ok (.ior, 1) := dk_128 (dk_at dksX6_inOrder_1 14 rfl rfl)
theorem dX6_inOrder_37 : decode cX6_inOrder 37 = .ok (.istore_n 3, 1) := dk_62 (dk_at dksX6_inOrder_1 15 rfl rfl)
theorem dX6_inOrder_38 : decode cX6_inOrder 38 = .ok (.aload_n 0, 1) := dk_42 (dk_at dksX6_inOrder_1 16 rfl rfl)
theorem dX6_inOrder_39 : decode cX6_inOrder 39 = .ok (.getfield 108, 3) := dk_180 0 108 (dk_at dksX6_inOrder_1 17 rfl rfl)
theorem dX6_inOrder_42 : decode cX6_inOrder 42 = .ok (.istore 4, 2) := dk_54 4 (dk_at dksX6_inOrder_1 20 rfl rfl)
theorem dX6_inOrder_44 : decode cX6_inOrder 44 = .ok (.iload_n 1, 1) := dk_27 (dk_at dksX6_inOrder_1 22 rfl rfl)
theorem dX6_inOrder_45 : decode cX6_inOrder 45 = .ok (.aload_n 0, 1) := dk_42 (dk_at dksX6_inOrder_1 23 rfl rfl)
theorem dX6_inOrder_46 : decode cX6_inOrder 46 = .ok (.getfield 108, 3) := dk_180 0 108 (dk_at dksX6_inOrder_2 0 rfl rfl)
theorem dX6_inOrder_49 : decode cX6_inOrder 49 = .ok (.iload_n 3, 1) := dk_29 (dk_at dksX6_inOrder_2 3 rfl rfl)
theorem dX6_inOrder_50 : decode cX6_inOrder 50 = .ok (.iconst (-1), 1) := dk_2 (dk_at dksX6_inOrder_2 4 rfl rfl)
theorem dX6_inOrder_51 : decode cX6_inOrder 51 = .ok (.ixor, 1) := dk_130 (dk_at dksX6_inOrder_2 5 rfl rfl)
theorem dX6_inOrder_52 : decode cX6_inOrder 52 = .ok (.iand, 1) := dk_126 (dk_at dksX6_inOrder_2 6 rfl rfl)
theorem dX6_inOrder_53 : decode cX6_inOrder 53 = .ok (.invokestatic 276, 3) := dk_184 1 20 (dk_at dksX6_inOrder_2 7 rfl rfl)
theorem dX6_inOrder_56 : decode cX6_inOrder 56 = .ok (.if_icmp .lt 6, 3) := dk_161 0 6 (dk_at dksX6_inOrder_2 10 rfl rfl)
theorem dX6_inOrder_59 : decode cX6_inOrder 59 = .ok (.bipush (-4), 2) := dk_16 252 (dk_at dksX6_inOrder_2 13 rfl rfl)
theorem dX6_inOrder_61 : decode cX6_inOrder 61 = .ok (.ireturn, 1) := dk_172 (dk_at dksX6_inOrder_2 15 rfl rfl)
theorem dX6_inOrder_62 : decode cX6_inOrder 62 = .ok (.iconst (-1), 1) := dk_2 (dk_at dksX6_inOrder_2 16 rfl rfl)
theorem dX6_inOrder_63 : decode cX6_inOrder 63 = .ok (.istore 5, 2) := dk_54 5 (dk_at dksX6_inOrder_2 17 rfl rfl)
theorem dX6_inOrder_65 : decode cX6_inOrder 65 = .ok (.iconst (-1), 1) := dk_2 (dk_at dksX6_inOrder_2 19 rfl rfl)
theorem dX6_inOrder_66 : decode cX6_inOrder 66 = .ok (.istore 6, 2) := dk_54 6 (dk_at dksX6_inOrder_2 20 rfl rfl)
theorem dX6_inOrder_68 : decode cX6_inOrder 68 = .ok (.iconst 0, 1) := dk_3 (dk_at dksX6_inOrder_2 22 rfl rfl)
theorem dX6_inOrder_69 : decode cX6_inOrder 69 = .ok (.istore 7, 2) := dk_54 7 (dk_at dksX6_inOrder_3 0 rfl rfl)
theorem dX6_inOrder_71 : decode cX6_inOrder 71 = .ok (.iload 7, 2) := dk_21 7 (dk_at dksX6_inOrder_3 2 rfl rfl)
theorem dX6_inOrder_73 : decode cX6_inOrder 73 = .ok (.iload_n 1, 1) := dk_27 (dk_at dksX6_inOrder_3 4 rfl rfl)
theorem dX6_inOrder_74 : decode cX6_inOrder 74 = .ok (.if_icmp .gt 78, 3) := dk_163 0 78 (dk_at dksX6_inOrder_3 5 rfl rfl)
theorem dX6_inOrder_77 : decode cX6_inOrder 77 = .ok (.aload_n 0, 1) := dk_42 (dk_at dksX6_inOrder_3 8 rfl rfl)
theorem dX6_inOrder_78 : decode cX6_inOrder 78 = .ok (.getfield 108, 3) := dk_180 0 108 (dk_at dksX6_inOrder_3 9 rfl rfl)
theorem dX6_inOrder_81 : decode cX6_inOrder 81 = .ok (.invokestatic 343, 3) := dk_184 1 87 (dk_at dksX6_inOrder_3 12 rfl rfl)
theorem dX6_inOrder_84 : decode cX6_inOrder 84 = .ok (.istore 5, 2) := dk_54 5 (dk_at dksX6_inOrder_3 15 rfl rfl)
theorem dX6_inOrder_86 : decode cX6_inOrder 86 = .ok (.iload 4, 2) := dk_21 4 (dk_at dksX6_inOrder_3 17 rfl rfl)
theorem dX6_inOrder_88 : decode cX6_inOrder 88 = .ok (.iload_n 3, 1) := dk_29 (dk_at dksX6_inOrder_3 19 rfl rfl)
theorem dX6_inOrder_89 : decode cX6_inOrder 89 = .ok (.iconst (-1), 1) := dk_2 (dk_at dksX6_inOrder_3 20 rfl rfl)
theorem dX6_inOrder_90 : decode cX6_inOrder 90 = .ok (.ixor, 1) := dk_130 (dk_at dksX6_inOrder_3 21 rfl rfl)
theorem dX6_inOrder_91 : decode cX6_inOrder 91 = .ok (.iand, 1) := dk_126 (dk_at dksX6_inOrder_3 22 rfl rfl)
theorem dX6_inOrder_92 : decode cX6_inOrder 92 = .ok (.iload 5, 2) := dk_21 5 (dk_at dksX6_inOrder_4 0 rfl rfl)
theorem dX6_inOrder_94 : decode cX6_inOrder 94 = .ok (.invokestatic 100, 3) := dk_184 0 100 (dk_at dksX6_inOrder_4 2 rfl rfl)
theorem dX6_inOrder_97 : decode cX6_inOrder 97 = .ok (.ifCond .eq 15, 3) := dk_153 0 15 (dk_at dksX6_inOrder_4 5 rfl rfl)
theorem dX6_inOrder_100 : decode cX6_inOrder 100 = .ok (.aload_n 0, 1) := dk_42 (dk_at dksX6_inOrder_4 8 rfl rfl)
theorem dX6_inOrder_101 : decode cX6_inOrder 101 = .ok (.iload 4, 2) := dk_21 4 (dk_at dksX6_inOrder_4 9 rfl rfl)
theorem dX6_inOrder_103 : decode cX6_inOrder 103 = .ok (.iload 5, 2) := dk_21 5 (dk_at dksX6_inOrder_4 11 rfl rfl)
theorem dX6_inOrder_105 : decode cX6_inOrder 105 = .ok (.iload_n 3, 1) := dk_29 (dk_at dksX6_inOrder_4 13 rfl rfl)
theorem dX6_inOrder_106 : decode cX6_inOrder 106 = .ok (.invokevirtual 346, 3) := dk_182 1 90 (dk_at dksX6_inOrder_4 14 rfl rfl)
theorem dX6_inOrder_109 : decode cX6_inOrder 109 = .ok (.ifCond .ne 12, 3) := dk_154 0 12 (dk_at dksX6_inOrder_4 17 rfl rfl)
theorem dX6_inOrder_112 : decode cX6_inOrder 112 = .ok (.iload 5, 2) := dk_21 5 (dk_at dksX6_inOrder_4 20 rfl rfl)
theorem dX6_inOrder_114 : decode cX6_inOrder 114 = .ok (.iconst 1, 1) := dk_4 (dk_at dksX6_inOrder_4 22 rfl rfl)
theorem dX6_inOrder_115 : decode cX6_inOrder 115 = .ok (.iadd, 1) := dk_96 (dk_at dksX6_inOrder_4 23 rfl rfl)
theorem dX6_inOrder_116 : decode cX6_inOrder 116 = .ok (.istore 5, 2) := dk_54 5 (dk_at dksX6_inOrder_5 0 rfl rfl)
theorem dX6_inOrder_118 : decode cX6_inOrder 118 = .ok (.goto (-32), 3) := dk_167 255 224 (dk_at dksX6_inOrder_5 2 rfl rfl)
theorem dX6_inOrder_121 : decode cX6_inOrder 121 = .ok (.iload 4, 2) := dk_21 4 (dk_at dksX6_inOrder_5 5 rfl rfl)
theorem dX6_inOrder_123 : decode cX6_inOrder 123 = .ok (.iconst 1, 1) := dk_4 (dk_at dksX6_inOrder_5 7 rfl rfl)
theorem dX6_inOrder_124 : decode cX6_inOrder 124 = .ok (.iload 5, 2) := dk_21 5 (dk_at dksX6_inOrder_5 8 rfl rfl)
theorem dX6_inOrder_126 : decode cX6_inOrder 126 = .ok (.ishl, 1) := dk_120 (dk_at dksX6_inOrder_5 10 rfl rfl)
theorem dX6_inOrder_127 : decode cX6_inOrder 127 = .ok (.iconst (-1), 1) := dk_2 (dk_at dksX6_inOrder_5 11 rfl rfl)
theorem dX6_inOrder_128 : decode cX6_inOrder 128 = .ok (.ixor, 1) := dk_130 (dk_at dksX6_inOrder_5 12 rfl rfl)
theorem dX6_inOrder_129 : decode cX6_inOrder 129 = .ok (.iand, 1) := dk_126 (dk_at dksX6_inOrder_5 13 rfl rfl)
theorem dX6_inOrder_130 : decode cX6_inOrder 130 = .ok (.istore 4, 2) := dk_54 4 (dk_at dksX6_inOrder_5 14 rfl rfl)
theorem dX6_inOrder_132 : decode cX6_inOrder 132 = .ok (.aload_n 0, 1) := dk_42 (dk_at dksX6_inOrder_5 16 rfl rfl)
theorem dX6_inOrder_133 : decode cX6_inOrder 133 = .ok (.iload 5, 2) := dk_21 5 (dk_at dksX6_inOrder_5 17 rfl rfl)
theorem dX6_inOrder_135 : decode cX6_inOrder 135 = .ok (.invokevirtual 291, 3) := dk_182 1 35 (dk_at dksX6_inOrder_5 19 rfl rfl)
theorem dX6_inOrder_138 : decode cX6_inOrder 138 = .ok (.iload 4, 2) := dk_21 4 (dk_at dksX6_inOrder_5 22 rfl rfl)
theorem dX6_inOrder_140 : decode cX6_inOrder 140 = .ok (.iand, 1) := dk_126 (dk_at dksX6_inOrder_6 0 rfl rfl)
theorem dX6_inOrder_141 : decode cX6_inOrder 141 = .ok (.invokestatic 343, 3) := dk_184 1 87 (dk_at dksX6_inOrder_6 1 rfl rfl)
theorem dX6_inOrder_144 : decode cX6_inOrder 144 = .ok (.istore 6, 2) := dk_54 6 (dk_at dksX6_inOrder_6 4 rfl rfl)
theorem dX6_inOrder_146 : decode cX6_inOrder 146 = .ok (.iinc 7 1, 3) := dk_132 7 1 (dk_at dksX6_inOrder_6 6 rfl rfl)
theorem dX6_inOrder_149 : decode cX6_inOrder 149 = .ok (.goto (-78), 3) := dk_167 255 178 (dk_at dksX6_inOrder_6 9 rfl rfl)
theorem dX6_inOrder_152 : decode cX6_inOrder 152 = .ok (.iload_n 2, 1) := dk_28 (dk_at dksX6_inOrder_6 12 rfl rfl)
theorem dX6_inOrder_153 : decode cX6_inOrder 153 = .ok (.ifCond .ne 8, 3) := dk_154 0 8 (dk_at dksX6_inOrder_6 13 rfl rfl)
theorem dX6_inOrder_156 : decode cX6_inOrder 156 = .ok (.iload 5, 2) := dk_21 5 (dk_at dksX6_inOrder_6 16 rfl rfl)
theorem dX6_inOrder_158 : decode cX6_inOrder 158 = .ok (.goto 5, 3) := dk_167 0 5 (dk_at dksX6_inOrder_6 18 rfl rfl)
theorem dX6_inOrder_161 : decode cX6_inOrder 161 = .ok (.iload 6, 2) := dk_21 6 (dk_at dksX6_inOrder_6 21 rfl rfl)
theorem dX6_inOrder_163 : decode cX6_inOrder 163 = .ok (.ireturn, 1) := dk_172 (dk_at dksX6_inOrder_6 23 rfl rfl)
abbrev cX6_lowest : ByteArray := prog_20_method_8_code
def yX6_lowest : MethodName := ⟨RX6, "lowest", "(I)I"⟩
def dkwX6_lowest_0 : List UInt8 := [3, 60, 26, 27, 184, 0, 100, 154, 0, 10, 27, 4, 96, 60, 167, 255, 244, 27, 172]
abbrev dktX6_lowest_0 : List UInt8 := dkwX6_lowest_0 ++ []
theorem dksX6_lowest_0 : cX6_lowest.data.toList.drop 0 = dktX6_lowest_0 := by decide +kernel
theorem dX6_lowest_0 : decode cX6_lowest 0 = .ok (.iconst 0, 1) := dk_3 (dk_at dksX6_lowest_0 0 rfl rfl)
theorem dX6_lowest_1 : decode cX6_lowest 1 = .ok (.istore_n 1, 1) := dk_60 (dk_at dksX6_lowest_0 1 rfl rfl)
theorem dX6_lowest_2 : decode cX6_lowest 2 = .ok (.iload_n 0, 1) := dk_26 (dk_at dksX6_lowest_0 2 rfl rfl)
theorem dX6_lowest_3 : decode cX6_lowest 3 = .ok (.iload_n 1, 1) := dk_27 (dk_at dksX6_lowest_0 3 rfl rfl)
theorem dX6_lowest_4 : decode cX6_lowest 4 = .ok (.invokestatic 100, 3) := dk_184 0 100 (dk_at dksX6_lowest_0 4 rfl rfl)
theorem dX6_lowest_7 : decode cX6_lowest 7 = .ok (.ifCond .ne 10, 3) := dk_154 0 10 (dk_at dksX6_lowest_0 7 rfl rfl)
theorem dX6_lowest_10 : decode cX6_lowest 10 = .ok (.iload_n 1, 1) := dk_27 (dk_at dksX6_lowest_0 10 rfl rfl)
theorem dX6_lowest_11 : decode cX6_lowest 11 = .ok (.iconst 1, 1) := dk_4 (dk_at dksX6_lowest_0 11 rfl rfl)
theorem dX6_lowest_12 : decode cX6_lowest 12 = .ok (.iadd, 1) := dk_96 (dk_at dksX6_lowest_0 12 rfl rfl)
theorem dX6_lowest_13 : decode cX6_lowest 13 = .ok (.istore_n 1, 1) := dk_60 (dk_at dksX6_lowest_0 13 rfl rfl)
theorem dX6_lowest_14 : decode cX6_lowest 14 = .ok (.goto (-12), 3) := dk_167 255 244 (dk_at dksX6_lowest_0 14 rfl rfl)
theorem dX6_lowest_17 : decode cX6_lowest 17 = .ok (.iload_n 1, 1) := dk_27 (dk_at dksX6_lowest_0 17 rfl rfl)
theorem dX6_lowest_18 : decode cX6_lowest 18 = .ok (.ireturn, 1) := dk_172 (dk_at dksX6_lowest_0 18 rfl rfl)
abbrev cX6_canGo : ByteArray := prog_20_method_68_code
def yX6_canGo : MethodName := ⟨RX6, "canGo", "(III)Z"⟩
def dkwX6_canGo_2 : List UInt8 := [182, 1, 81, 29, 126, 154, 0, 5, 3, 172, 132, 5, 1, 167, 255, 221, 4, 172]
abbrev dktX6_canGo_2 : List UInt8 := dkwX6_canGo_2 ++ []
def dkwX6_canGo_1 : List UInt8 := [54, 5, 21, 5, 16, 16, 162, 0, 34, 21, 4, 21, 5, 184, 0, 100, 153, 0, 18, 42, 21, 5, 21, 4]
abbrev dktX6_canGo_1 : List UInt8 := dkwX6_canGo_1 ++ dktX6_canGo_2
def dkwX6_canGo_0 : List UInt8 := [27, 4, 28, 120, 2, 130, 126, 54, 4, 42, 28, 182, 1, 35, 21, 4, 126, 154, 0, 5, 3, 172, 3]
abbrev dktX6_canGo_0 : List UInt8 := dkwX6_canGo_0 ++ dktX6_canGo_1
theorem dksX6_canGo_0 : cX6_canGo.data.toList.drop 0 = dktX6_canGo_0 := by decide +kernel
theorem dksX6_canGo_1 : cX6_canGo.data.toList.drop 23 = dktX6_canGo_1 := dk_seg dksX6_canGo_0 23 rfl rfl
theorem dksX6_canGo_2 : cX6_canGo.data.toList.drop 47 = dktX6_canGo_2 := dk_seg dksX6_canGo_1 24 rfl rfl
theorem dX6_canGo_0 : decode cX6_canGo 0 = .ok (.iload_n 1, 1) := dk_27 (dk_at dksX6_canGo_0 0 rfl rfl)
theorem dX6_canGo_1 : decode cX6_canGo 1 = .ok (.iconst 1, 1) := dk_4 (dk_at dksX6_canGo_0 1 rfl rfl)
theorem dX6_canGo_2 : decode cX6_canGo 2 = .ok (.iload_n 2, 1) := dk_28 (dk_at dksX6_canGo_0 2 rfl rfl)
theorem dX6_canGo_3 : decode cX6_canGo 3 = .ok (.ishl, 1) := dk_120 (dk_at dksX6_canGo_0 3 rfl rfl)
theorem dX6_canGo_4 : decode cX6_canGo 4 = .ok (.iconst (-1), 1) := dk_2 (dk_at dksX6_canGo_0 4 rfl rfl)
theorem dX6_canGo_5 : decode cX6_canGo 5 = .ok (.ixor, 1) := dk_130 (dk_at dksX6_canGo_0 5 rfl rfl)
theorem dX6_canGo_6 : decode cX6_canGo 6 = .ok (.iand, 1) := dk_126 (dk_at dksX6_canGo_0 6 rfl rfl)
theorem dX6_canGo_7 : decode cX6_canGo 7 = .ok (.istore 4, 2) := dk_54 4 (dk_at dksX6_canGo_0 7 rfl rfl)
theorem dX6_canGo_9 : decode cX6_canGo 9 = .ok (.aload_n 0, 1) := dk_42 (dk_at dksX6_canGo_0 9 rfl rfl)
theorem dX6_canGo_10 : decode cX6_canGo 10 = .ok (.iload_n 2, 1) := dk_28 (dk_at dksX6_canGo_0 10 rfl rfl)
theorem dX6_canGo_11 : decode cX6_canGo 11 = .ok (.invokevirtual 291, 3) := dk_182 1 35 (dk_at dksX6_canGo_0 11 rfl rfl)
theorem dX6_canGo_14 : decode cX6_canGo 14 = .ok (.iload 4, 2) := dk_21 4 (dk_at dksX6_canGo_0 14 rfl rfl)
theorem dX6_canGo_16 : decode cX6_canGo 16 = .ok (.iand, 1) := dk_126 (dk_at dksX6_canGo_0 16 rfl rfl)
theorem dX6_canGo_17 : decode cX6_canGo 17 = .ok (.ifCond .ne 5, 3) := dk_154 0 5 (dk_at dksX6_canGo_0 17 rfl rfl)
theorem dX6_canGo_20 : decode cX6_canGo 20 = .ok (.iconst 0, 1) := dk_3 (dk_at dksX6_canGo_0 20 rfl rfl)
theorem dX6_canGo_21 : decode cX6_canGo 21 = .ok (.ireturn, 1) := dk_172 (dk_at dksX6_canGo_0 21 rfl rfl)
theorem dX6_canGo_22 : decode cX6_canGo 22 = .ok (.iconst 0, 1) := dk_3 (dk_at dksX6_canGo_0 22 rfl rfl)
theorem dX6_canGo_23 : decode cX6_canGo 23 = .ok (.istore 5, 2) := dk_54 5 (dk_at dksX6_canGo_1 0 rfl rfl)
theorem dX6_canGo_25 : decode cX6_canGo 25 = .ok (.iload 5, 2) := dk_21 5 (dk_at dksX6_canGo_1 2 rfl rfl)
theorem dX6_canGo_27 : decode cX6_canGo 27 = .ok (.bipush 16, 2) := dk_16 16 (dk_at dksX6_canGo_1 4 rfl rfl)
theorem dX6_canGo_29 : decode cX6_canGo 29 = .ok (.if_icmp .ge 34, 3) := dk_162 0 34 (dk_at dksX6_canGo_1 6 rfl rfl)
theorem dX6_canGo_32 : decode cX6_canGo 32 = .ok (.iload 4, 2) := dk_21 4 (dk_at dksX6_canGo_1 9 rfl rfl)
theorem dX6_canGo_34 : decode cX6_canGo 34 = .ok (.iload 5, 2) := dk_21 5 (dk_at dksX6_canGo_1 11 rfl rfl)
theorem dX6_canGo_36 : decode cX6_canGo 36 = .ok (.invokestatic 100, 3) := dk_184 0 100 (dk_at dksX6_canGo_1 13 rfl rfl)
theorem dX6_canGo_39 : decode cX6_canGo 39 = .ok (.ifCond .eq 18, 3) := dk_153 0 18 (dk_at dksX6_canGo_1 16 rfl rfl)
theorem dX6_canGo_42 : decode cX6_canGo 42 = .ok (.aload_n 0, 1) := dk_42 (dk_at dksX6_canGo_1 19 rfl rfl)
theorem dX6_canGo_43 : decode cX6_canGo 43 = .ok (.iload 5, 2) := dk_21 5 (dk_at dksX6_canGo_1 20 rfl rfl)
theorem dX6_canGo_45 : decode cX6_canGo 45 = .ok (.iload 4, 2) := dk_21 4 (dk_at dksX6_canGo_1 22 rfl rfl)
theorem dX6_canGo_47 : decode cX6_canGo 47 = .ok (.invokevirtual 337, 3) := dk_182 1 81 (dk_at dksX6_canGo_2 0 rfl rfl)
theorem dX6_canGo_50 : decode cX6_canGo 50 = .ok (.iload_n 3, 1) := dk_29 (dk_at dksX6_canGo_2 3 rfl rfl)
theorem dX6_canGo_51 : decode cX6_canGo 51 = .ok (.iand, 1) := dk_126 (dk_at dksX6_canGo_2 4 rfl rfl)
theorem dX6_canGo_52 : decode cX6_canGo 52 = .ok (.ifCond .ne 5, 3) := dk_154 0 5 (dk_at dksX6_canGo_2 5 rfl rfl)
theorem dX6_canGo_55 : decode cX6_canGo 55 = .ok (.iconst 0, 1) := dk_3 (dk_at dksX6_canGo_2 8 rfl rfl)
theorem dX6_canGo_56 : decode cX6_canGo 56 = .ok (.ireturn, 1) := dk_172 (dk_at dksX6_canGo_2 9 rfl rfl)
theorem dX6_canGo_57 : decode cX6_canGo 57 = .ok (.iinc 5 1, 3) := dk_132 5 1 (dk_at dksX6_canGo_2 10 rfl rfl)
theorem dX6_canGo_60 : decode cX6_canGo 60 = .ok (.goto (-35), 3) := dk_167 255 221 (dk_at dksX6_canGo_2 13 rfl rfl)
theorem dX6_canGo_63 : decode cX6_canGo 63 = .ok (.iconst 1, 1) := dk_4 (dk_at dksX6_canGo_2 16 rfl rfl)
theorem dX6_canGo_64 : decode cX6_canGo 64 = .ok (.ireturn, 1) := dk_172 (dk_at dksX6_canGo_2 17 rfl rfl)
abbrev cX6_ways : ByteArray := prog_20_method_70_code
def yX6_ways : MethodName := ⟨RX6, "ways", "(I)J"⟩
def dkwX6_ways_6 : List UInt8 := [180, 0, 81, 28, 47, 173]
abbrev dktX6_ways_6 : List UInt8 := dkwX6_ways_6 ++ []
def dkwX6_ways_5 : List UInt8 := [55, 4, 132, 6, 1, 167, 255, 199, 42, 180, 0, 81, 29, 22, 4, 80, 132, 3, 1, 167, 255, 163, 42]
abbrev dktX6_ways_5 : List UInt8 := dkwX6_ways_5 ++ dktX6_ways_6
def dkwX6_ways_4 : List UInt8 := [130, 126, 2, 130, 126, 153, 0, 21, 22, 4, 42, 180, 0, 81, 29, 4, 21, 6, 120, 2, 130, 126, 47, 97]
abbrev dktX6_ways_4 : List UInt8 := dkwX6_ways_4 ++ dktX6_ways_5
def dkwX6_ways_3 : List UInt8 := [162, 0, 56, 29, 21, 6, 184, 0, 100, 153, 0, 41, 42, 21, 6, 182, 1, 35, 29, 4, 21, 6, 120, 2]
abbrev dktX6_ways_3 : List UInt8 := dkwX6_ways_3 ++ dktX6_ways_4
def dkwX6_ways_2 : List UInt8 := [163, 0, 94, 29, 28, 2, 130, 126, 153, 0, 6, 167, 0, 77, 9, 55, 4, 3, 54, 6, 21, 6, 16, 16]
abbrev dktX6_ways_2 : List UInt8 := dkwX6_ways_2 ++ dktX6_ways_3
def dkwX6_ways_1 : List UInt8 := [20, 1, 94, 173, 42, 180, 0, 227, 27, 2, 130, 126, 61, 42, 180, 0, 81, 3, 10, 80, 4, 62, 29, 28]
abbrev dktX6_ways_1 : List UInt8 := dkwX6_ways_1 ++ dktX6_ways_2
def dkwX6_ways_0 : List UInt8 := [27, 3, 19, 1, 93, 184, 0, 104, 153, 0, 14, 27, 42, 180, 0, 108, 2, 130, 126, 153, 0, 7]
abbrev dktX6_ways_0 : List UInt8 := dkwX6_ways_0 ++ dktX6_ways_1
theorem dksX6_ways_0 : cX6_ways.data.toList.drop 0 = dktX6_ways_0 := by decide +kernel
theorem dksX6_ways_1 : cX6_ways.data.toList.drop 22 = dktX6_ways_1 := dk_seg dksX6_ways_0 22 rfl rfl
theorem dksX6_ways_2 : cX6_ways.data.toList.drop 46 = dktX6_ways_2 := dk_seg dksX6_ways_1 24 rfl rfl
theorem dksX6_ways_3 : cX6_ways.data.toList.drop 70 = dktX6_ways_3 := dk_seg dksX6_ways_2 24 rfl rfl
theorem dksX6_ways_4 : cX6_ways.data.toList.drop 94 = dktX6_ways_4 := dk_seg dksX6_ways_3 24 rfl rfl
theorem dksX6_ways_5 : cX6_ways.data.toList.drop 118 = dktX6_ways_5 := dk_seg dksX6_ways_4 24 rfl rfl
theorem dksX6_ways_6 : cX6_ways.data.toList.drop 141 = dktX6_ways_6 := dk_seg dksX6_ways_5 23 rfl rfl
theorem dX6_ways_0 : decode cX6_ways 0 = .ok (.iload_n 1, 1) := dk_27 (dk_at dksX6_ways_0 0 rfl rfl)
theorem dX6_ways_1 : decode cX6_ways 1 = .ok (.iconst 0, 1) := dk_3 (dk_at dksX6_ways_0 1 rfl rfl)
theorem dX6_ways_2 : decode cX6_ways 2 = .ok (.ldc_w 349, 3) := dk_19 1 93 (dk_at dksX6_ways_0 2 rfl rfl)
theorem dX6_ways_5 : decode cX6_ways 5 = .ok (.invokestatic 104, 3) := dk_184 0 104 (dk_at dksX6_ways_0 5 rfl rfl)
theorem dX6_ways_8 : decode cX6_ways 8 = .ok (.ifCond .eq 14, 3) := dk_153 0 14 (dk_at dksX6_ways_0 8 rfl rfl)
theorem dX6_ways_11 : decode cX6_ways 11 = .ok (.iload_n 1, 1) := dk_27 (dk_at dksX6_ways_0 11 rfl rfl)
theorem dX6_ways_12 : decode cX6_ways 12 = .ok (.aload_n 0, 1) := dk_42 (dk_at dksX6_ways_0 12 rfl rfl)
theorem dX6_ways_13 : decode cX6_ways 13 = .ok (.getfield 108, 3) := dk_180 0 108 (dk_at dksX6_ways_0 13 rfl rfl)
theorem dX6_ways_16 : decode cX6_ways 16 = .ok (.iconst (-1), 1) := dk_2 (dk_at dksX6_ways_0 16 rfl rfl)
theorem dX6_ways_17 : decode cX6_ways 17 = .ok (.ixor, 1) := dk_130 (dk_at dksX6_ways_0 17 rfl rfl)
theorem dX6_ways_18 : decode cX6_ways 18 = .ok (.iand, 1) := dk_126 (dk_at dksX6_ways_0 18 rfl rfl)
theorem dX6_ways_19 : decode cX6_ways 19 = .ok (.ifCond .eq 7, 3) := dk_153 0 7 (dk_at dksX6_ways_0 19 rfl rfl)
theorem dX6_ways_22 : decode cX6_ways 22 = .ok (.ldc2_w 350, 3) := dk_20 1 94 (dk_at dksX6_ways_1 0 rfl rfl)
theorem dX6_ways_25 : decode cX6_ways 25 = .ok (.lreturn, 1) := dk_173 (dk_at dksX6_ways_1 3 rfl rfl)
theorem dX6_ways_26 : decode cX6_ways 26 = .ok (.aload_n 0, 1) := dk_42 (dk_at dksX6_ways_1 4 rfl rfl)
theorem dX6_ways_27 : decode cX6_ways 27 = .ok (.getfield 227, 3) := dk_180 0 227 (dk_at dksX6_ways_1 5 rfl rfl)
theorem dX6_ways_30 : decode cX6_ways 30 = .ok (.iload_n 1, 1) := dk_27 (dk_at dksX6_ways_1 8 rfl rfl)
theorem dX6_ways_31 : decode cX6_ways 31 = .ok (.iconst (-1), 1) := dk_2 (dk_at dksX6_ways_1 9 rfl rfl)
theorem dX6_ways_32 : decode cX6_ways 32 = .ok (.ixor, 1) := dk_130 (dk_at dksX6_ways_1 10 rfl rfl)
theorem dX6_ways_33 : decode cX6_ways 33 = .ok (.iand, 1) := dk_126 (dk_at dksX6_ways_1 11 rfl rfl)
theorem dX6_ways_34 : decode cX6_ways 34 = .ok (.istore_n 2, 1) := dk_61 (dk_at dksX6_ways_1 12 rfl rfl)
theorem dX6_ways_35 : decode cX6_ways 35 = .ok (.aload_n 0, 1) := dk_42 (dk_at dksX6_ways_1 13 rfl rfl)
theorem dX6_ways_36 : decode cX6_ways 36 = .ok (.getfield 81, 3) := dk_180 0 81 (dk_at dksX6_ways_1 14 rfl rfl)
theorem dX6_ways_39 : decode cX6_ways 39 = .ok (.iconst 0, 1) := dk_3 (dk_at dksX6_ways_1 17 rfl rfl)
theorem dX6_ways_40 : decode cX6_ways 40 = .ok (.lconst 1, 1) := dk_10 (dk_at dksX6_ways_1 18 rfl rfl)
theorem dX6_ways_41 : decode cX6_ways 41 = .ok (.lastore, 1) := dk_80 (dk_at dksX6_ways_1 19 rfl rfl)
theorem dX6_ways_42 : decode cX6_ways 42 = .ok (.iconst 1, 1) := dk_4 (dk_at dksX6_ways_1 20 rfl rfl)
theorem dX6_ways_43 : decode cX6_ways 43 = .ok (.istore_n 3, 1) := dk_62 (dk_at dksX6_ways_1 21 rfl rfl)
theorem dX6_ways_44 : decode cX6_ways 44 = .ok (.iload_n 3, 1) := dk_29 (dk_at dksX6_ways_1 22 rfl rfl)
theorem dX6_ways_45 : decode cX6_ways 45 = .ok (.iload_n 2, 1) := dk_28 (dk_at dksX6_ways_1 23 rfl rfl)
theorem dX6_ways_46 : decode cX6_ways 46 = .ok (.if_icmp .gt 94, 3) := dk_163 0 94 (dk_at dksX6_ways_2 0 rfl rfl)
theorem dX6_ways_49 : decode cX6_ways 49 = .ok (.iload_n 3, 1) := dk_29 (dk_at dksX6_ways_2 3 rfl rfl)
theorem dX6_ways_50 : decode cX6_ways 50 = .ok (.iload_n 2, 1) := dk_28 (dk_at dksX6_ways_2 4 rfl rfl)
theorem dX6_ways_51 : decode cX6_ways 51 = .ok (.iconst (-1), 1) := dk_2 (dk_at dksX6_ways_2 5 rfl rfl)
theorem dX6_ways_52 : decode cX6_ways 52 = .ok (.ixor, 1) := dk_130 (dk_at dksX6_ways_2 6 rfl rfl)
theorem dX6_ways_53 : decode cX6_ways 53 = .ok (.iand, 1) := dk_126 (dk_at dksX6_ways_2 7 rfl rfl)
theorem dX6_ways_54 : decode cX6_ways 54 = .ok (.ifCond .eq 6, 3) := dk_153 0 6 (dk_at dksX6_ways_2 8 rfl rfl)
theorem dX6_ways_57 : decode cX6_ways 57 = .ok (.goto 77, 3) := dk_167 0 77 (dk_at dksX6_ways_2 11 rfl rfl)
theorem dX6_ways_60 : decode cX6_ways 60 = .ok (.lconst 0, 1) := dk_9 (dk_at dksX6_ways_2 14 rfl rfl)
theorem dX6_ways_61 : decode cX6_ways 61 = .ok (.lstore 4, 2) := dk_55 4 (dk_at dksX6_ways_2 15 rfl rfl)
theorem dX6_ways_63 : decode cX6_ways 63 = .ok (.iconst 0, 1) := dk_3 (dk_at dksX6_ways_2 17 rfl rfl)
theorem dX6_ways_64 : decode cX6_ways 64 = .ok (.istore 6, 2) := dk_54 6 (dk_at dksX6_ways_2 18 rfl rfl)
theorem dX6_ways_66 : decode cX6_ways 66 = .ok (.iload 6, 2) := dk_21 6 (dk_at dksX6_ways_2 20 rfl rfl)
theorem dX6_ways_68 : decode cX6_ways 68 = .ok (.bipush 16, 2) := dk_16 16 (dk_at dksX6_ways_2 22 rfl rfl)
theorem dX6_ways_70 : decode cX6_ways 70 = .ok (.if_icmp .ge 56, 3) := dk_162 0 56 (dk_at dksX6_ways_3 0 rfl rfl)
theorem dX6_ways_73 : decode cX6_ways 73 = .ok (.iload_n 3, 1) := dk_29 (dk_at dksX6_ways_3 3 rfl rfl)
theorem dX6_ways_74 : decode cX6_ways 74 = .ok (.iload 6, 2) := dk_21 6 (dk_at dksX6_ways_3 4 rfl rfl)
theorem dX6_ways_76 : decode cX6_ways 76 = .ok (.invokestatic 100, 3) := dk_184 0 100 (dk_at dksX6_ways_3 6 rfl rfl)
theorem dX6_ways_79 : decode cX6_ways 79 = .ok (.ifCond .eq 41, 3) := dk_153 0 41 (dk_at dksX6_ways_3 9 rfl rfl)
theorem dX6_ways_82 : decode cX6_ways 82 = .ok (.aload_n 0, 1) := dk_42 (dk_at dksX6_ways_3 12 rfl rfl)
theorem dX6_ways_83 : decode cX6_ways 83 = .ok (.iload 6, 2) := dk_21 6 (dk_at dksX6_ways_3 13 rfl rfl)
theorem dX6_ways_85 : decode cX6_ways 85 = .ok (.invokevirtual 291, 3) := dk_182 1 35 (dk_at dksX6_ways_3 15 rfl rfl)
theorem dX6_ways_88 : decode cX6_ways 88 = .ok (.iload_n 3, 1) := dk_29 (dk_at dksX6_ways_3 18 rfl rfl)
theorem dX6_ways_89 : decode cX6_ways 89 = .ok (.iconst 1, 1) := dk_4 (dk_at dksX6_ways_3 19 rfl rfl)
theorem dX6_ways_90 : decode cX6_ways 90 = .ok (.iload 6, 2) := dk_21 6 (dk_at dksX6_ways_3 20 rfl rfl)
theorem dX6_ways_92 : decode cX6_ways 92 = .ok (.ishl, 1) := dk_120 (dk_at dksX6_ways_3 22 rfl rfl)
theorem dX6_ways_93 : decode cX6_ways 93 = .ok (.iconst (-1), 1) := dk_2 (dk_at dksX6_ways_3 23 rfl rfl)
theorem dX6_ways_94 : decode cX6_ways 94 = .ok (.ixor, 1) := dk_130 (dk_at dksX6_ways_4 0 rfl rfl)
theorem dX6_ways_95 : decode cX6_ways 95 = .ok (.iand, 1) := dk_126 (dk_at dksX6_ways_4 1 rfl rfl)
theorem dX6_ways_96 : decode cX6_ways 96 = .ok (.iconst (-1), 1) := dk_2 (dk_at dksX6_ways_4 2 rfl rfl)
theorem dX6_ways_97 : decode cX6_ways 97 = .ok (.ixor, 1) := dk_130 (dk_at dksX6_ways_4 3 rfl rfl)
theorem dX6_ways_98 : decode cX6_ways 98 = .ok (.iand, 1) := dk_126 (dk_at dksX6_ways_4 4 rfl rfl)
theorem dX6_ways_99 : decode cX6_ways 99 = .ok (.ifCond .eq 21, 3) := dk_153 0 21 (dk_at dksX6_ways_4 5 rfl rfl)
theorem dX6_ways_102 : decode cX6_ways 102 = .ok (.lload 4, 2) := dk_22 4 (dk_at dksX6_ways_4 8 rfl rfl)
theorem dX6_ways_104 : decode cX6_ways 104 = .ok (.aload_n 0, 1) := dk_42 (dk_at dksX6_ways_4 10 rfl rfl)
theorem dX6_ways_105 : decode cX6_ways 105 = .ok (.getfield 81, 3) := dk_180 0 81 (dk_at dksX6_ways_4 11 rfl rfl)
theorem dX6_ways_108 : decode cX6_ways 108 = .ok (.iload_n 3, 1) := dk_29 (dk_at dksX6_ways_4 14 rfl rfl)
theorem dX6_ways_109 : decode cX6_ways 109 = .ok (.iconst 1, 1) := dk_4 (dk_at dksX6_ways_4 15 rfl rfl)
theorem dX6_ways_110 : decode cX6_ways 110 = .ok (.iload 6, 2) := dk_21 6 (dk_at dksX6_ways_4 16 rfl rfl)
theorem dX6_ways_112 : decode cX6_ways 112 = .ok (.ishl, 1) := dk_120 (dk_at dksX6_ways_4 18 rfl rfl)
theorem dX6_ways_113 : decode cX6_ways 113 = .ok (.iconst (-1), 1) := dk_2 (dk_at dksX6_ways_4 19 rfl rfl)
theorem dX6_ways_114 : decode cX6_ways 114 = .ok (.ixor, 1) := dk_130 (dk_at dksX6_ways_4 20 rfl rfl)
theorem dX6_ways_115 : decode cX6_ways 115 = .ok (.iand, 1) := dk_126 (dk_at dksX6_ways_4 21 rfl rfl)
theorem dX6_ways_116 : decode cX6_ways 116 = .ok (.laload, 1) := dk_47 (dk_at dksX6_ways_4 22 rfl rfl)
theorem dX6_ways_117 : decode cX6_ways 117 = .ok (.ladd, 1) := dk_97 (dk_at dksX6_ways_4 23 rfl rfl)
theorem dX6_ways_118 : decode cX6_ways 118 = .ok (.lstore 4, 2) := dk_55 4 (dk_at dksX6_ways_5 0 rfl rfl)
theorem dX6_ways_120 : decode cX6_ways 120 = .ok (.iinc 6 1, 3) := dk_132 6 1 (dk_at dksX6_ways_5 2 rfl rfl)
theorem dX6_ways_123 : decode cX6_ways 123 = .ok (.goto (-57), 3) := dk_167 255 199 (dk_at dksX6_ways_5 5 rfl rfl)
theorem dX6_ways_126 : decode cX6_ways 126 = .ok (.aload_n 0, 1) := dk_42 (dk_at dksX6_ways_5 8 rfl rfl)
theorem dX6_ways_127 : decode cX6_ways 127 = .ok (.getfield 81, 3) := dk_180 0 81 (dk_at dksX6_ways_5 9 rfl rfl)
theorem dX6_ways_130 : decode cX6_ways 130 = .ok (.iload_n 3, 1) := dk_29 (dk_at dksX6_ways_5 12 rfl rfl)
theorem dX6_ways_131 : decode cX6_ways 131 = .ok (.lload 4, 2) := dk_22 4 (dk_at dksX6_ways_5 13 rfl rfl)
theorem dX6_ways_133 : decode cX6_ways 133 = .ok (.lastore, 1) := dk_80 (dk_at dksX6_ways_5 15 rfl rfl)
theorem dX6_ways_134 : decode cX6_ways 134 = .ok (.iinc 3 1, 3) := dk_132 3 1 (dk_at dksX6_ways_5 16 rfl rfl)
theorem dX6_ways_137 : decode cX6_ways 137 = .ok (.goto (-93), 3) := dk_167 255 163 (dk_at dksX6_ways_5 19 rfl rfl)
theorem dX6_ways_140 : decode cX6_ways 140 = .ok (.aload_n 0, 1) := dk_42 (dk_at dksX6_ways_5 22 rfl rfl)
theorem dX6_ways_141 : decode cX6_ways 141 = .ok (.getfield 81, 3) := dk_180 0 81 (dk_at dksX6_ways_6 0 rfl rfl)
theorem dX6_ways_144 : decode cX6_ways 144 = .ok (.iload_n 2, 1) := dk_28 (dk_at dksX6_ways_6 3 rfl rfl)
theorem dX6_ways_145 : decode cX6_ways 145 = .ok (.laload, 1) := dk_47 (dk_at dksX6_ways_6 4 rfl rfl)
theorem dX6_ways_146 : decode cX6_ways 146 = .ok (.lreturn, 1) := dk_173 (dk_at dksX6_ways_6 5 rfl rfl)
abbrev cX6_keepsOut : ByteArray := prog_20_method_72_code
def yX6_keepsOut : MethodName := ⟨RX6, "keepsOut", "(I)I"⟩
def dkwX6_keepsOut_6 : List UInt8 := [167, 0, 5, 21, 4, 172]
abbrev dktX6_keepsOut_6 : List UInt8 := dkwX6_keepsOut_6 ++ []
def dkwX6_keepsOut_5 : List UInt8 := [54, 4, 42, 21, 6, 21, 7, 3, 182, 1, 96, 132, 5, 1, 167, 255, 154, 27, 154, 0, 7, 29]
abbrev dktX6_keepsOut_5 : List UInt8 := dkwX6_keepsOut_5 ++ dktX6_keepsOut_6
def dkwX6_keepsOut_4 : List UInt8 := [182, 1, 84, 184, 1, 20, 28, 164, 0, 18, 29, 4, 96, 62, 21, 4, 16, 254, 160, 0, 7, 21, 5]
abbrev dktX6_keepsOut_4 : List UInt8 := dkwX6_keepsOut_4 ++ dktX6_keepsOut_5
def dkwX6_keepsOut_3 : List UInt8 := [182, 1, 35, 21, 7, 184, 0, 100, 154, 0, 6, 167, 0, 47, 42, 21, 6, 21, 7, 4, 182, 1, 96, 42]
abbrev dktX6_keepsOut_3 : List UInt8 := dkwX6_keepsOut_3 ++ dktX6_keepsOut_4
def dkwX6_keepsOut_2 : List UInt8 := [112, 54, 7, 21, 6, 21, 7, 162, 0, 73, 42, 21, 6, 182, 0, 233, 153, 0, 64, 42, 21, 6]
abbrev dktX6_keepsOut_2 : List UInt8 := dkwX6_keepsOut_2 ++ dktX6_keepsOut_3
def dkwX6_keepsOut_1 : List UInt8 := [54, 4, 3, 54, 5, 21, 5, 17, 1, 0, 162, 0, 100, 21, 5, 16, 16, 108, 54, 6, 21, 5, 16, 16]
abbrev dktX6_keepsOut_1 : List UInt8 := dkwX6_keepsOut_1 ++ dktX6_keepsOut_2
def dkwX6_keepsOut_0 : List UInt8 := [27, 3, 4, 184, 0, 104, 154, 0, 5, 2, 172, 42, 182, 1, 84, 184, 1, 20, 61, 3, 62, 16, 254]
abbrev dktX6_keepsOut_0 : List UInt8 := dkwX6_keepsOut_0 ++ dktX6_keepsOut_1
theorem dksX6_keepsOut_0 : cX6_keepsOut.data.toList.drop 0 = dktX6_keepsOut_0 := by decide +kernel
theorem dksX6_keepsOut_1 : cX6_keepsOut.data.toList.drop 23 = dktX6_keepsOut_1 := dk_seg dksX6_keepsOut_0 23 rfl rfl
theorem dksX6_keepsOut_2 : cX6_keepsOut.data.toList.drop 47 = dktX6_keepsOut_2 := dk_seg dksX6_keepsOut_1 24 rfl rfl
theorem dksX6_keepsOut_3 : cX6_keepsOut.data.toList.drop 69 = dktX6_keepsOut_3 := dk_seg dksX6_keepsOut_2 22 rfl rfl
theorem dksX6_keepsOut_4 : cX6_keepsOut.data.toList.drop 93 = dktX6_keepsOut_4 := dk_seg dksX6_keepsOut_3 24 rfl rfl
theorem dksX6_keepsOut_5 : cX6_keepsOut.data.toList.drop 116 = dktX6_keepsOut_5 := dk_seg dksX6_keepsOut_4 23 rfl rfl
theorem dksX6_keepsOut_6 : cX6_keepsOut.data.toList.drop 138 = dktX6_keepsOut_6 := dk_seg dksX6_keepsOut_5 22 rfl rfl
theorem dX6_keepsOut_0 : decode cX6_keepsOut 0 = .ok (.iload_n 1, 1) := dk_27 (dk_at dksX6_keepsOut_0 0 rfl rfl)
theorem dX6_keepsOut_1 : decode cX6_keepsOut 1 = .ok (.iconst 0, 1) := dk_3 (dk_at dksX6_keepsOut_0 1 rfl rfl)
theorem dX6_keepsOut_2 : decode cX6_keepsOut 2 = .ok (.iconst 1, 1) := dk_4 (dk_at dksX6_keepsOut_0 2 rfl rfl)
theorem dX6_keepsOut_3 : decode cX6_keepsOut 3 = .ok (.invokestatic 104, 3) := dk_184 0 104 (dk_at dksX6_keepsOut_0 3 rfl rfl)
theorem dX6_keepsOut_6 : decode cX6_keepsOut 6 = .ok (.ifCond .ne 5, 3) := dk_154 0 5 (dk_at dksX6_keepsOut_0 6 rfl rfl)
theorem dX6_keepsOut_9 : decode cX6_keepsOut 9 = .ok (.iconst (-1), 1) := dk_2 (dk_at dksX6_keepsOut_0 9 rfl rfl)
theorem dX6_keepsOut_10 : decode cX6_keepsOut 10 = .ok (.ireturn, 1) := dk_172 (dk_at dksX6_keepsOut_0 10 rfl rfl)
theorem dX6_keepsOut_11 : decode cX6_keepsOut 11 = .ok (.aload_n 0, 1) := dk_42 (dk_at dksX6_keepsOut_0 11 rfl rfl)
theorem dX6_keepsOut_12 : decode cX6_keepsOut 12 = .ok (.invokevirtual 340, 3) := dk_182 1 84 (dk_at dksX6_keepsOut_0 12 rfl rfl)
theorem dX6_keepsOut_15 : decode cX6_keepsOut 15 = .ok (.invokestatic 276, 3) := dk_184 1 20 (dk_at dksX6_keepsOut_0 15 rfl rfl)
theorem dX6_keepsOut_18 : decode cX6_keepsOut 18 = .ok (.istore_n 2, 1) := dk_61 (dk_at dksX6_keepsOut_0 18 rfl rfl)
theorem dX6_keepsOut_19 : decode cX6_keepsOut 19 = .ok (.iconst 0, 1) := dk_3 (dk_at dksX6_keepsOut_0 19 rfl rfl)
theorem dX6_keepsOut_20 : decode cX6_keepsOut 20 = .ok (.istore_n 3, 1) := dk_62 (dk_at dksX6_keepsOut_0 20 rfl rfl)
theorem dX6_keepsOut_21 : decode cX6_keepsOut 21 = .ok (.bipush (-2), 2) := dk_16 254 (dk_at dksX6_keepsOut_0 21 rfl rfl)
theorem dX6_keepsOut_23 : decode cX6_keepsOut 23 = .ok (.istore 4, 2) := dk_54 4 (dk_at dksX6_keepsOut_1 0 rfl rfl)
theorem dX6_keepsOut_25 : decode cX6_keepsOut 25 = .ok (.iconst 0, 1) := dk_3 (dk_at dksX6_keepsOut_1 2 rfl rfl)
theorem dX6_keepsOut_26 : decode cX6_keepsOut 26 = .ok (.istore 5, 2) := dk_54 5 (dk_at dksX6_keepsOut_1 3 rfl rfl)
theorem dX6_keepsOut_28 : decode cX6_keepsOut 28 = .ok (.iload 5, 2) := dk_21 5 (dk_at dksX6_keepsOut_1 5 rfl rfl)
theorem dX6_keepsOut_30 : decode cX6_keepsOut 30 = .ok (.sipush 256, 3) := dk_17 1 0 (dk_at dksX6_keepsOut_1 7 rfl rfl)
theorem dX6_keepsOut_33 : decode cX6_keepsOut 33 = .ok (.if_icmp .ge 100, 3) := dk_162 0 100 (dk_at dksX6_keepsOut_1 10 rfl rfl)
theorem dX6_keepsOut_36 : decode cX6_keepsOut 36 = .ok (.iload 5, 2) := dk_21 5 (dk_at dksX6_keepsOut_1 13 rfl rfl)
theorem dX6_keepsOut_38 : decode cX6_keepsOut 38 = .ok (.bipush 16, 2) := dk_16 16 (dk_at dksX6_keepsOut_1 15 rfl rfl)
theorem dX6_keepsOut_40 : decode cX6_keepsOut 40 = .ok (.idiv, 1) := dk_108 (dk_at dksX6_keepsOut_1 17 rfl rfl)
theorem dX6_keepsOut_41 : decode cX6_keepsOut 41 = .ok (.istore 6, 2) := dk_54 6 (dk_at dksX6_keepsOut_1 18 rfl rfl)
theorem dX6_keepsOut_43 : decode cX6_keepsOut 43 = .ok (.iload 5, 2) := dk_21 5 (dk_at dksX6_keepsOut_1 20 rfl rfl)
theorem dX6_keepsOut_45 : decode cX6_keepsOut 45 = .ok (.bipush 16, 2) := dk_16 16 (dk_at dksX6_keepsOut_1 22 rfl rfl)
theorem dX6_keepsOut_47 : decode cX6_keepsOut 47 = .ok (.irem, 1) := dk_112 (dk_at dksX6_keepsOut_2 0 rfl rfl)
theorem dX6_keepsOut_48 : decode cX6_keepsOut 48 = .ok (.istore 7, 2) := dk_54 7 (dk_at dksX6_keepsOut_2 1 rfl rfl)
theorem dX6_keepsOut_50 : decode cX6_keepsOut 50 = .ok (.iload 6, 2) := dk_21 6 (dk_at dksX6_keepsOut_2 3 rfl rfl)
theorem dX6_keepsOut_52 : decode cX6_keepsOut 52 = .ok (.iload 7, 2) := dk_21 7 (dk_at dksX6_keepsOut_2 5 rfl rfl)
theorem dX6_keepsOut_54 : decode cX6_keepsOut 54 = .ok (.if_icmp .ge 73, 3) := dk_162 0 73 (dk_at dksX6_keepsOut_2 7 rfl rfl)
theorem dX6_keepsOut_57 : decode cX6_keepsOut 57 = .ok (.aload_n 0, 1) := dk_42 (dk_at dksX6_keepsOut_2 10 rfl rfl)
theorem dX6_keepsOut_58 : decode cX6_keepsOut 58 = .ok (.iload 6, 2) := dk_21 6 (dk_at dksX6_keepsOut_2 11 rfl rfl)
theorem dX6_keepsOut_60 : decode cX6_keepsOut 60 = .ok (.invokevirtual 233, 3) := dk_182 0 233 (dk_at dksX6_keepsOut_2 13 rfl rfl)
theorem dX6_keepsOut_63 : decode cX6_keepsOut 63 = .ok (.ifCond .eq 64, 3) := dk_153 0 64 (dk_at dksX6_keepsOut_2 16 rfl rfl)
theorem dX6_keepsOut_66 : decode cX6_keepsOut 66 = .ok (.aload_n 0, 1) := dk_42 (dk_at dksX6_keepsOut_2 19 rfl rfl)
theorem dX6_keepsOut_67 : decode cX6_keepsOut 67 = .ok (.iload 6, 2) := dk_21 6 (dk_at dksX6_keepsOut_2 20 rfl rfl)
theorem dX6_keepsOut_69 : decode cX6_keepsOut 69 = .ok (.invokevirtual 291, 3) := dk_182 1 35 (dk_at dksX6_keepsOut_3 0 rfl rfl)
theorem dX6_keepsOut_72 : decode cX6_keepsOut 72 = .ok (.iload 7, 2) := dk_21 7 (dk_at dksX6_keepsOut_3 3 rfl rfl)
theorem dX6_keepsOut_74 : decode cX6_keepsOut 74 = .ok (.invokestatic 100, 3) := dk_184 0 100 (dk_at dksX6_keepsOut_3 5 rfl rfl)
theorem dX6_keepsOut_77 : decode cX6_keepsOut 77 = .ok (.ifCond .ne 6, 3) := dk_154 0 6 (dk_at dksX6_keepsOut_3 8 rfl rfl)
theorem dX6_keepsOut_80 : decode cX6_keepsOut 80 = .ok (.goto 47, 3) := dk_167 0 47 (dk_at dksX6_keepsOut_3 11 rfl rfl)
theorem dX6_keepsOut_83 : decode cX6_keepsOut 83 = .ok (.aload_n 0, 1) := dk_42 (dk_at dksX6_keepsOut_3 14 rfl rfl)
theorem dX6_keepsOut_84 : decode cX6_keepsOut 84 = .ok (.iload 6, 2) := dk_21 6 (dk_at dksX6_keepsOut_3 15 rfl rfl)
theorem dX6_keepsOut_86 : decode cX6_keepsOut 86 = .ok (.iload 7, 2) := dk_21 7 (dk_at dksX6_keepsOut_3 17 rfl rfl)
theorem dX6_keepsOut_88 : decode cX6_keepsOut 88 = .ok (.iconst 1, 1) := dk_4 (dk_at dksX6_keepsOut_3 19 rfl rfl)
theorem dX6_keepsOut_89 : decode cX6_keepsOut 89 = .ok (.invokevirtual 352, 3) := dk_182 1 96 (dk_at dksX6_keepsOut_3 20 rfl rfl)
theorem dX6_keepsOut_92 : decode cX6_keepsOut 92 = .ok (.aload_n 0, 1) := dk_42 (dk_at dksX6_keepsOut_3 23 rfl rfl)
theorem dX6_keepsOut_93 : decode cX6_keepsOut 93 = .ok (.invokevirtual 340, 3) := dk_182 1 84 (dk_at dksX6_keepsOut_4 0 rfl rfl)
theorem dX6_keepsOut_96 : decode cX6_keepsOut 96 = .ok (.invokestatic 276, 3) := dk_184 1 20 (dk_at dksX6_keepsOut_4 3 rfl rfl)
theorem dX6_keepsOut_99 : decode cX6_keepsOut 99 = .ok (.iload_n 2, 1) := dk_28 (dk_at dksX6_keepsOut_4 6 rfl rfl)
theorem dX6_keepsOut_100 : decode cX6_keepsOut 100 = .ok (.if_icmp .le 18, 3) := dk_164 0 18 (dk_at dksX6_keepsOut_4 7 rfl rfl)
theorem dX6_keepsOut_103 : decode cX6_keepsOut 103 = .ok (.iload_n 3, 1) := dk_29 (dk_at dksX6_keepsOut_4 10 rfl rfl)
theorem dX6_keepsOut_104 : decode cX6_keepsOut 104 = .ok (.iconst 1, 1) := dk_4 (dk_at dksX6_keepsOut_4 11 rfl rfl)
theorem dX6_keepsOut_105 : decode cX6_keepsOut 105 = .ok (.iadd, 1) := dk_96 (dk_at dksX6_keepsOut_4 12 rfl rfl)
theorem dX6_keepsOut_106 : decode cX6_keepsOut 106 = .ok (.istore_n 3, 1) := dk_62 (dk_at dksX6_keepsOut_4 13 rfl rfl)
theorem dX6_keepsOut_107 : decode cX6_keepsOut 107 = .ok (.iload 4, 2) := dk_21 4 (dk_at dksX6_keepsOut_4 14 rfl rfl)
theorem dX6_keepsOut_109 : decode cX6_keepsOut 109 = .ok (.bipush (-2), 2) := dk_16 254 (dk_at dksX6_keepsOut_4 16 rfl rfl)
theorem dX6_keepsOut_111 : decode cX6_keepsOut 111 = .ok (.if_icmp .ne 7, 3) := dk_160 0 7 (dk_at dksX6_keepsOut_4 18 rfl rfl)
theorem dX6_keepsOut_114 : decode cX6_keepsOut 114 = .ok (.iload 5, 2) := dk_21 5 (dk_at dksX6_keepsOut_4 21 rfl rfl)
theorem dX6_keepsOut_116 : decode cX6_keepsOut 116 = .ok (.istore 4, 2) := dk_54 4 (dk_at dksX6_keepsOut_5 0 rfl rfl)
theorem dX6_keepsOut_118 : decode cX6_keepsOut 118 = .ok (.aload_n 0, 1) := dk_42 (dk_at dksX6_keepsOut_5 2 rfl rfl)
theorem dX6_keepsOut_119 : decode cX6_keepsOut 119 = .ok (.iload 6, 2) := dk_21 6 (dk_at dksX6_keepsOut_5 3 rfl rfl)
theorem dX6_keepsOut_121 : decode cX6_keepsOut 121 = .ok (.iload 7, 2) := dk_21 7 (dk_at dksX6_keepsOut_5 5 rfl rfl)
theorem dX6_keepsOut_123 : decode cX6_keepsOut 123 = .ok (.iconst 0, 1) := dk_3 (dk_at dksX6_keepsOut_5 7 rfl rfl)
theorem dX6_keepsOut_124 : decode cX6_keepsOut 124 = .ok (.invokevirtual 352, 3) := dk_182 1 96 (dk_at dksX6_keepsOut_5 8 rfl rfl)
theorem dX6_keepsOut_127 : decode cX6_keepsOut 127 = .ok (.iinc 5 1, 3) := dk_132 5 1 (dk_at dksX6_keepsOut_5 11 rfl rfl)
theorem dX6_keepsOut_130 : decode cX6_keepsOut 130 = .ok (.goto (-102), 3) := dk_167 255 154 (dk_at dksX6_keepsOut_5 14 rfl rfl)
theorem dX6_keepsOut_133 : decode cX6_keepsOut 133 = .ok (.iload_n 1, 1) := dk_27 (dk_at dksX6_keepsOut_5 17 rfl rfl)
theorem dX6_keepsOut_134 : decode cX6_keepsOut 134 = .ok (.ifCond .ne 7, 3) := dk_154 0 7 (dk_at dksX6_keepsOut_5 18 rfl rfl)
theorem dX6_keepsOut_137 : decode cX6_keepsOut 137 = .ok (.iload_n 3, 1) := dk_29 (dk_at dksX6_keepsOut_5 21 rfl rfl)
theorem dX6_keepsOut_138 : decode cX6_keepsOut 138 = .ok (.goto 5, 3) := dk_167 0 5 (dk_at dksX6_keepsOut_6 0 rfl rfl)
theorem dX6_keepsOut_141 : decode cX6_keepsOut 141 = .ok (.iload 4, 2) := dk_21 4 (dk_at dksX6_keepsOut_6 3 rfl rfl)
theorem dX6_keepsOut_143 : decode cX6_keepsOut 143 = .ok (.ireturn, 1) := dk_172 (dk_at dksX6_keepsOut_6 5 rfl rfl)
abbrev cX6_quarrels : ByteArray := prog_20_method_71_code
def yX6_quarrels : MethodName := ⟨RX6, "quarrels", "(IIZ)V"⟩
def dkwX6_quarrels_3 : List UInt8 := [79, 177]
abbrev dktX6_quarrels_3 : List UInt8 := dkwX6_quarrels_3 ++ []
def dkwX6_quarrels_2 : List UInt8 := [180, 0, 22, 28, 46, 4, 27, 120, 128, 167, 0, 15, 42, 180, 0, 22, 28, 46, 4, 27, 120, 2, 130, 126]
abbrev dktX6_quarrels_2 : List UInt8 := dkwX6_quarrels_2 ++ dktX6_quarrels_3
def dkwX6_quarrels_1 : List UInt8 := [180, 0, 22, 27, 46, 4, 28, 120, 2, 130, 126, 79, 42, 180, 0, 22, 28, 29, 153, 0, 16, 42]
abbrev dktX6_quarrels_1 : List UInt8 := dkwX6_quarrels_1 ++ dktX6_quarrels_2
def dkwX6_quarrels_0 : List UInt8 := [42, 180, 0, 22, 27, 29, 153, 0, 16, 42, 180, 0, 22, 27, 46, 4, 28, 120, 128, 167, 0, 15, 42]
abbrev dktX6_quarrels_0 : List UInt8 := dkwX6_quarrels_0 ++ dktX6_quarrels_1
theorem dksX6_quarrels_0 : cX6_quarrels.data.toList.drop 0 = dktX6_quarrels_0 := by decide +kernel
theorem dksX6_quarrels_1 : cX6_quarrels.data.toList.drop 23 = dktX6_quarrels_1 := dk_seg dksX6_quarrels_0 23 rfl rfl
theorem dksX6_quarrels_2 : cX6_quarrels.data.toList.drop 45 = dktX6_quarrels_2 := dk_seg dksX6_quarrels_1 22 rfl rfl
theorem dksX6_quarrels_3 : cX6_quarrels.data.toList.drop 69 = dktX6_quarrels_3 := dk_seg dksX6_quarrels_2 24 rfl rfl
theorem dX6_quarrels_0 : decode cX6_quarrels 0 = .ok (.aload_n 0, 1) := dk_42 (dk_at dksX6_quarrels_0 0 rfl rfl)
theorem dX6_quarrels_1 : decode cX6_quarrels 1 = .ok (.getfield 22, 3) := dk_180 0 22 (dk_at dksX6_quarrels_0 1 rfl rfl)
theorem dX6_quarrels_4 : decode cX6_quarrels 4 = .ok (.iload_n 1, 1) := dk_27 (dk_at dksX6_quarrels_0 4 rfl rfl)
theorem dX6_quarrels_5 : decode cX6_quarrels 5 = .ok (.iload_n 3, 1) := dk_29 (dk_at dksX6_quarrels_0 5 rfl rfl)
theorem dX6_quarrels_6 : decode cX6_quarrels 6 = .ok (.ifCond .eq 16, 3) := dk_153 0 16 (dk_at dksX6_quarrels_0 6 rfl rfl)
theorem dX6_quarrels_9 : decode cX6_quarrels 9 = .ok (.aload_n 0, 1) := dk_42 (dk_at dksX6_quarrels_0 9 rfl rfl)
theorem dX6_quarrels_10 : decode cX6_quarrels 10 = .ok (.getfield 22, 3) := dk_180 0 22 (dk_at dksX6_quarrels_0 10 rfl rfl)
theorem dX6_quarrels_13 : decode cX6_quarrels 13 = .ok (.iload_n 1, 1) := dk_27 (dk_at dksX6_quarrels_0 13 rfl rfl)
theorem dX6_quarrels_14 : decode cX6_quarrels 14 = .ok (.iaload, 1) := dk_46 (dk_at dksX6_quarrels_0 14 rfl rfl)
theorem dX6_quarrels_15 : decode cX6_quarrels 15 = .ok (.iconst 1, 1) := dk_4 (dk_at dksX6_quarrels_0 15 rfl rfl)
theorem dX6_quarrels_16 : decode cX6_quarrels 16 = .ok (.iload_n 2, 1) := dk_28 (dk_at dksX6_quarrels_0 16 rfl rfl)
theorem dX6_quarrels_17 : decode cX6_quarrels 17 = .ok (.ishl, 1) := dk_120 (dk_at dksX6_quarrels_0 17 rfl rfl)
theorem dX6_quarrels_18 : decode cX6_quarrels 18 = .ok (.ior, 1) := dk_128 (dk_at dksX6_quarrels_0 18 rfl rfl)
theorem dX6_quarrels_19 : decode cX6_quarrels 19 = .ok (.goto 15, 3) := dk_167 0 15 (dk_at dksX6_quarrels_0 19 rfl rfl)
theorem dX6_quarrels_22 : decode cX6_quarrels 22 = .ok (.aload_n 0, 1) := dk_42 (dk_at dksX6_quarrels_0 22 rfl rfl)
theorem dX6_quarrels_23 : decode cX6_quarrels 23 = .ok (.getfield 22, 3) := dk_180 0 22 (dk_at dksX6_quarrels_1 0 rfl rfl)
theorem dX6_quarrels_26 : decode cX6_quarrels 26 = .ok (.iload_n 1, 1) := dk_27 (dk_at dksX6_quarrels_1 3 rfl rfl)
theorem dX6_quarrels_27 : decode cX6_quarrels 27 = .ok (.iaload, 1) := dk_46 (dk_at dksX6_quarrels_1 4 rfl rfl)
theorem dX6_quarrels_28 : decode cX6_quarrels 28 = .ok (.iconst 1, 1) := dk_4 (dk_at dksX6_quarrels_1 5 rfl rfl)
theorem dX6_quarrels_29 : decode cX6_quarrels 29 = .ok (.iload_n 2, 1) := dk_28 (dk_at dksX6_quarrels_1 6 rfl rfl)
theorem dX6_quarrels_30 : decode cX6_quarrels 30 = .ok (.ishl, 1) := dk_120 (dk_at dksX6_quarrels_1 7 rfl rfl)
theorem dX6_quarrels_31 : decode cX6_quarrels 31 = .ok (.iconst (-1), 1) := dk_2 (dk_at dksX6_quarrels_1 8 rfl rfl)
theorem dX6_quarrels_32 : decode cX6_quarrels 32 = .ok (.ixor, 1) := dk_130 (dk_at dksX6_quarrels_1 9 rfl rfl)
theorem dX6_quarrels_33 : decode cX6_quarrels 33 = .ok (.iand, 1) := dk_126 (dk_at dksX6_quarrels_1 10 rfl rfl)
theorem dX6_quarrels_34 : decode cX6_quarrels 34 = .ok (.iastore, 1) := dk_79 (dk_at dksX6_quarrels_1 11 rfl rfl)
theorem dX6_quarrels_35 : decode cX6_quarrels 35 = .ok (.aload_n 0, 1) := dk_42 (dk_at dksX6_quarrels_1 12 rfl rfl)
theorem dX6_quarrels_36 : decode cX6_quarrels 36 = .ok (.getfield 22, 3) := dk_180 0 22 (dk_at dksX6_quarrels_1 13 rfl rfl)
theorem dX6_quarrels_39 : decode cX6_quarrels 39 = .ok (.iload_n 2, 1) := dk_28 (dk_at dksX6_quarrels_1 16 rfl rfl)
theorem dX6_quarrels_40 : decode cX6_quarrels 40 = .ok (.iload_n 3, 1) := dk_29 (dk_at dksX6_quarrels_1 17 rfl rfl)
theorem dX6_quarrels_41 : decode cX6_quarrels 41 = .ok (.ifCond .eq 16, 3) := dk_153 0 16 (dk_at dksX6_quarrels_1 18 rfl rfl)
theorem dX6_quarrels_44 : decode cX6_quarrels 44 = .ok (.aload_n 0, 1) := dk_42 (dk_at dksX6_quarrels_1 21 rfl rfl)
theorem dX6_quarrels_45 : decode cX6_quarrels 45 = .ok (.getfield 22, 3) := dk_180 0 22 (dk_at dksX6_quarrels_2 0 rfl rfl)
theorem dX6_quarrels_48 : decode cX6_quarrels 48 = .ok (.iload_n 2, 1) := dk_28 (dk_at dksX6_quarrels_2 3 rfl rfl)
theorem dX6_quarrels_49 : decode cX6_quarrels 49 = .ok (.iaload, 1) := dk_46 (dk_at dksX6_quarrels_2 4 rfl rfl)
theorem dX6_quarrels_50 : decode cX6_quarrels 50 = .ok (.iconst 1, 1) := dk_4 (dk_at dksX6_quarrels_2 5 rfl rfl)
theorem dX6_quarrels_51 : decode cX6_quarrels 51 = .ok (.iload_n 1, 1) := dk_27 (dk_at dksX6_quarrels_2 6 rfl rfl)
theorem dX6_quarrels_52 : decode cX6_quarrels 52 = .ok (.ishl, 1) := dk_120 (dk_at dksX6_quarrels_2 7 rfl rfl)
theorem dX6_quarrels_53 : decode cX6_quarrels 53 = .ok (.ior, 1) := dk_128 (dk_at dksX6_quarrels_2 8 rfl rfl)
theorem dX6_quarrels_54 : decode cX6_quarrels 54 = .ok (.goto 15, 3) := dk_167 0 15 (dk_at dksX6_quarrels_2 9 rfl rfl)
theorem dX6_quarrels_57 : decode cX6_quarrels 57 = .ok (.aload_n 0, 1) := dk_42 (dk_at dksX6_quarrels_2 12 rfl rfl)
theorem dX6_quarrels_58 : decode cX6_quarrels 58 = .ok (.getfield 22, 3) := dk_180 0 22 (dk_at dksX6_quarrels_2 13 rfl rfl)
theorem dX6_quarrels_61 : decode cX6_quarrels 61 = .ok (.iload_n 2, 1) := dk_28 (dk_at dksX6_quarrels_2 16 rfl rfl)
theorem dX6_quarrels_62 : decode cX6_quarrels 62 = .ok (.iaload, 1) := dk_46 (dk_at dksX6_quarrels_2 17 rfl rfl)
theorem dX6_quarrels_63 : decode cX6_quarrels 63 = .ok (.iconst 1, 1) := dk_4 (dk_at dksX6_quarrels_2 18 rfl rfl)
theorem dX6_quarrels_64 : decode cX6_quarrels 64 = .ok (.iload_n 1, 1) := dk_27 (dk_at dksX6_quarrels_2 19 rfl rfl)
theorem dX6_quarrels_65 : decode cX6_quarrels 65 = .ok (.ishl, 1) := dk_120 (dk_at dksX6_quarrels_2 20 rfl rfl)
theorem dX6_quarrels_66 : decode cX6_quarrels 66 = .ok (.iconst (-1), 1) := dk_2 (dk_at dksX6_quarrels_2 21 rfl rfl)
theorem dX6_quarrels_67 : decode cX6_quarrels 67 = .ok (.ixor, 1) := dk_130 (dk_at dksX6_quarrels_2 22 rfl rfl)
theorem dX6_quarrels_68 : decode cX6_quarrels 68 = .ok (.iand, 1) := dk_126 (dk_at dksX6_quarrels_2 23 rfl rfl)
theorem dX6_quarrels_69 : decode cX6_quarrels 69 = .ok (.iastore, 1) := dk_79 (dk_at dksX6_quarrels_3 0 rfl rfl)
theorem dX6_quarrels_70 : decode cX6_quarrels 70 = .ok (.return_, 1) := dk_177 (dk_at dksX6_quarrels_3 1 rfl rfl)
abbrev cX6_chain : ByteArray := prog_20_method_73_code
def yX6_chain : MethodName := ⟨RX6, "chain", "(II)I"⟩
def dkwX6_chain_4 : List UInt8 := [21, 5, 172]
abbrev dktX6_chain_4 : List UInt8 := dkwX6_chain_4 ++ []
def dkwX6_chain_3 : List UInt8 := [184, 0, 100, 153, 0, 12, 29, 42, 21, 6, 182, 1, 35, 128, 62, 132, 6, 1, 167, 255, 227, 167, 255, 195]
abbrev dktX6_chain_3 : List UInt8 := dkwX6_chain_3 ++ dktX6_chain_4
def dkwX6_chain_2 : List UInt8 := [54, 4, 21, 5, 4, 96, 54, 5, 3, 54, 6, 21, 6, 16, 16, 162, 0, 28, 21, 4, 21, 6]
abbrev dktX6_chain_2 : List UInt8 := dkwX6_chain_2 ++ dktX6_chain_3
def dkwX6_chain_1 : List UInt8 := [54, 4, 3, 54, 5, 29, 28, 184, 0, 100, 154, 0, 59, 29, 21, 4, 160, 0, 6, 16, 254, 172, 29]
abbrev dktX6_chain_1 : List UInt8 := dkwX6_chain_1 ++ dktX6_chain_2
def dkwX6_chain_0 : List UInt8 := [42, 27, 182, 0, 233, 153, 0, 11, 42, 28, 182, 0, 233, 154, 0, 5, 2, 172, 4, 27, 120, 62, 3]
abbrev dktX6_chain_0 : List UInt8 := dkwX6_chain_0 ++ dktX6_chain_1
theorem dksX6_chain_0 : cX6_chain.data.toList.drop 0 = dktX6_chain_0 := by decide +kernel
theorem dksX6_chain_1 : cX6_chain.data.toList.drop 23 = dktX6_chain_1 := dk_seg dksX6_chain_0 23 rfl rfl
theorem dksX6_chain_2 : cX6_chain.data.toList.drop 46 = dktX6_chain_2 := dk_seg dksX6_chain_1 23 rfl rfl
theorem dksX6_chain_3 : cX6_chain.data.toList.drop 68 = dktX6_chain_3 := dk_seg dksX6_chain_2 22 rfl rfl
theorem dksX6_chain_4 : cX6_chain.data.toList.drop 92 = dktX6_chain_4 := dk_seg dksX6_chain_3 24 rfl rfl
theorem dX6_chain_0 : decode cX6_chain 0 = .ok (.aload_n 0, 1) := dk_42 (dk_at dksX6_chain_0 0 rfl rfl)
theorem dX6_chain_1 : decode cX6_chain 1 = .ok (.iload_n 1, 1) := dk_27 (dk_at dksX6_chain_0 1 rfl rfl)
theorem dX6_chain_2 : decode cX6_chain 2 = .ok (.invokevirtual 233, 3) := dk_182 0 233 (dk_at dksX6_chain_0 2 rfl rfl)
theorem dX6_chain_5 : decode cX6_chain 5 = .ok (.ifCond .eq 11, 3) := dk_153 0 11 (dk_at dksX6_chain_0 5 rfl rfl)
theorem dX6_chain_8 : decode cX6_chain 8 = .ok (.aload_n 0, 1) := dk_42 (dk_at dksX6_chain_0 8 rfl rfl)
theorem dX6_chain_9 : decode cX6_chain 9 = .ok (.iload_n 2, 1) := dk_28 (dk_at dksX6_chain_0 9 rfl rfl)
theorem dX6_chain_10 : decode cX6_chain 10 = .ok (.invokevirtual 233, 3) := dk_182 0 233 (dk_at dksX6_chain_0 10 rfl rfl)
theorem dX6_chain_13 : decode cX6_chain 13 = .ok (.ifCond .ne 5, 3) := dk_154 0 5 (dk_at dksX6_chain_0 13 rfl rfl)
theorem dX6_chain_16 : decode cX6_chain 16 = .ok (.iconst (-1), 1) := dk_2 (dk_at dksX6_chain_0 16 rfl rfl)
theorem dX6_chain_17 : decode cX6_chain 17 = .ok (.ireturn, 1) := dk_172 (dk_at dksX6_chain_0 17 rfl rfl)
theorem dX6_chain_18 : decode cX6_chain 18 = .ok (.iconst 1, 1) := dk_4 (dk_at dksX6_chain_0 18 rfl rfl)
theorem dX6_chain_19 : decode cX6_chain 19 = .ok (.iload_n 1, 1) := dk_27 (dk_at dksX6_chain_0 19 rfl rfl)
theorem dX6_chain_20 : decode cX6_chain 20 = .ok (.ishl, 1) := dk_120 (dk_at dksX6_chain_0 20 rfl rfl)
theorem dX6_chain_21 : decode cX6_chain 21 = .ok (.istore_n 3, 1) := dk_62 (dk_at dksX6_chain_0 21 rfl rfl)
theorem dX6_chain_22 : decode cX6_chain 22 = .ok (.iconst 0, 1) := dk_3 (dk_at dksX6_chain_0 22 rfl rfl)
theorem dX6_chain_23 : decode cX6_chain 23 = .ok (.istore 4, 2) := dk_54 4 (dk_at dksX6_chain_1 0 rfl rfl)
theorem dX6_chain_25 : decode cX6_chain 25 = .ok (.iconst 0, 1) := dk_3 (dk_at dksX6_chain_1 2 rfl rfl)
theorem dX6_chain_26 : decode cX6_chain 26 = .ok (.istore 5, 2) := dk_54 5 (dk_at dksX6_chain_1 3 rfl rfl)
theorem dX6_chain_28 : decode cX6_chain 28 = .ok (.iload_n 3, 1) := dk_29 (dk_at dksX6_chain_1 5 rfl rfl)
theorem dX6_chain_29 : decode cX6_chain 29 = .ok (.iload_n 2, 1) := dk_28 (dk_at dksX6_chain_1 6 rfl rfl)
theorem dX6_chain_30 : decode cX6_chain 30 = .ok (.invokestatic 100, 3) := dk_184 0 100 (dk_at dksX6_chain_1 7 rfl rfl)
theorem dX6_chain_33 : decode cX6_chain 33 = .ok (.ifCond .ne 59, 3) := dk_154 0 59 (dk_at dksX6_chain_1 10 rfl rfl)
theorem dX6_chain_36 : decode cX6_chain 36 = .ok (.iload_n 3, 1) := dk_29 (dk_at dksX6_chain_1 13 rfl rfl)
theorem dX6_chain_37 : decode cX6_chain 37 = .ok (.iload 4, 2) := dk_21 4 (dk_at dksX6_chain_1 14 rfl rfl)
theorem dX6_chain_39 : decode cX6_chain 39 = .ok (.if_icmp .ne 6, 3) := dk_160 0 6 (dk_at dksX6_chain_1 16 rfl rfl)
theorem dX6_chain_42 : decode cX6_chain 42 = .ok (.bipush (-2), 2) := dk_16 254 (dk_at dksX6_chain_1 19 rfl rfl)
theorem dX6_chain_44 : decode cX6_chain 44 = .ok (.ireturn, 1) := dk_172 (dk_at dksX6_chain_1 21 rfl rfl)
theorem dX6_chain_45 : decode cX6_chain 45 = .ok (.iload_n 3, 1) := dk_29 (dk_at dksX6_chain_1 22 rfl rfl)
theorem dX6_chain_46 : decode cX6_chain 46 = .ok (.istore 4, 2) := dk_54 4 (dk_at dksX6_chain_2 0 rfl rfl)
theorem dX6_chain_48 : decode cX6_chain 48 = .ok (.iload 5, 2) := dk_21 5 (dk_at dksX6_chain_2 2 rfl rfl)
theorem dX6_chain_50 : decode cX6_chain 50 = .ok (.iconst 1, 1) := dk_4 (dk_at dksX6_chain_2 4 rfl rfl)
theorem dX6_chain_51 : decode cX6_chain 51 = .ok (.iadd, 1) := dk_96 (dk_at dksX6_chain_2 5 rfl rfl)
theorem dX6_chain_52 : decode cX6_chain 52 = .ok (.istore 5, 2) := dk_54 5 (dk_at dksX6_chain_2 6 rfl rfl)
theorem dX6_chain_54 : decode cX6_chain 54 = .ok (.iconst 0, 1) := dk_3 (dk_at dksX6_chain_2 8 rfl rfl)
theorem dX6_chain_55 : decode cX6_chain 55 = .ok (.istore 6, 2) := dk_54 6 (dk_at dksX6_chain_2 9 rfl rfl)
theorem dX6_chain_57 : decode cX6_chain 57 = .ok (.iload 6, 2) := dk_21 6 (dk_at dksX6_chain_2 11 rfl rfl)
theorem dX6_chain_59 : decode cX6_chain 59 = .ok (.bipush 16, 2) := dk_16 16 (dk_at dksX6_chain_2 13 rfl rfl)
theorem dX6_chain_61 : decode cX6_chain 61 = .ok (.if_icmp .ge 28, 3) := dk_162 0 28 (dk_at dksX6_chain_2 15 rfl rfl)
theorem dX6_chain_64 : decode cX6_chain 64 = .ok (.iload 4, 2) := dk_21 4 (dk_at dksX6_chain_2 18 rfl rfl)
theorem dX6_chain_66 : decode cX6_chain 66 = .ok (.iload 6, 2) := dk_21 6 (dk_at dksX6_chain_2 20 rfl rfl)
theorem dX6_chain_68 : decode cX6_chain 68 = .ok (.invokestatic 100, 3) := dk_184 0 100 (dk_at dksX6_chain_3 0 rfl rfl)
theorem dX6_chain_71 : decode cX6_chain 71 = .ok (.ifCond .eq 12, 3) := dk_153 0 12 (dk_at dksX6_chain_3 3 rfl rfl)
theorem dX6_chain_74 : decode cX6_chain 74 = .ok (.iload_n 3, 1) := dk_29 (dk_at dksX6_chain_3 6 rfl rfl)
theorem dX6_chain_75 : decode cX6_chain 75 = .ok (.aload_n 0, 1) := dk_42 (dk_at dksX6_chain_3 7 rfl rfl)
theorem dX6_chain_76 : decode cX6_chain 76 = .ok (.iload 6, 2) := dk_21 6 (dk_at dksX6_chain_3 8 rfl rfl)
theorem dX6_chain_78 : decode cX6_chain 78 = .ok (.invokevirtual 291, 3) := dk_182 1 35 (dk_at dksX6_chain_3 10 rfl rfl)
theorem dX6_chain_81 : decode cX6_chain 81 = .ok (.ior, 1) := dk_128 (dk_at dksX6_chain_3 13 rfl rfl)
theorem dX6_chain_82 : decode cX6_chain 82 = .ok (.istore_n 3, 1) := dk_62 (dk_at dksX6_chain_3 14 rfl rfl)
theorem dX6_chain_83 : decode cX6_chain 83 = .ok (.iinc 6 1, 3) := dk_132 6 1 (dk_at dksX6_chain_3 15 rfl rfl)
theorem dX6_chain_86 : decode cX6_chain 86 = .ok (.goto (-29), 3) := dk_167 255 227 (dk_at dksX6_chain_3 18 rfl rfl)
theorem dX6_chain_89 : decode cX6_chain 89 = .ok (.goto (-61), 3) := dk_167 255 195 (dk_at dksX6_chain_3 21 rfl rfl)
theorem dX6_chain_92 : decode cX6_chain 92 = .ok (.iload 5, 2) := dk_21 5 (dk_at dksX6_chain_4 0 rfl rfl)
theorem dX6_chain_94 : decode cX6_chain 94 = .ok (.ireturn, 1) := dk_172 (dk_at dksX6_chain_4 2 rfl rfl)
abbrev cX6_party : ByteArray := prog_20_method_75_code
def yX6_party : MethodName := ⟨RX6, "party", "(I)I"⟩
def dkwX6_party_2 : List UInt8 := [167, 255, 226, 27, 154, 0, 10, 28, 184, 1, 20, 167, 0, 4, 28, 172]
abbrev dktX6_party_2 : List UInt8 := dkwX6_party_2 ++ []
def dkwX6_party_1 : List UInt8 := [184, 1, 20, 28, 184, 1, 20, 164, 0, 13, 42, 29, 182, 1, 100, 153, 0, 5, 29, 61, 132, 3, 1]
abbrev dktX6_party_1 : List UInt8 := dkwX6_party_1 ++ dktX6_party_2
def dkwX6_party_0 : List UInt8 := [27, 3, 4, 184, 0, 104, 154, 0, 5, 2, 172, 3, 61, 4, 62, 29, 18, 80, 162, 0, 30, 29]
abbrev dktX6_party_0 : List UInt8 := dkwX6_party_0 ++ dktX6_party_1
theorem dksX6_party_0 : cX6_party.data.toList.drop 0 = dktX6_party_0 := by decide +kernel
theorem dksX6_party_1 : cX6_party.data.toList.drop 22 = dktX6_party_1 := dk_seg dksX6_party_0 22 rfl rfl
theorem dksX6_party_2 : cX6_party.data.toList.drop 45 = dktX6_party_2 := dk_seg dksX6_party_1 23 rfl rfl
theorem dX6_party_0 : decode cX6_party 0 = .ok (.iload_n 1, 1) := dk_27 (dk_at dksX6_party_0 0 rfl rfl)
theorem dX6_party_1 : decode cX6_party 1 = .ok (.iconst 0, 1) := dk_3 (dk_at dksX6_party_0 1 rfl rfl)
theorem dX6_party_2 : decode cX6_party 2 = .ok (.iconst 1, 1) := dk_4 (dk_at dksX6_party_0 2 rfl rfl)
theorem dX6_party_3 : decode cX6_party 3 = .ok (.invokestatic 104, 3) := dk_184 0 104 (dk_at dksX6_party_0 3 rfl rfl)
theorem dX6_party_6 : decode cX6_party 6 = .ok (.ifCond .ne 5, 3) := dk_154 0 5 (dk_at dksX6_party_0 6 rfl rfl)
theorem dX6_party_9 : decode cX6_party 9 = .ok (.iconst (-1), 1) := dk_2 (dk_at dksX6_party_0 9 rfl rfl)
theorem dX6_party_10 : decode cX6_party 10 = .ok (.ireturn, 1) := dk_172 (dk_at dksX6_party_0 10 rfl rfl)
theorem dX6_party_11 : decode cX6_party 11 = .ok (.iconst 0, 1) := dk_3 (dk_at dksX6_party_0 11 rfl rfl)
theorem dX6_party_12 : decode cX6_party 12 = .ok (.istore_n 2, 1) := dk_61 (dk_at dksX6_party_0 12 rfl rfl)
theorem dX6_party_13 : decode cX6_party 13 = .ok (.iconst 1, 1) := dk_4 (dk_at dksX6_party_0 13 rfl rfl)
theorem dX6_party_14 : decode cX6_party 14 = .ok (.istore_n 3, 1) := dk_62 (dk_at dksX6_party_0 14 rfl rfl)
theorem dX6_party_15 : decode cX6_party 15 = .ok (.iload_n 3, 1) := dk_29 (dk_at dksX6_party_0 15 rfl rfl)
theorem dX6_party_16 : decode cX6_party 16 = .ok (.ldc 80, 2) := dk_18 80 (dk_at dksX6_party_0 16 rfl rfl)
theorem dX6_party_18 : decode cX6_party 18 = .ok (.if_icmp .ge 30, 3) := dk_162 0 30 (dk_at dksX6_party_0 18 rfl rfl)
theorem dX6_party_21 : decode cX6_party 21 = .ok (.iload_n 3, 1) := dk_29 (dk_at dksX6_party_0 21 rfl rfl)
theorem dX6_party_22 : decode cX6_party 22 = .ok (.invokestatic 276, 3) := dk_184 1 20 (dk_at dksX6_party_1 0 rfl rfl)
theorem dX6_party_25 : decode cX6_party 25 = .ok (.iload_n 2, 1) := dk_28 (dk_at dksX6_party_1 3 rfl rfl)
theorem dX6_party_26 : decode cX6_party 26 = .ok (.invokestatic 276, 3) := dk_184 1 20 (dk_at dksX6_party_1 4 rfl rfl)
theorem dX6_party_29 : decode cX6_party 29 = .ok (.if_icmp .le 13, 3) := dk_164 0 13 (dk_at dksX6_party_1 7 rfl rfl)
theorem dX6_party_32 : decode cX6_party 32 = .ok (.aload_n 0, 1) := dk_42 (dk_at dksX6_party_1 10 rfl rfl)
theorem dX6_party_33 : decode cX6_party 33 = .ok (.iload_n 3, 1) := dk_29 (dk_at dksX6_party_1 11 rfl rfl)
theorem dX6_party_34 : decode cX6_party 34 = .ok (.invokevirtual 356, 3) := dk_182 1 100 (dk_at dksX6_party_1 12 rfl rfl)
theorem dX6_party_37 : decode cX6_party 37 = .ok (.ifCond .eq 5, 3) := dk_153 0 5 (dk_at dksX6_party_1 15 rfl rfl)
theorem dX6_party_40 : decode cX6_party 40 = .ok (.iload_n 3, 1) := dk_29 (dk_at dksX6_party_1 18 rfl rfl)
theorem dX6_party_41 : decode cX6_party 41 = .ok (.istore_n 2, 1) := dk_61 (dk_at dksX6_party_1 19 rfl rfl)
theorem dX6_party_42 : decode cX6_party 42 = .ok (.iinc 3 1, 3) := dk_132 3 1 (dk_at dksX6_party_1 20 rfl rfl)
theorem dX6_party_45 : decode cX6_party 45 = .ok (.goto (-30), 3) := dk_167 255 226 (dk_at dksX6_party_2 0 rfl rfl)
theorem dX6_party_48 : decode cX6_party 48 = .ok (.iload_n 1, 1) := dk_27 (dk_at dksX6_party_2 3 rfl rfl)
theorem dX6_party_49 : decode cX6_party 49 = .ok (.ifCond .ne 10, 3) := dk_154 0 10 (dk_at dksX6_party_2 4 rfl rfl)
theorem dX6_party_52 : decode cX6_party 52 = .ok (.iload_n 2, 1) := dk_28 (dk_at dksX6_party_2 7 rfl rfl)
theorem dX6_party_53 : decode cX6_party 53 = .ok (.invokestatic 276, 3) := dk_184 1 20 (dk_at dksX6_party_2 8 rfl rfl)
theorem dX6_party_56 : decode cX6_party 56 = .ok (.goto 4, 3) := dk_167 0 4 (dk_at dksX6_party_2 11 rfl rfl)
theorem dX6_party_59 : decode cX6_party 59 = .ok (.iload_n 2, 1) := dk_28 (dk_at dksX6_party_2 14 rfl rfl)
theorem dX6_party_60 : decode cX6_party 60 = .ok (.ireturn, 1) := dk_172 (dk_at dksX6_party_2 15 rfl rfl)
abbrev cX6_isParty : ByteArray := prog_20_method_74_code
def yX6_isParty : MethodName := ⟨RX6, "isParty", "(I)Z"⟩
def dkwX6_isParty_2 : List UInt8 := [167, 255, 226, 4, 172]
abbrev dktX6_isParty_2 : List UInt8 := dkwX6_isParty_2 ++ []
def dkwX6_isParty_1 : List UInt8 := [184, 0, 100, 153, 0, 16, 42, 180, 0, 22, 28, 46, 27, 126, 153, 0, 5, 3, 172, 132, 2, 1]
abbrev dktX6_isParty_1 : List UInt8 := dkwX6_isParty_1 ++ dktX6_isParty_2
def dkwX6_isParty_0 : List UInt8 := [27, 42, 180, 0, 108, 2, 130, 126, 153, 0, 5, 3, 172, 3, 61, 28, 16, 16, 162, 0, 30, 27, 28]
abbrev dktX6_isParty_0 : List UInt8 := dkwX6_isParty_0 ++ dktX6_isParty_1
theorem dksX6_isParty_0 : cX6_isParty.data.toList.drop 0 = dktX6_isParty_0 := by decide +kernel
theorem dksX6_isParty_1 : cX6_isParty.data.toList.drop 23 = dktX6_isParty_1 := dk_seg dksX6_isParty_0 23 rfl rfl
theorem dksX6_isParty_2 : cX6_isParty.data.toList.drop 45 = dktX6_isParty_2 := dk_seg dksX6_isParty_1 22 rfl rfl
theorem dX6_isParty_0 : decode cX6_isParty 0 = .ok (.iload_n 1, 1) := dk_27 (dk_at dksX6_isParty_0 0 rfl rfl)
theorem dX6_isParty_1 : decode cX6_isParty 1 = .ok (.aload_n 0, 1) := dk_42 (dk_at dksX6_isParty_0 1 rfl rfl)
theorem dX6_isParty_2 : decode cX6_isParty 2 = .ok (.getfield 108, 3) := dk_180 0 108 (dk_at dksX6_isParty_0 2 rfl rfl)
theorem dX6_isParty_5 : decode cX6_isParty 5 = .ok (.iconst (-1), 1) := dk_2 (dk_at dksX6_isParty_0 5 rfl rfl)
theorem dX6_isParty_6 : decode cX6_isParty 6 = .ok (.ixor, 1) := dk_130 (dk_at dksX6_isParty_0 6 rfl rfl)
theorem dX6_isParty_7 : decode cX6_isParty 7 = .ok (.iand, 1) := dk_126 (dk_at dksX6_isParty_0 7 rfl rfl)
theorem dX6_isParty_8 : decode cX6_isParty 8 = .ok (.ifCond .eq 5, 3) := dk_153 0 5 (dk_at dksX6_isParty_0 8 rfl rfl)
theorem dX6_isParty_11 : decode cX6_isParty 11 = .ok (.iconst 0, 1) := dk_3 (dk_at dksX6_isParty_0 11 rfl rfl)
theorem dX6_isParty_12 : decode cX6_isParty 12 = .ok (.ireturn, 1) := dk_172 (dk_at dksX6_isParty_0 12 rfl rfl)
theorem dX6_isParty_13 : decode cX6_isParty 13 = .ok (.iconst 0, 1) := dk_3 (dk_at dksX6_isParty_0 13 rfl rfl)
theorem dX6_isParty_14 : decode cX6_isParty 14 = .ok (.istore_n 2, 1) := dk_61 (dk_at dksX6_isParty_0 14 rfl rfl)
theorem dX6_isParty_15 : decode cX6_isParty 15 = .ok (.iload_n 2, 1) := dk_28 (dk_at dksX6_isParty_0 15 rfl rfl)
theorem dX6_isParty_16 : decode cX6_isParty 16 = .ok (.bipush 16, 2) := dk_16 16 (dk_at dksX6_isParty_0 16 rfl rfl)
theorem dX6_isParty_18 : decode cX6_isParty 18 = .ok (.if_icmp .ge 30, 3) := dk_162 0 30 (dk_at dksX6_isParty_0 18 rfl rfl)
theorem dX6_isParty_21 : decode cX6_isParty 21 = .ok (.iload_n 1, 1) := dk_27 (dk_at dksX6_isParty_0 21 rfl rfl)
theorem dX6_isParty_22 : decode cX6_isParty 22 = .ok (.iload_n 2, 1) := dk_28 (dk_at dksX6_isParty_0 22 rfl rfl)
theorem dX6_isParty_23 : decode cX6_isParty 23 = .ok (.invokestatic 100, 3) := dk_184 0 100 (dk_at dksX6_isParty_1 0 rfl rfl)
theorem dX6_isParty_26 : decode cX6_isParty 26 = .ok (.ifCond .eq 16, 3) := dk_153 0 16 (dk_at dksX6_isParty_1 3 rfl rfl)
theorem dX6_isParty_29 : decode cX6_isParty 29 = .ok (.aload_n 0, 1) := dk_42 (dk_at dksX6_isParty_1 6 rfl rfl)
theorem dX6_isParty_30 : decode cX6_isParty 30 = .ok (.getfield 22, 3) := dk_180 0 22 (dk_at dksX6_isParty_1 7 rfl rfl)
theorem dX6_isParty_33 : decode cX6_isParty 33 = .ok (.iload_n 2, 1) := dk_28 (dk_at dksX6_isParty_1 10 rfl rfl)
theorem dX6_isParty_34 : decode cX6_isParty 34 = .ok (.iaload, 1) := dk_46 (dk_at dksX6_isParty_1 11 rfl rfl)
theorem dX6_isParty_35 : decode cX6_isParty 35 = .ok (.iload_n 1, 1) := dk_27 (dk_at dksX6_isParty_1 12 rfl rfl)
theorem dX6_isParty_36 : decode cX6_isParty 36 = .ok (.iand, 1) := dk_126 (dk_at dksX6_isParty_1 13 rfl rfl)
theorem dX6_isParty_37 : decode cX6_isParty 37 = .ok (.ifCond .eq 5, 3) := dk_153 0 5 (dk_at dksX6_isParty_1 14 rfl rfl)
theorem dX6_isParty_40 : decode cX6_isParty 40 = .ok (.iconst 0, 1) := dk_3 (dk_at dksX6_isParty_1 17 rfl rfl)
theorem dX6_isParty_41 : decode cX6_isParty 41 = .ok (.ireturn, 1) := dk_172 (dk_at dksX6_isParty_1 18 rfl rfl)
theorem dX6_isParty_42 : decode cX6_isParty 42 = .ok (.iinc 2 1, 3) := dk_132 2 1 (dk_at dksX6_isParty_1 19 rfl rfl)
theorem dX6_isParty_45 : decode cX6_isParty 45 = .ok (.goto (-30), 3) := dk_167 255 226 (dk_at dksX6_isParty_2 0 rfl rfl)
theorem dX6_isParty_48 : decode cX6_isParty 48 = .ok (.iconst 1, 1) := dk_4 (dk_at dksX6_isParty_2 3 rfl rfl)
theorem dX6_isParty_49 : decode cX6_isParty 49 = .ok (.ireturn, 1) := dk_172 (dk_at dksX6_isParty_2 4 rfl rfl)
abbrev cX6_twoStreets : ByteArray := prog_20_method_76_code
def yX6_twoStreets : MethodName := ⟨RX6, "twoStreets", "()I"⟩
def dkwX6_twoStreets_5 : List UInt8 := [28, 126, 153, 0, 8, 16, 254, 167, 0, 4, 28, 172]
abbrev dktX6_twoStreets_5 : List UInt8 := dkwX6_twoStreets_5 ++ []
def dkwX6_twoStreets_4 : List UInt8 := [180, 0, 22, 21, 5, 46, 128, 60, 132, 5, 1, 167, 255, 208, 167, 255, 189, 132, 3, 1, 167, 255, 147, 27]
abbrev dktX6_twoStreets_4 : List UInt8 := dkwX6_twoStreets_4 ++ dktX6_twoStreets_5
def dkwX6_twoStreets_3 : List UInt8 := [153, 0, 13, 28, 42, 180, 0, 22, 21, 5, 46, 128, 61, 28, 21, 5, 184, 0, 100, 153, 0, 13, 27, 42]
abbrev dktX6_twoStreets_3 : List UInt8 := dkwX6_twoStreets_3 ++ dktX6_twoStreets_4
def dkwX6_twoStreets_2 : List UInt8 := [159, 0, 65, 27, 28, 128, 54, 4, 3, 54, 5, 21, 5, 16, 16, 162, 0, 47, 27, 21, 5, 184, 0, 100]
abbrev dktX6_twoStreets_2 : List UInt8 := dkwX6_twoStreets_2 ++ dktX6_twoStreets_3
def dkwX6_twoStreets_1 : List UInt8 := [184, 0, 100, 153, 0, 6, 167, 0, 82, 27, 4, 29, 120, 128, 60, 2, 54, 4, 21, 4, 27, 28, 128]
abbrev dktX6_twoStreets_1 : List UInt8 := dkwX6_twoStreets_1 ++ dktX6_twoStreets_2
def dkwX6_twoStreets_0 : List UInt8 := [3, 60, 3, 61, 3, 62, 29, 16, 16, 162, 0, 109, 42, 29, 182, 0, 233, 153, 0, 95, 27, 28, 128, 29]
abbrev dktX6_twoStreets_0 : List UInt8 := dkwX6_twoStreets_0 ++ dktX6_twoStreets_1
theorem dksX6_twoStreets_0 : cX6_twoStreets.data.toList.drop 0 = dktX6_twoStreets_0 := by decide +kernel
theorem dksX6_twoStreets_1 : cX6_twoStreets.data.toList.drop 24 = dktX6_twoStreets_1 := dk_seg dksX6_twoStreets_0 24 rfl rfl
theorem dksX6_twoStreets_2 : cX6_twoStreets.data.toList.drop 47 = dktX6_twoStreets_2 := dk_seg dksX6_twoStreets_1 23 rfl rfl
theorem dksX6_twoStreets_3 : cX6_twoStreets.data.toList.drop 71 = dktX6_twoStreets_3 := dk_seg dksX6_twoStreets_2 24 rfl rfl
theorem dksX6_twoStreets_4 : cX6_twoStreets.data.toList.drop 95 = dktX6_twoStreets_4 := dk_seg dksX6_twoStreets_3 24 rfl rfl
theorem dksX6_twoStreets_5 : cX6_twoStreets.data.toList.drop 119 = dktX6_twoStreets_5 := dk_seg dksX6_twoStreets_4 24 rfl rfl
theorem dX6_twoStreets_0 : decode cX6_twoStreets 0 = .ok (.iconst 0, 1) := dk_3 (dk_at dksX6_twoStreets_0 0 rfl rfl)
theorem dX6_twoStreets_1 : decode cX6_twoStreets 1 = .ok (.istore_n 1, 1) := dk_60 (dk_at dksX6_twoStreets_0 1 rfl rfl)
theorem dX6_twoStreets_2 : decode cX6_twoStreets 2 = .ok (.iconst 0, 1) := dk_3 (dk_at dksX6_twoStreets_0 2 rfl rfl)
theorem dX6_twoStreets_3 : decode cX6_twoStreets 3 = .ok (.istore_n 2, 1) := dk_61 (dk_at dksX6_twoStreets_0 3 rfl rfl)
theorem dX6_twoStreets_4 : decode cX6_twoStreets 4 = .ok (.iconst 0, 1) := dk_3 (dk_at dksX6_twoStreets_0 4 rfl rfl)
theorem dX6_twoStreets_5 : decode cX6_twoStreets 5 = .ok (.istore_n 3, 1) := dk_62 (dk_at dksX6_twoStreets_0 5 rfl rfl)
theorem dX6_twoStreets_6 : decode cX6_twoStreets 6 = .ok (.iload_n 3, 1) := dk_29 (dk_at dksX6_twoStreets_0 6 rfl rfl)
theorem dX6_twoStreets_7 : decode cX6_twoStreets 7 = .ok (.bipush 16, 2) := dk_16 16 (dk_at dksX6_twoStreets_0 7 rfl rfl)
theorem dX6_twoStreets_9 : decode cX6_twoStreets 9 = .ok (.if_icmp .ge 109, 3) := dk_162 0 109 (dk_at dksX6_twoStreets_0 9 rfl rfl)
theorem dX6_twoStreets_12 : decode cX6_twoStreets 12 = .ok (.aload_n 0, 1) := dk_42 (dk_at dksX6_twoStreets_0 12 rfl rfl)
theorem dX6_twoStreets_13 : decode cX6_twoStreets 13 = .ok (.iload_n 3, 1) := dk_29 (dk_at dksX6_twoStreets_0 13 rfl rfl)
theorem dX6_twoStreets_14 : decode cX6_twoStreets 14 = .ok (.invokevirtual 233, 3) := dk_182 0 233 (dk_at dksX6_twoStreets_0 14 rfl rfl)
theorem dX6_twoStreets_17 : decode cX6_twoStreets 17 = .ok (.ifCond .eq 95, 3) := dk_153 0 95 (dk_at dksX6_twoStreets_0 17 rfl rfl)
theorem dX6_twoStreets_20 : decode cX6_twoStreets 20 = .ok (.iload_n 1, 1) := dk_27 (dk_at dksX6_twoStreets_0 20 rfl rfl)
theorem dX6_twoStreets_21 : decode cX6_twoStreets 21 = .ok (.iload_n 2, 1) := dk_28 (dk_at dksX6_twoStreets_0 21 rfl rfl)
theorem dX6_twoStreets_22 : decode cX6_twoStreets 22 = .ok (.ior, 1) := dk_128 (dk_at dksX6_twoStreets_0 22 rfl rfl)
theorem dX6_twoStreets_23 : decode cX6_twoStreets 23 = .ok (.iload_n 3, 1) := dk_29 (dk_at dksX6_twoStreets_0 23 rfl rfl)
theorem dX6_twoStreets_24 : decode cX6_twoStreets 24 = .ok (.invokestatic 100, 3) := dk_184 0 100 (dk_at dksX6_twoStreets_1 0 rfl rfl)
theorem dX6_twoStreets_27 : decode cX6_twoStreets 27 = .ok (.ifCond .eq 6, 3) := dk_153 0 6 (dk_at dksX6_twoStreets_1 3 rfl rfl)
theorem dX6_twoStreets_30 : decode cX6_twoStreets 30 = .ok (.goto 82, 3) := dk_167 0 82 (dk_at dksX6_twoStreets_1 6 rfl rfl)
theorem dX6_twoStreets_33 : decode cX6_twoStreets 33 = .ok (.iload_n 1, 1) := dk_27 (dk_at dksX6_twoStreets_1 9 rfl rfl)
theorem dX6_twoStreets_34 : decode cX6_twoStreets 34 = .ok (.iconst 1, 1) := dk_4 (dk_at dksX6_twoStreets_1 10 rfl rfl)
theorem dX6_twoStreets_35 : decode cX6_twoStreets 35 = .ok (.iload_n 3, 1) := dk_29 (dk_at dksX6_twoStreets_1 11 rfl rfl)
theorem dX6_twoStreets_36 : decode cX6_twoStreets 36 = .ok (.ishl, 1) := dk_120 (dk_at dksX6_twoStreets_1 12 rfl rfl)
theorem dX6_twoStreets_37 : decode cX6_twoStreets 37 = .ok (.ior, 1) := dk_128 (dk_at dksX6_twoStreets_1 13 rfl rfl)
theorem dX6_twoStreets_38 : decode cX6_twoStreets 38 = .ok (.istore_n 1, 1) := dk_60 (dk_at dksX6_twoStreets_1 14 rfl rfl)
theorem dX6_twoStreets_39 : decode cX6_twoStreets 39 = .ok (.iconst (-1), 1) := dk_2 (dk_at dksX6_twoStreets_1 15 rfl rfl)
theorem dX6_twoStreets_40 : decode cX6_twoStreets 40 = .ok (.istore 4, 2) := dk_54 4 (dk_at dksX6_twoStreets_1 16 rfl rfl)
theorem dX6_twoStreets_42 : decode cX6_twoStreets 42 = .ok (.iload 4, 2) := dk_21 4 (dk_at dksX6_twoStreets_1 18 rfl rfl)
theorem dX6_twoStreets_44 : decode cX6_twoStreets 44 = .ok (.iload_n 1, 1) := dk_27 (dk_at dksX6_twoStreets_1 20 rfl rfl)
theorem dX6_twoStreets_45 : decode cX6_twoStreets 45 = .ok (.iload_n 2, 1) := dk_28 (dk_at dksX6_twoStreets_1 21 rfl rfl)
theorem dX6_twoStreets_46 : decode cX6_twoStreets 46 = .ok (.ior, 1) := dk_128 (dk_at dksX6_twoStreets_1 22 rfl rfl)
theorem dX6_twoStreets_47 : decode cX6_twoStreets 47 = .ok (.if_icmp .eq 65, 3) := dk_159 0 65 (dk_at dksX6_twoStreets_2 0 rfl rfl)
theorem dX6_twoStreets_50 : decode cX6_twoStreets 50 = .ok (.iload_n 1, 1) := dk_27 (dk_at dksX6_twoStreets_2 3 rfl rfl)
theorem dX6_twoStreets_51 : decode cX6_twoStreets 51 = .ok (.iload_n 2, 1) := dk_28 (dk_at dksX6_twoStreets_2 4 rfl rfl)
theorem dX6_twoStreets_52 : decode cX6_twoStreets 52 = .ok (.ior, 1) := dk_128 (dk_at dksX6_twoStreets_2 5 rfl rfl)
theorem dX6_twoStreets_53 : decode cX6_twoStreets 53 = .ok (.istore 4, 2) := dk_54 4 (dk_at dksX6_twoStreets_2 6 rfl rfl)
theorem dX6_twoStreets_55 : decode cX6_twoStreets 55 = .ok (.iconst 0, 1) := dk_3 (dk_at dksX6_twoStreets_2 8 rfl rfl)
theorem dX6_twoStreets_56 : decode cX6_twoStreets 56 = .ok (.istore 5, 2) := dk_54 5 (dk_at dksX6_twoStreets_2 9 rfl rfl)
theorem dX6_twoStreets_58 : decode cX6_twoStreets 58 = .ok (.iload 5, 2) := dk_21 5 (dk_at dksX6_twoStreets_2 11 rfl rfl)
theorem dX6_twoStreets_60 : decode cX6_twoStreets 60 = .ok (.bipush 16, 2) := dk_16 16 (dk_at dksX6_twoStreets_2 13 rfl rfl)
theorem dX6_twoStreets_62 : decode cX6_twoStreets 62 = .ok (.if_icmp .ge 47, 3) := dk_162 0 47 (dk_at dksX6_twoStreets_2 15 rfl rfl)
theorem dX6_twoStreets_65 : decode cX6_twoStreets 65 = .ok (.iload_n 1, 1) := dk_27 (dk_at dksX6_twoStreets_2 18 rfl rfl)
theorem dX6_twoStreets_66 : decode cX6_twoStreets 66 = .ok (.iload 5, 2) := dk_21 5 (dk_at dksX6_twoStreets_2 19 rfl rfl)
theorem dX6_twoStreets_68 : decode cX6_twoStreets 68 = .ok (.invokestatic 100, 3) := dk_184 0 100 (dk_at dksX6_twoStreets_2 21 rfl rfl)
theorem dX6_twoStreets_71 : decode cX6_twoStreets 71 = .ok (.ifCond .eq 13, 3) := dk_153 0 13 (dk_at dksX6_twoStreets_3 0 rfl rfl)
theorem dX6_twoStreets_74 : decode cX6_twoStreets 74 = .ok (.iload_n 2, 1) := dk_28 (dk_at dksX6_twoStreets_3 3 rfl rfl)
theorem dX6_twoStreets_75 : decode cX6_twoStreets 75 = .ok (.aload_n 0, 1) := dk_42 (dk_at dksX6_twoStreets_3 4 rfl rfl)
theorem dX6_twoStreets_76 : decode cX6_twoStreets 76 = .ok (.getfield 22, 3) := dk_180 0 22 (dk_at dksX6_twoStreets_3 5 rfl rfl)
theorem dX6_twoStreets_79 : decode cX6_twoStreets 79 = .ok (.iload 5, 2) := dk_21 5 (dk_at dksX6_twoStreets_3 8 rfl rfl)
theorem dX6_twoStreets_81 : decode cX6_twoStreets 81 = .ok (.iaload, 1) := dk_46 (dk_at dksX6_twoStreets_3 10 rfl rfl)
theorem dX6_twoStreets_82 : decode cX6_twoStreets 82 = .ok (.ior, 1) := dk_128 (dk_at dksX6_twoStreets_3 11 rfl rfl)
theorem dX6_twoStreets_83 : decode cX6_twoStreets 83 = .ok (.istore_n 2, 1) := dk_61 (dk_at dksX6_twoStreets_3 12 rfl rfl)
theorem dX6_twoStreets_84 : decode cX6_twoStreets 84 = .ok (.iload_n 2, 1) := dk_28 (dk_at dksX6_twoStreets_3 13 rfl rfl)
theorem dX6_twoStreets_85 : decode cX6_twoStreets 85 = .ok (.iload 5, 2) := dk_21 5 (dk_at dksX6_twoStreets_3 14 rfl rfl)
theorem dX6_twoStreets_87 : decode cX6_twoStreets 87 = .ok (.invokestatic 100, 3) := dk_184 0 100 (dk_at dksX6_twoStreets_3 16 rfl rfl)
theorem dX6_twoStreets_90 : decode cX6_twoStreets 90 = .ok (.ifCond .eq 13, 3) := dk_153 0 13 (dk_at dksX6_twoStreets_3 19 rfl rfl)
theorem dX6_twoStreets_93 : decode cX6_twoStreets 93 = .ok (.iload_n 1, 1) := dk_27 (dk_at dksX6_twoStreets_3 22 rfl rfl)
theorem dX6_twoStreets_94 : decode cX6_twoStreets 94 = .ok (.aload_n 0, 1) := dk_42 (dk_at dksX6_twoStreets_3 23 rfl rfl)
theorem dX6_twoStreets_95 : decode cX6_twoStreets 95 = .ok (.getfield 22, 3) := dk_180 0 22 (dk_at dksX6_twoStreets_4 0 rfl rfl)
theorem dX6_twoStreets_98 : decode cX6_twoStreets 98 = .ok (.iload 5, 2) := dk_21 5 (dk_at dksX6_twoStreets_4 3 rfl rfl)
theorem dX6_twoStreets_100 : decode cX6_twoStreets 100 = .ok (.iaload, 1) := dk_46 (dk_at dksX6_twoStreets_4 5 rfl rfl)
theorem dX6_twoStreets_101 : decode cX6_twoStreets 101 = .ok (.ior, 1) := dk_128 (dk_at dksX6_twoStreets_4 6 rfl rfl)
theorem dX6_twoStreets_102 : decode cX6_twoStreets 102 = .ok (.istore_n 1, 1) := dk_60 (dk_at dksX6_twoStreets_4 7 rfl rfl)
theorem dX6_twoStreets_103 : decode cX6_twoStreets 103 = .ok (.iinc 5 1, 3) := dk_132 5 1 (dk_at dksX6_twoStreets_4 8 rfl rfl)
theorem dX6_twoStreets_106 : decode cX6_twoStreets 106 = .ok (.goto (-48), 3) := dk_167 255 208 (dk_at dksX6_twoStreets_4 11 rfl rfl)
theorem dX6_twoStreets_109 : decode cX6_twoStreets 109 = .ok (.goto (-67), 3) := dk_167 255 189 (dk_at dksX6_twoStreets_4 14 rfl rfl)
theorem dX6_twoStreets_112 : decode cX6_twoStreets 112 = .ok (.iinc 3 1, 3) := dk_132 3 1 (dk_at dksX6_twoStreets_4 17 rfl rfl)
theorem dX6_twoStreets_115 : decode cX6_twoStreets 115 = .ok (.goto (-109), 3) := dk_167 255 147 (dk_at dksX6_twoStreets_4 20 rfl rfl)
theorem dX6_twoStreets_118 : decode cX6_twoStreets 118 = .ok (.iload_n 1, 1) := dk_27 (dk_at dksX6_twoStreets_4 23 rfl rfl)
theorem dX6_twoStreets_119 : decode cX6_twoStreets 119 = .ok (.iload_n 2, 1) := dk_28 (dk_at dksX6_twoStreets_5 0 rfl rfl)
theorem dX6_twoStreets_120 : decode cX6_twoStreets 120 = .ok (.iand, 1) := dk_126 (dk_at dksX6_twoStreets_5 1 rfl rfl)
theorem dX6_twoStreets_121 : decode cX6_twoStreets 121 = .ok (.ifCond .eq 8, 3) := dk_153 0 8 (dk_at dksX6_twoStreets_5 2 rfl rfl)
theorem dX6_twoStreets_124 : decode cX6_twoStreets 124 = .ok (.bipush (-2), 2) := dk_16 254 (dk_at dksX6_twoStreets_5 5 rfl rfl)
theorem dX6_twoStreets_126 : decode cX6_twoStreets 126 = .ok (.goto 4, 3) := dk_167 0 4 (dk_at dksX6_twoStreets_5 7 rfl rfl)
theorem dX6_twoStreets_129 : decode cX6_twoStreets 129 = .ok (.iload_n 2, 1) := dk_28 (dk_at dksX6_twoStreets_5 10 rfl rfl)
theorem dX6_twoStreets_130 : decode cX6_twoStreets 130 = .ok (.ireturn, 1) := dk_172 (dk_at dksX6_twoStreets_5 11 rfl rfl)
abbrev cX6_parties : ByteArray := prog_20_method_80_code
def yX6_parties : MethodName := ⟨RX6, "parties", "(I)I"⟩
def dkwX6_parties_2 : List UInt8 := [28, 167, 0, 9, 42, 180, 0, 85, 27, 46, 172]
abbrev dktX6_parties_2 : List UInt8 := dkwX6_parties_2 ++ []
def dkwX6_parties_1 : List UInt8 := [172, 4, 61, 42, 28, 182, 1, 109, 154, 0, 10, 28, 4, 96, 61, 167, 255, 244, 27, 16, 100, 160, 0, 7]
abbrev dktX6_parties_1 : List UInt8 := dkwX6_parties_1 ++ dktX6_parties_2
def dkwX6_parties_0 : List UInt8 := [27, 16, 100, 159, 0, 13, 42, 27, 182, 0, 233, 154, 0, 5, 2, 172, 42, 180, 0, 108, 154, 0, 5, 3]
abbrev dktX6_parties_0 : List UInt8 := dkwX6_parties_0 ++ dktX6_parties_1
theorem dksX6_parties_0 : cX6_parties.data.toList.drop 0 = dktX6_parties_0 := by decide +kernel
theorem dksX6_parties_1 : cX6_parties.data.toList.drop 24 = dktX6_parties_1 := dk_seg dksX6_parties_0 24 rfl rfl
theorem dksX6_parties_2 : cX6_parties.data.toList.drop 48 = dktX6_parties_2 := dk_seg dksX6_parties_1 24 rfl rfl
theorem dX6_parties_0 : decode cX6_parties 0 = .ok (.iload_n 1, 1) := dk_27 (dk_at dksX6_parties_0 0 rfl rfl)
theorem dX6_parties_1 : decode cX6_parties 1 = .ok (.bipush 100, 2) := dk_16 100 (dk_at dksX6_parties_0 1 rfl rfl)
theorem dX6_parties_3 : decode cX6_parties 3 = .ok (.if_icmp .eq 13, 3) := dk_159 0 13 (dk_at dksX6_parties_0 3 rfl rfl)
theorem dX6_parties_6 : decode cX6_parties 6 = .ok (.aload_n 0, 1) := dk_42 (dk_at dksX6_parties_0 6 rfl rfl)
theorem dX6_parties_7 : decode cX6_parties 7 = .ok (.iload_n 1, 1) := dk_27 (dk_at dksX6_parties_0 7 rfl rfl)
theorem dX6_parties_8 : decode cX6_parties 8 = .ok (.invokevirtual 233, 3) := dk_182 0 233 (dk_at dksX6_parties_0 8 rfl rfl)
theorem dX6_parties_11 : decode cX6_parties 11 = .ok (.ifCond .ne 5, 3) := dk_154 0 5 (dk_at dksX6_parties_0 11 rfl rfl)
theorem dX6_parties_14 : decode cX6_parties 14 = .ok (.iconst (-1), 1) := dk_2 (dk_at dksX6_parties_0 14 rfl rfl)
theorem dX6_parties_15 : decode cX6_parties 15 = .ok (.ireturn, 1) := dk_172 (dk_at dksX6_parties_0 15 rfl rfl)
theorem dX6_parties_16 : decode cX6_parties 16 = .ok (.aload_n 0, 1) := dk_42 (dk_at dksX6_parties_0 16 rfl rfl)
theorem dX6_parties_17 : decode cX6_parties 17 = .ok (.getfield 108, 3) := dk_180 0 108 (dk_at dksX6_parties_0 17 rfl rfl)
theorem dX6_parties_20 : decode cX6_parties 20 = .ok (.ifCond .ne 5, 3) := dk_154 0 5 (dk_at dksX6_parties_0 20 rfl rfl)
theorem dX6_parties_23 : decode cX6_parties 23 = .ok (.iconst 0, 1) := dk_3 (dk_at dksX6_parties_0 23 rfl rfl)
theorem dX6_parties_24 : decode cX6_parties 24 = .ok (.ireturn, 1) := dk_172 (dk_at dksX6_parties_1 0 rfl rfl)
theorem dX6_parties_25 : decode cX6_parties 25 = .ok (.iconst 1, 1) := dk_4 (dk_at dksX6_parties_1 1 rfl rfl)
theorem dX6_parties_26 : decode cX6_parties 26 = .ok (.istore_n 2, 1) := dk_61 (dk_at dksX6_parties_1 2 rfl rfl)
theorem dX6_parties_27 : decode cX6_parties 27 = .ok (.aload_n 0, 1) := dk_42 (dk_at dksX6_parties_1 3 rfl rfl)
theorem dX6_parties_28 : decode cX6_parties 28 = .ok (.iload_n 2, 1) := dk_28 (dk_at dksX6_parties_1 4 rfl rfl)
theorem dX6_parties_29 : decode cX6_parties 29 = .ok (.invokevirtual 365, 3) := dk_182 1 109 (dk_at dksX6_parties_1 5 rfl rfl)
theorem dX6_parties_32 : decode cX6_parties 32 = .ok (.ifCond .ne 10, 3) := dk_154 0 10 (dk_at dksX6_parties_1 8 rfl rfl)
theorem dX6_parties_35 : decode cX6_parties 35 = .ok (.iload_n 2, 1) := dk_28 (dk_at dksX6_parties_1 11 rfl rfl)
theorem dX6_parties_36 : decode cX6_parties 36 = .ok (.iconst 1, 1) := dk_4 (dk_at dksX6_parties_1 12 rfl rfl)
theorem dX6_parties_37 : decode cX6_parties 37 = .ok (.iadd, 1) := dk_96 (dk_at dksX6_parties_1 13 rfl rfl)
theorem dX6_parties_38 : decode cX6_parties 38 = .ok (.istore_n 2, 1) := dk_61 (dk_at dksX6_parties_1 14 rfl rfl)
theorem dX6_parties_39 : decode cX6_parties 39 = .ok (.goto (-12), 3) := dk_167 255 244 (dk_at dksX6_parties_1 15 rfl rfl)
theorem dX6_parties_42 : decode cX6_parties 42 = .ok (.iload_n 1, 1) := dk_27 (dk_at dksX6_parties_1 18 rfl rfl)
theorem dX6_parties_43 : decode cX6_parties 43 = .ok (.bipush 100, 2) := dk_16 100 (dk_at dksX6_parties_1 19 rfl rfl)
theorem dX6_parties_45 : decode cX6_parties 45 = .ok (.if_icmp .ne 7, 3) := dk_160 0 7 (dk_at dksX6_parties_1 21 rfl rfl)
theorem dX6_parties_48 : decode cX6_parties 48 = .ok (.iload_n 2, 1) := dk_28 (dk_at dksX6_parties_2 0 rfl rfl)
theorem dX6_parties_49 : decode cX6_parties 49 = .ok (.goto 9, 3) := dk_167 0 9 (dk_at dksX6_parties_2 1 rfl rfl)
theorem dX6_parties_52 : decode cX6_parties 52 = .ok (.aload_n 0, 1) := dk_42 (dk_at dksX6_parties_2 4 rfl rfl)
theorem dX6_parties_53 : decode cX6_parties 53 = .ok (.getfield 85, 3) := dk_180 0 85 (dk_at dksX6_parties_2 5 rfl rfl)
theorem dX6_parties_56 : decode cX6_parties 56 = .ok (.iload_n 1, 1) := dk_27 (dk_at dksX6_parties_2 8 rfl rfl)
theorem dX6_parties_57 : decode cX6_parties 57 = .ok (.iaload, 1) := dk_46 (dk_at dksX6_parties_2 9 rfl rfl)
theorem dX6_parties_58 : decode cX6_parties 58 = .ok (.ireturn, 1) := dk_172 (dk_at dksX6_parties_2 10 rfl rfl)
abbrev cX6_fits : ByteArray := prog_20_method_79_code
def yX6_fits : MethodName := ⟨RX6, "fits", "(I)Z"⟩
def dkwX6_fits_6 : List UInt8 := [167, 0, 4, 3, 172]
abbrev dktX6_fits_6 : List UInt8 := dkwX6_fits_6 ++ []
def dkwX6_fits_5 : List UInt8 := [28, 16, 16, 162, 0, 10, 42, 180, 0, 85, 28, 2, 79, 167, 255, 133, 28, 16, 16, 160, 0, 7, 4]
abbrev dktX6_fits_5 : List UInt8 := dkwX6_fits_5 ++ dktX6_fits_6
def dkwX6_fits_4 : List UInt8 := [29, 21, 5, 164, 0, 10, 28, 4, 100, 61, 167, 255, 160, 42, 180, 0, 85, 28, 29, 79, 28, 4, 96, 61]
abbrev dktX6_fits_4 : List UInt8 := dkwX6_fits_4 ++ dktX6_fits_5
def dkwX6_fits_3 : List UInt8 := [42, 28, 182, 0, 233, 153, 0, 19, 42, 28, 29, 182, 1, 106, 154, 0, 10, 29, 4, 96, 62, 167, 255, 229]
abbrev dktX6_fits_3 : List UInt8 := dkwX6_fits_3 ++ dktX6_fits_4
def dkwX6_fits_2 : List UInt8 := [21, 4, 27, 4, 100, 162, 0, 8, 21, 4, 167, 0, 6, 27, 4, 100, 54, 5, 29, 21, 5, 163, 0, 27]
abbrev dktX6_fits_2 : List UInt8 := dkwX6_fits_2 ++ dktX6_fits_3
def dkwX6_fits_1 : List UInt8 := [46, 4, 96, 62, 42, 28, 182, 1, 103, 54, 4, 42, 28, 182, 0, 233, 154, 0, 7, 3, 167, 0, 19]
abbrev dktX6_fits_1 : List UInt8 := dkwX6_fits_1 ++ dktX6_fits_2
def dkwX6_fits_0 : List UInt8 := [3, 61, 42, 180, 0, 85, 3, 2, 79, 28, 155, 0, 125, 28, 16, 16, 162, 0, 119, 42, 180, 0, 85, 28]
abbrev dktX6_fits_0 : List UInt8 := dkwX6_fits_0 ++ dktX6_fits_1
theorem dksX6_fits_0 : cX6_fits.data.toList.drop 0 = dktX6_fits_0 := by decide +kernel
theorem dksX6_fits_1 : cX6_fits.data.toList.drop 24 = dktX6_fits_1 := dk_seg dksX6_fits_0 24 rfl rfl
theorem dksX6_fits_2 : cX6_fits.data.toList.drop 47 = dktX6_fits_2 := dk_seg dksX6_fits_1 23 rfl rfl
theorem dksX6_fits_3 : cX6_fits.data.toList.drop 71 = dktX6_fits_3 := dk_seg dksX6_fits_2 24 rfl rfl
theorem dksX6_fits_4 : cX6_fits.data.toList.drop 95 = dktX6_fits_4 := dk_seg dksX6_fits_3 24 rfl rfl
theorem dksX6_fits_5 : cX6_fits.data.toList.drop 119 = dktX6_fits_5 := dk_seg dksX6_fits_4 24 rfl rfl
theorem dksX6_fits_6 : cX6_fits.data.toList.drop 142 = dktX6_fits_6 := dk_seg dksX6_fits_5 23 rfl rfl
theorem dX6_fits_0 : decode cX6_fits 0 = .ok (.iconst 0, 1) := dk_3 (dk_at dksX6_fits_0 0 rfl rfl)
theorem dX6_fits_1 : decode cX6_fits 1 = .ok (.istore_n 2, 1) := dk_61 (dk_at dksX6_fits_0 1 rfl rfl)
theorem dX6_fits_2 : decode cX6_fits 2 = .ok (.aload_n 0, 1) := dk_42 (dk_at dksX6_fits_0 2 rfl rfl)
theorem dX6_fits_3 : decode cX6_fits 3 = .ok (.getfield 85, 3) := dk_180 0 85 (dk_at dksX6_fits_0 3 rfl rfl)
theorem dX6_fits_6 : decode cX6_fits 6 = .ok (.iconst 0, 1) := dk_3 (dk_at dksX6_fits_0 6 rfl rfl)
theorem dX6_fits_7 : decode cX6_fits 7 = .ok (.iconst (-1), 1) := dk_2 (dk_at dksX6_fits_0 7 rfl rfl)
theorem dX6_fits_8 : decode cX6_fits 8 = .ok (.iastore, 1) := dk_79 (dk_at dksX6_fits_0 8 rfl rfl)
theorem dX6_fits_9 : decode cX6_fits 9 = .ok (.iload_n 2, 1) := dk_28 (dk_at dksX6_fits_0 9 rfl rfl)
theorem dX6_fits_10 : decode cX6_fits 10 = .ok (.ifCond .lt 125, 3) := dk_155 0 125 (dk_at dksX6_fits_0 10 rfl rfl)
theorem dX6_fits_13 : decode cX6_fits 13 = .ok (.iload_n 2, 1) := dk_28 (dk_at dksX6_fits_0 13 rfl rfl)
theorem dX6_fits_14 : decode cX6_fits 14 = .ok (.bipush 16, 2) := dk_16 16 (dk_at dksX6_fits_0 14 rfl rfl)
theorem dX6_fits_16 : decode cX6_fits 16 = .ok (.if_icmp .ge 119, 3) := dk_162 0 119 (dk_at dksX6_fits_0 16 rfl rfl)
theorem dX6_fits_19 : decode cX6_fits 19 = .ok (.aload_n 0, 1) := dk_42 (dk_at dksX6_fits_0 19 rfl rfl)
theorem dX6_fits_20 : decode cX6_fits 20 = .ok (.getfield 85, 3) := dk_180 0 85 (dk_at dksX6_fits_0 20 rfl rfl)
theorem dX6_fits_23 : decode cX6_fits 23 = .ok (.iload_n 2, 1) := dk_28 (dk_at dksX6_fits_0 23 rfl rfl)
theorem dX6_fits_24 : decode cX6_fits 24 = .ok (.iaload, 1) := dk_46 (dk_at dksX6_fits_1 0 rfl rfl)
theorem dX6_fits_25 : decode cX6_fits 25 = .ok (.iconst 1, 1) := dk_4 (dk_at dksX6_fits_1 1 rfl rfl)
theorem dX6_fits_26 : decode cX6_fits 26 = .ok (.iadd, 1) := dk_96 (dk_at dksX6_fits_1 2 rfl rfl)
theorem dX6_fits_27 : decode cX6_fits 27 = .ok (.istore_n 3, 1) := dk_62 (dk_at dksX6_fits_1 3 rfl rfl)
theorem dX6_fits_28 : decode cX6_fits 28 = .ok (.aload_n 0, 1) := dk_42 (dk_at dksX6_fits_1 4 rfl rfl)
theorem dX6_fits_29 : decode cX6_fits 29 = .ok (.iload_n 2, 1) := dk_28 (dk_at dksX6_fits_1 5 rfl rfl)
theorem dX6_fits_30 : decode cX6_fits 30 = .ok (.invokevirtual 359, 3) := dk_182 1 103 (dk_at dksX6_fits_1 6 rfl rfl)
theorem dX6_fits_33 : decode cX6_fits 33 = .ok (.istore 4, 2) := dk_54 4 (dk_at dksX6_fits_1 9 rfl rfl)
theorem dX6_fits_35 : decode cX6_fits 35 = .ok (.aload_n 0, 1) := dk_42 (dk_at dksX6_fits_1 11 rfl rfl)
theorem dX6_fits_36 : decode cX6_fits 36 = .ok (.iload_n 2, 1) := dk_28 (dk_at dksX6_fits_1 12 rfl rfl)
theorem dX6_fits_37 : decode cX6_fits 37 = .ok (.invokevirtual 233, 3) := dk_182 0 233 (dk_at dksX6_fits_1 13 rfl rfl)
theorem dX6_fits_40 : decode cX6_fits 40 = .ok (.ifCond .ne 7, 3) := dk_154 0 7 (dk_at dksX6_fits_1 16 rfl rfl)
theorem dX6_fits_43 : decode cX6_fits 43 = .ok (.iconst 0, 1) := dk_3 (dk_at dksX6_fits_1 19 rfl rfl)
theorem dX6_fits_44 : decode cX6_fits 44 = .ok (.goto 19, 3) := dk_167 0 19 (dk_at dksX6_fits_1 20 rfl rfl)
theorem dX6_fits_47 : decode cX6_fits 47 = .ok (.iload 4, 2) := dk_21 4 (dk_at dksX6_fits_2 0 rfl rfl)
theorem dX6_fits_49 : decode cX6_fits 49 = .ok (.iload_n 1, 1) := dk_27 (dk_at dksX6_fits_2 2 rfl rfl)
theorem dX6_fits_50 : decode cX6_fits 50 = .ok (.iconst 1, 1) := dk_4 (dk_at dksX6_fits_2 3 rfl rfl)
theorem dX6_fits_51 : decode cX6_fits 51 = .ok (.isub, 1) := dk_100 (dk_at dksX6_fits_2 4 rfl rfl)
theorem dX6_fits_52 : decode cX6_fits 52 = .ok (.if_icmp .ge 8, 3) := dk_162 0 8 (dk_at dksX6_fits_2 5 rfl rfl)
theorem dX6_fits_55 : decode cX6_fits 55 = .ok (.iload 4, 2) := dk_21 4 (dk_at dksX6_fits_2 8 rfl rfl)
theorem dX6_fits_57 : decode cX6_fits 57 = .ok (.goto 6, 3) := dk_167 0 6 (dk_at dksX6_fits_2 10 rfl rfl)
theorem dX6_fits_60 : decode cX6_fits 60 = .ok (.iload_n 1, 1) := dk_27 (dk_at dksX6_fits_2 13 rfl rfl)
theorem dX6_fits_61 : decode cX6_fits 61 = .ok (.iconst 1, 1) := dk_4 (dk_at dksX6_fits_2 14 rfl rfl)
theorem dX6_fits_62 : decode cX6_fits 62 = .ok (.isub, 1) := dk_100 (dk_at dksX6_fits_2 15 rfl rfl)
theorem dX6_fits_63 : decode cX6_fits 63 = .ok (.istore 5, 2) := dk_54 5 (dk_at dksX6_fits_2 16 rfl rfl)
theorem dX6_fits_65 : decode cX6_fits 65 = .ok (.iload_n 3, 1) := dk_29 (dk_at dksX6_fits_2 18 rfl rfl)
theorem dX6_fits_66 : decode cX6_fits 66 = .ok (.iload 5, 2) := dk_21 5 (dk_at dksX6_fits_2 19 rfl rfl)
theorem dX6_fits_68 : decode cX6_fits 68 = .ok (.if_icmp .gt 27, 3) := dk_163 0 27 (dk_at dksX6_fits_2 21 rfl rfl)
theorem dX6_fits_71 : decode cX6_fits 71 = .ok (.aload_n 0, 1) := dk_42 (dk_at dksX6_fits_3 0 rfl rfl)
theorem dX6_fits_72 : decode cX6_fits 72 = .ok (.iload_n 2, 1) := dk_28 (dk_at dksX6_fits_3 1 rfl rfl)
theorem dX6_fits_73 : decode cX6_fits 73 = .ok (.invokevirtual 233, 3) := dk_182 0 233 (dk_at dksX6_fits_3 2 rfl rfl)
theorem dX6_fits_76 : decode cX6_fits 76 = .ok (.ifCond .eq 19, 3) := dk_153 0 19 (dk_at dksX6_fits_3 5 rfl rfl)
theorem dX6_fits_79 : decode cX6_fits 79 = .ok (.aload_n 0, 1) := dk_42 (dk_at dksX6_fits_3 8 rfl rfl)
theorem dX6_fits_80 : decode cX6_fits 80 = .ok (.iload_n 2, 1) := dk_28 (dk_at dksX6_fits_3 9 rfl rfl)
theorem dX6_fits_81 : decode cX6_fits 81 = .ok (.iload_n 3, 1) := dk_29 (dk_at dksX6_fits_3 10 rfl rfl)
theorem dX6_fits_82 : decode cX6_fits 82 = .ok (.invokevirtual 362, 3) := dk_182 1 106 (dk_at dksX6_fits_3 11 rfl rfl)
theorem dX6_fits_85 : decode cX6_fits 85 = .ok (.ifCond .ne 10, 3) := dk_154 0 10 (dk_at dksX6_fits_3 14 rfl rfl)
theorem dX6_fits_88 : decode cX6_fits 88 = .ok (.iload_n 3, 1) := dk_29 (dk_at dksX6_fits_3 17 rfl rfl)
theorem dX6_fits_89 : decode cX6_fits 89 = .ok (.iconst 1, 1) := dk_4 (dk_at dksX6_fits_3 18 rfl rfl)
theorem dX6_fits_90 : decode cX6_fits 90 = .ok (.iadd, 1) := dk_96 (dk_at dksX6_fits_3 19 rfl rfl)
theorem dX6_fits_91 : decode cX6_fits 91 = .ok (.istore_n 3, 1) := dk_62 (dk_at dksX6_fits_3 20 rfl rfl)
theorem dX6_fits_92 : decode cX6_fits 92 = .ok (.goto (-27), 3) := dk_167 255 229 (dk_at dksX6_fits_3 21 rfl rfl)
theorem dX6_fits_95 : decode cX6_fits 95 = .ok (.iload_n 3, 1) := dk_29 (dk_at dksX6_fits_4 0 rfl rfl)
theorem dX6_fits_96 : decode cX6_fits 96 = .ok (.iload 5, 2) := dk_21 5 (dk_at dksX6_fits_4 1 rfl rfl)
theorem dX6_fits_98 : decode cX6_fits 98 = .ok (.if_icmp .le 10, 3) := dk_164 0 10 (dk_at dksX6_fits_4 3 rfl rfl)
theorem dX6_fits_101 : decode cX6_fits 101 = .ok (.iload_n 2, 1) := dk_28 (dk_at dksX6_fits_4 6 rfl rfl)
theorem dX6_fits_102 : decode cX6_fits 102 = .ok (.iconst 1, 1) := dk_4 (dk_at dksX6_fits_4 7 rfl rfl)
theorem dX6_fits_103 : decode cX6_fits 103 = .ok (.isub, 1) := dk_100 (dk_at dksX6_fits_4 8 rfl rfl)
theorem dX6_fits_104 : decode cX6_fits 104 = .ok (.istore_n 2, 1) := dk_61 (dk_at dksX6_fits_4 9 rfl rfl)
theorem dX6_fits_105 : decode cX6_fits 105 = .ok (.goto (-96), 3) := dk_167 255 160 (dk_at dksX6_fits_4 10 rfl rfl)
theorem dX6_fits_108 : decode cX6_fits 108 = .ok (.aload_n 0, 1) := dk_42 (dk_at dksX6_fits_4 13 rfl rfl)
theorem dX6_fits_109 : decode cX6_fits 109 = .ok (.getfield 85, 3) := dk_180 0 85 (dk_at dksX6_fits_4 14 rfl rfl)
theorem dX6_fits_112 : decode cX6_fits 112 = .ok (.iload_n 2, 1) := dk_28 (dk_at dksX6_fits_4 17 rfl rfl)
theorem dX6_fits_113 : decode cX6_fits 113 = .ok (.iload_n 3, 1) := dk_29 (dk_at dksX6_fits_4 18 rfl rfl)
theorem dX6_fits_114 : decode cX6_fits 114 = .ok (.iastore, 1) := dk_79 (dk_at dksX6_fits_4 19 rfl rfl)
theorem dX6_fits_115 : decode cX6_fits 115 = .ok (.iload_n 2, 1) := dk_28 (dk_at dksX6_fits_4 20 rfl rfl)
theorem dX6_fits_116 : decode cX6_fits 116 = .ok (.iconst 1, 1) := dk_4 (dk_at dksX6_fits_4 21 rfl rfl)
theorem dX6_fits_117 : decode cX6_fits 117 = .ok (.iadd, 1) := dk_96 (dk_at dksX6_fits_4 22 rfl rfl)
theorem dX6_fits_118 : decode cX6_fits 118 = .ok (.istore_n 2, 1) := dk_61 (dk_at dksX6_fits_4 23 rfl rfl)
theorem dX6_fits_119 : decode cX6_fits 119 = .ok (.iload_n 2, 1) := dk_28 (dk_at dksX6_fits_5 0 rfl rfl)
theorem dX6_fits_120 : decode cX6_fits 120 = .ok (.bipush 16, 2) := dk_16 16 (dk_at dksX6_fits_5 1 rfl rfl)
theorem dX6_fits_122 : decode cX6_fits 122 = .ok (.if_icmp .ge 10, 3) := dk_162 0 10 (dk_at dksX6_fits_5 3 rfl rfl)
theorem dX6_fits_125 : decode cX6_fits 125 = .ok (.aload_n 0, 1) := dk_42 (dk_at dksX6_fits_5 6 rfl rfl)
theorem dX6_fits_126 : decode cX6_fits 126 = .ok (.getfield 85, 3) := dk_180 0 85 (dk_at dksX6_fits_5 7 rfl rfl)
theorem dX6_fits_129 : decode cX6_fits 129 = .ok (.iload_n 2, 1) := dk_28 (dk_at dksX6_fits_5 10 rfl rfl)
theorem dX6_fits_130 : decode cX6_fits 130 = .ok (.iconst (-1), 1) := dk_2 (dk_at dksX6_fits_5 11 rfl rfl)
theorem dX6_fits_131 : decode cX6_fits 131 = .ok (.iastore, 1) := dk_79 (dk_at dksX6_fits_5 12 rfl rfl)
theorem dX6_fits_132 : decode cX6_fits 132 = .ok (.goto (-123), 3) := dk_167 255 133 (dk_at dksX6_fits_5 13 rfl rfl)
theorem dX6_fits_135 : decode cX6_fits 135 = .ok (.iload_n 2, 1) := dk_28 (dk_at dksX6_fits_5 16 rfl rfl)
theorem dX6_fits_136 : decode cX6_fits 136 = .ok (.bipush 16, 2) := dk_16 16 (dk_at dksX6_fits_5 17 rfl rfl)
theorem dX6_fits_138 : decode cX6_fits 138 = .ok (.if_icmp .ne 7, 3) := dk_160 0 7 (dk_at dksX6_fits_5 19 rfl rfl)
theorem dX6_fits_141 : decode cX6_fits 141 = .ok (.iconst 1, 1) := dk_4 (dk_at dksX6_fits_5 22 rfl rfl)
theorem dX6_fits_142 : decode cX6_fits 142 = .ok (.goto 4, 3) := dk_167 0 4 (dk_at dksX6_fits_6 0 rfl rfl)
theorem dX6_fits_145 : decode cX6_fits 145 = .ok (.iconst 0, 1) := dk_3 (dk_at dksX6_fits_6 3 rfl rfl)
theorem dX6_fits_146 : decode cX6_fits 146 = .ok (.ireturn, 1) := dk_172 (dk_at dksX6_fits_6 4 rfl rfl)
abbrev cX6_usedAhead : ByteArray := prog_20_method_78_code
def yX6_usedAhead : MethodName := ⟨RX6, "usedAhead", "(I)I"⟩
def dkwX6_usedAhead_1 : List UInt8 := [161, 0, 12, 42, 180, 0, 85, 29, 46, 4, 96, 61, 132, 3, 1, 167, 255, 221, 28, 172]
abbrev dktX6_usedAhead_1 : List UInt8 := dkwX6_usedAhead_1 ++ []
def dkwX6_usedAhead_0 : List UInt8 := [3, 61, 3, 62, 29, 27, 162, 0, 36, 42, 29, 182, 0, 233, 153, 0, 22, 42, 180, 0, 85, 29, 46, 28]
abbrev dktX6_usedAhead_0 : List UInt8 := dkwX6_usedAhead_0 ++ dktX6_usedAhead_1
theorem dksX6_usedAhead_0 : cX6_usedAhead.data.toList.drop 0 = dktX6_usedAhead_0 := by decide +kernel
theorem dksX6_usedAhead_1 : cX6_usedAhead.data.toList.drop 24 = dktX6_usedAhead_1 := dk_seg dksX6_usedAhead_0 24 rfl rfl
theorem dX6_usedAhead_0 : decode cX6_usedAhead 0 = .ok (.iconst 0, 1) := dk_3 (dk_at dksX6_usedAhead_0 0 rfl rfl)
theorem dX6_usedAhead_1 : decode cX6_usedAhead 1 = .ok (.istore_n 2, 1) := dk_61 (dk_at dksX6_usedAhead_0 1 rfl rfl)
theorem dX6_usedAhead_2 : decode cX6_usedAhead 2 = .ok (.iconst 0, 1) := dk_3 (dk_at dksX6_usedAhead_0 2 rfl rfl)
theorem dX6_usedAhead_3 : decode cX6_usedAhead 3 = .ok (.istore_n 3, 1) := dk_62 (dk_at dksX6_usedAhead_0 3 rfl rfl)
theorem dX6_usedAhead_4 : decode cX6_usedAhead 4 = .ok (.iload_n 3, 1) := dk_29 (dk_at dksX6_usedAhead_0 4 rfl rfl)
theorem dX6_usedAhead_5 : decode cX6_usedAhead 5 = .ok (.iload_n 1, 1) := dk_27 (dk_at dksX6_usedAhead_0 5 rfl rfl)
theorem dX6_usedAhead_6 : decode cX6_usedAhead 6 = .ok (.if_icmp .ge 36, 3) := dk_162 0 36 (dk_at dksX6_usedAhead_0 6 rfl rfl)
theorem dX6_usedAhead_9 : decode cX6_usedAhead 9 = .ok (.aload_n 0, 1) := dk_42 (dk_at dksX6_usedAhead_0 9 rfl rfl)
theorem dX6_usedAhead_10 : decode cX6_usedAhead 10 = .ok (.iload_n 3, 1) := dk_29 (dk_at dksX6_usedAhead_0 10 rfl rfl)
theorem dX6_usedAhead_11 : decode cX6_usedAhead 11 = .ok (.invokevirtual 233, 3) := dk_182 0 233 (dk_at dksX6_usedAhead_0 11 rfl rfl)
theorem dX6_usedAhead_14 : decode cX6_usedAhead 14 = .ok (.ifCond .eq 22, 3) := dk_153 0 22 (dk_at dksX6_usedAhead_0 14 rfl rfl)
theorem dX6_usedAhead_17 : decode cX6_usedAhead 17 = .ok (.aload_n 0, 1) := dk_42 (dk_at dksX6_usedAhead_0 17 rfl rfl)
theorem dX6_usedAhead_18 : decode cX6_usedAhead 18 = .ok (.getfield 85, 3) := dk_180 0 85 (dk_at dksX6_usedAhead_0 18 rfl rfl)
theorem dX6_usedAhead_21 : decode cX6_usedAhead 21 = .ok (.iload_n 3, 1) := dk_29 (dk_at dksX6_usedAhead_0 21 rfl rfl)
theorem dX6_usedAhead_22 : decode cX6_usedAhead 22 = .ok (.iaload, 1) := dk_46 (dk_at dksX6_usedAhead_0 22 rfl rfl)
theorem dX6_usedAhead_23 : decode cX6_usedAhead 23 = .ok (.iload_n 2, 1) := dk_28 (dk_at dksX6_usedAhead_0 23 rfl rfl)
theorem dX6_usedAhead_24 : decode cX6_usedAhead 24 = .ok (.if_icmp .lt 12, 3) := dk_161 0 12 (dk_at dksX6_usedAhead_1 0 rfl rfl)
theorem dX6_usedAhead_27 : decode cX6_usedAhead 27 = .ok (.aload_n 0, 1) := dk_42 (dk_at dksX6_usedAhead_1 3 rfl rfl)
theorem dX6_usedAhead_28 : decode cX6_usedAhead 28 = .ok (.getfield 85, 3) := dk_180 0 85 (dk_at dksX6_usedAhead_1 4 rfl rfl)
theorem dX6_usedAhead_31 : decode cX6_usedAhead 31 = .ok (.iload_n 3, 1) := dk_29 (dk_at dksX6_usedAhead_1 7 rfl rfl)
theorem dX6_usedAhead_32 : decode cX6_usedAhead 32 = .ok (.iaload, 1) := dk_46 (dk_at dksX6_usedAhead_1 8 rfl rfl)
theorem dX6_usedAhead_33 : decode cX6_usedAhead 33 = .ok (.iconst 1, 1) := dk_4 (dk_at dksX6_usedAhead_1 9 rfl rfl)
theorem dX6_usedAhead_34 : decode cX6_usedAhead 34 = .ok (.iadd, 1) := dk_96 (dk_at dksX6_usedAhead_1 10 rfl rfl)
theorem dX6_usedAhead_35 : decode cX6_usedAhead 35 = .ok (.istore_n 2, 1) := dk_61 (dk_at dksX6_usedAhead_1 11 rfl rfl)
theorem dX6_usedAhead_36 : decode cX6_usedAhead 36 = .ok (.iinc 3 1, 3) := dk_132 3 1 (dk_at dksX6_usedAhead_1 12 rfl rfl)
theorem dX6_usedAhead_39 : decode cX6_usedAhead 39 = .ok (.goto (-35), 3) := dk_167 255 221 (dk_at dksX6_usedAhead_1 15 rfl rfl)
theorem dX6_usedAhead_42 : decode cX6_usedAhead 42 = .ok (.iload_n 2, 1) := dk_28 (dk_at dksX6_usedAhead_1 18 rfl rfl)
theorem dX6_usedAhead_43 : decode cX6_usedAhead 43 = .ok (.ireturn, 1) := dk_172 (dk_at dksX6_usedAhead_1 19 rfl rfl)
abbrev cX6_canJoin : ByteArray := prog_20_method_77_code
def yX6_canJoin : MethodName := ⟨RX6, "canJoin", "(II)Z"⟩
def dkwX6_canJoin_1 : List UInt8 := [29, 46, 28, 160, 0, 5, 3, 172, 132, 3, 1, 167, 255, 223, 4, 172]
abbrev dktX6_canJoin_1 : List UInt8 := dkwX6_canJoin_1 ++ []
def dkwX6_canJoin_0 : List UInt8 := [3, 62, 29, 27, 162, 0, 34, 42, 180, 0, 22, 27, 46, 29, 184, 0, 100, 153, 0, 15, 42, 180, 0, 85]
abbrev dktX6_canJoin_0 : List UInt8 := dkwX6_canJoin_0 ++ dktX6_canJoin_1
theorem dksX6_canJoin_0 : cX6_canJoin.data.toList.drop 0 = dktX6_canJoin_0 := by decide +kernel
theorem dksX6_canJoin_1 : cX6_canJoin.data.toList.drop 24 = dktX6_canJoin_1 := dk_seg dksX6_canJoin_0 24 rfl rfl
theorem dX6_canJoin_0 : decode cX6_canJoin 0 = .ok (.iconst 0, 1) := dk_3 (dk_at dksX6_canJoin_0 0 rfl rfl)
theorem dX6_canJoin_1 : decode cX6_canJoin 1 = .ok (.istore_n 3, 1) := dk_62 (dk_at dksX6_canJoin_0 1 rfl rfl)
theorem dX6_canJoin_2 : decode cX6_canJoin 2 = .ok (.iload_n 3, 1) := dk_29 (dk_at dksX6_canJoin_0 2 rfl rfl)
theorem dX6_canJoin_3 : decode cX6_canJoin 3 = .ok (.iload_n 1, 1) := dk_27 (dk_at dksX6_canJoin_0 3 rfl rfl)
theorem dX6_canJoin_4 : decode cX6_canJoin 4 = .ok (.if_icmp .ge 34, 3) := dk_162 0 34 (dk_at dksX6_canJoin_0 4 rfl rfl)
theorem dX6_canJoin_7 : decode cX6_canJoin 7 = .ok (.aload_n 0, 1) := dk_42 (dk_at dksX6_canJoin_0 7 rfl rfl)
theorem dX6_canJoin_8 : decode cX6_canJoin 8 = .ok (.getfield 22, 3) := dk_180 0 22 (dk_at dksX6_canJoin_0 8 rfl rfl)
theorem dX6_canJoin_11 : decode cX6_canJoin 11 = .ok (.iload_n 1, 1) := dk_27 (dk_at dksX6_canJoin_0 11 rfl rfl)
theorem dX6_canJoin_12 : decode cX6_canJoin 12 = .ok (.iaload, 1) := dk_46 (dk_at dksX6_canJoin_0 12 rfl rfl)
theorem dX6_canJoin_13 : decode cX6_canJoin 13 = .ok (.iload_n 3, 1) := dk_29 (dk_at dksX6_canJoin_0 13 rfl rfl)
theorem dX6_canJoin_14 : decode cX6_canJoin 14 = .ok (.invokestatic 100, 3) := dk_184 0 100 (dk_at dksX6_canJoin_0 14 rfl rfl)
theorem dX6_canJoin_17 : decode cX6_canJoin 17 = .ok (.ifCond .eq 15, 3) := dk_153 0 15 (dk_at dksX6_canJoin_0 17 rfl rfl)
theorem dX6_canJoin_20 : decode cX6_canJoin 20 = .ok (.aload_n 0, 1) := dk_42 (dk_at dksX6_canJoin_0 20 rfl rfl)
theorem dX6_canJoin_21 : decode cX6_canJoin 21 = .ok (.getfield 85, 3) := dk_180 0 85 (dk_at dksX6_canJoin_0 21 rfl rfl)
theorem dX6_canJoin_24 : decode cX6_canJoin 24 = .ok (.iload_n 3, 1) := dk_29 (dk_at dksX6_canJoin_1 0 rfl rfl)
theorem dX6_canJoin_25 : decode cX6_canJoin 25 = .ok (.iaload, 1) := dk_46 (dk_at dksX6_canJoin_1 1 rfl rfl)
theorem dX6_canJoin_26 : decode cX6_canJoin 26 = .ok (.iload_n 2, 1) := dk_28 (dk_at dksX6_canJoin_1 2 rfl rfl)
theorem dX6_canJoin_27 : decode cX6_canJoin 27 = .ok (.if_icmp .ne 5, 3) := dk_160 0 5 (dk_at dksX6_canJoin_1 3 rfl rfl)
theorem dX6_canJoin_30 : decode cX6_canJoin 30 = .ok (.iconst 0, 1) := dk_3 (dk_at dksX6_canJoin_1 6 rfl rfl)
theorem dX6_canJoin_31 : decode cX6_canJoin 31 = .ok (.ireturn, 1) := dk_172 (dk_at dksX6_canJoin_1 7 rfl rfl)
theorem dX6_canJoin_32 : decode cX6_canJoin 32 = .ok (.iinc 3 1, 3) := dk_132 3 1 (dk_at dksX6_canJoin_1 8 rfl rfl)
theorem dX6_canJoin_35 : decode cX6_canJoin 35 = .ok (.goto (-33), 3) := dk_167 255 223 (dk_at dksX6_canJoin_1 11 rfl rfl)
theorem dX6_canJoin_38 : decode cX6_canJoin 38 = .ok (.iconst 1, 1) := dk_4 (dk_at dksX6_canJoin_1 14 rfl rfl)
theorem dX6_canJoin_39 : decode cX6_canJoin 39 = .ok (.ireturn, 1) := dk_172 (dk_at dksX6_canJoin_1 15 rfl rfl)
abbrev cX6_mended : ByteArray := prog_20_method_81_code
def yX6_mended : MethodName := ⟨RX6, "mended", "(I)I"⟩
def dkwX6_mended_6 : List UInt8 := [167, 255, 140, 27, 4, 160, 0, 8, 21, 4, 167, 0, 10, 3, 28, 4, 100, 184, 1, 112, 172]
abbrev dktX6_mended_6 : List UInt8 := dkwX6_mended_6 ++ []
def dkwX6_mended_5 : List UInt8 := [153, 0, 13, 16, 16, 21, 5, 104, 21, 7, 96, 54, 4, 132, 7, 255, 167, 255, 199, 132, 5, 1]
abbrev dktX6_mended_5 : List UInt8 := dkwX6_mended_5 ++ dktX6_mended_6
def dkwX6_mended_4 : List UInt8 := [21, 5, 160, 0, 39, 42, 180, 0, 22, 21, 5, 46, 21, 6, 2, 130, 126, 21, 7, 184, 0, 100]
abbrev dktX6_mended_4 : List UInt8 := dkwX6_mended_4 ++ dktX6_mended_5
def dkwX6_mended_3 : List UInt8 := [16, 15, 54, 7, 21, 7, 21, 5, 164, 0, 56, 21, 4, 16, 254, 159, 0, 13, 21, 4, 16, 16, 108]
abbrev dktX6_mended_3 : List UInt8 := dkwX6_mended_3 ++ dktX6_mended_4
def dkwX6_mended_2 : List UInt8 := [182, 1, 81, 54, 6, 29, 21, 5, 184, 0, 100, 154, 0, 7, 28, 4, 96, 61, 29, 21, 6, 128, 62]
abbrev dktX6_mended_2 : List UInt8 := dkwX6_mended_2 ++ dktX6_mended_3
def dkwX6_mended_1 : List UInt8 := [16, 16, 162, 0, 115, 42, 21, 5, 182, 0, 233, 154, 0, 6, 167, 0, 97, 42, 21, 5, 42, 180, 0, 108]
abbrev dktX6_mended_1 : List UInt8 := dkwX6_mended_1 ++ dktX6_mended_2
def dkwX6_mended_0 : List UInt8 := [27, 3, 4, 184, 0, 104, 154, 0, 5, 2, 172, 3, 61, 3, 62, 16, 254, 54, 4, 3, 54, 5, 21, 5]
abbrev dktX6_mended_0 : List UInt8 := dkwX6_mended_0 ++ dktX6_mended_1
theorem dksX6_mended_0 : cX6_mended.data.toList.drop 0 = dktX6_mended_0 := by decide +kernel
theorem dksX6_mended_1 : cX6_mended.data.toList.drop 24 = dktX6_mended_1 := dk_seg dksX6_mended_0 24 rfl rfl
theorem dksX6_mended_2 : cX6_mended.data.toList.drop 48 = dktX6_mended_2 := dk_seg dksX6_mended_1 24 rfl rfl
theorem dksX6_mended_3 : cX6_mended.data.toList.drop 71 = dktX6_mended_3 := dk_seg dksX6_mended_2 23 rfl rfl
theorem dksX6_mended_4 : cX6_mended.data.toList.drop 94 = dktX6_mended_4 := dk_seg dksX6_mended_3 23 rfl rfl
theorem dksX6_mended_5 : cX6_mended.data.toList.drop 116 = dktX6_mended_5 := dk_seg dksX6_mended_4 22 rfl rfl
theorem dksX6_mended_6 : cX6_mended.data.toList.drop 138 = dktX6_mended_6 := dk_seg dksX6_mended_5 22 rfl rfl
theorem dX6_mended_0 : decode cX6_mended 0 = .ok (.iload_n 1, 1) := dk_27 (dk_at dksX6_mended_0 0 rfl rfl)
theorem dX6_mended_1 : decode cX6_mended 1 = .ok (.iconst 0, 1) := dk_3 (dk_at dksX6_mended_0 1 rfl rfl)
theorem dX6_mended_2 : decode cX6_mended 2 = .ok (.iconst 1, 1) := dk_4 (dk_at dksX6_mended_0 2 rfl rfl)
theorem dX6_mended_3 : decode cX6_mended 3 = .ok (.invokestatic 104, 3) := dk_184 0 104 (dk_at dksX6_mended_0 3 rfl rfl)
theorem dX6_mended_6 : decode cX6_mended 6 = .ok (.ifCond .ne 5, 3) := dk_154 0 5 (dk_at dksX6_mended_0 6 rfl rfl)
theorem dX6_mended_9 : decode cX6_mended 9 = .ok (.iconst (-1), 1) := dk_2 (dk_at dksX6_mended_0 9 rfl rfl)
theorem dX6_mended_10 : decode cX6_mended 10 = .ok (.ireturn, 1) := dk_172 (dk_at dksX6_mended_0 10 rfl rfl)
theorem dX6_mended_11 : decode cX6_mended 11 = .ok (.iconst 0, 1) := dk_3 (dk_at dksX6_mended_0 11 rfl rfl)
theorem dX6_mended_12 : decode cX6_mended 12 = .ok (.istore_n 2, 1) := dk_61 (dk_at dksX6_mended_0 12 rfl rfl)
theorem dX6_mended_13 : decode cX6_mended 13 = .ok (.iconst 0, 1) := dk_3 (dk_at dksX6_mended_0 13 rfl rfl)
theorem dX6_mended_14 : decode cX6_mended 14 = .ok (.istore_n 3, 1) := dk_62 (dk_at dksX6_mended_0 14 rfl rfl)
theorem dX6_mended_15 : decode cX6_mended 15 = .ok (.bipush (-2), 2) := dk_16 254 (dk_at dksX6_mended_0 15 rfl rfl)
theorem dX6_mended_17 : decode cX6_mended 17 = .ok (.istore 4, 2) := dk_54 4 (dk_at dksX6_mended_0 17 rfl rfl)
theorem dX6_mended_19 : decode cX6_mended 19 = .ok (.iconst 0, 1) := dk_3 (dk_at dksX6_mended_0 19 rfl rfl)
theorem dX6_mended_20 : decode cX6_mended 20 = .ok (.istore 5, 2) := dk_54 5 (dk_at dksX6_mended_0 20 rfl rfl)
theorem dX6_mended_22 : decode cX6_mended 22 = .ok (.iload 5, 2) := dk_21 5 (dk_at dksX6_mended_0 22 rfl rfl)
theorem dX6_mended_24 : decode cX6_mended 24 = .ok (.bipush 16, 2) := dk_16 16 (dk_at dksX6_mended_1 0 rfl rfl)
theorem dX6_mended_26 : decode cX6_mended 26 = .ok (.if_icmp .ge 115, 3) := dk_162 0 115 (dk_at dksX6_mended_1 2 rfl rfl)
theorem dX6_mended_29 : decode cX6_mended 29 = .ok (.aload_n 0, 1) := dk_42 (dk_at dksX6_mended_1 5 rfl rfl)
theorem dX6_mended_30 : decode cX6_mended 30 = .ok (.iload 5, 2) := dk_21 5 (dk_at dksX6_mended_1 6 rfl rfl)
theorem dX6_mended_32 : decode cX6_mended 32 = .ok (.invokevirtual 233, 3) := dk_182 0 233 (dk_at dksX6_mended_1 8 rfl rfl)
theorem dX6_mended_35 : decode cX6_mended 35 = .ok (.ifCond .ne 6, 3) := dk_154 0 6 (dk_at dksX6_mended_1 11 rfl rfl)
theorem dX6_mended_38 : decode cX6_mended 38 = .ok (.goto 97, 3) := dk_167 0 97 (dk_at dksX6_mended_1 14 rfl rfl)
theorem dX6_mended_41 : decode cX6_mended 41 = .ok (.aload_n 0, 1) := dk_42 (dk_at dksX6_mended_1 17 rfl rfl)
theorem dX6_mended_42 : decode cX6_mended 42 = .ok (.iload 5, 2) := dk_21 5 (dk_at dksX6_mended_1 18 rfl rfl)
theorem dX6_mended_44 : decode cX6_mended 44 = .ok (.aload_n 0, 1) := dk_42 (dk_at dksX6_mended_1 20 rfl rfl)
theorem dX6_mended_45 : decode cX6_mended 45 = .ok (.getfield 108, 3) := dk_180 0 108 (dk_at dksX6_mended_1 21 rfl rfl)
theorem dX6_mended_48 : decode cX6_mended 48 = .ok (.invokevirtual 337, 3) := dk_182 1 81 (dk_at dksX6_mended_2 0 rfl rfl)
theorem dX6_mended_51 : decode cX6_mended 51 = .ok (.istore 6, 2) := dk_54 6 (dk_at dksX6_mended_2 3 rfl rfl)
theorem dX6_mended_53 : decode cX6_mended 53 = .ok (.iload_n 3, 1) := dk_29 (dk_at dksX6_mended_2 5 rfl rfl)
theorem dX6_mended_54 : decode cX6_mended 54 = .ok (.iload 5, 2) := dk_21 5 (dk_at dksX6_mended_2 6 rfl rfl)
theorem dX6_mended_56 : decode cX6_mended 56 = .ok (.invokestatic 100, 3) := dk_184 0 100 (dk_at dksX6_mended_2 8 rfl rfl)
theorem dX6_mended_59 : decode cX6_mended 59 = .ok (.ifCond .ne 7, 3) := dk_154 0 7 (dk_at dksX6_mended_2 11 rfl rfl)
theorem dX6_mended_62 : decode cX6_mended 62 = .ok (.iload_n 2, 1) := dk_28 (dk_at dksX6_mended_2 14 rfl rfl)
theorem dX6_mended_63 : decode cX6_mended 63 = .ok (.iconst 1, 1) := dk_4 (dk_at dksX6_mended_2 15 rfl rfl)
theorem dX6_mended_64 : decode cX6_mended 64 = .ok (.iadd, 1) := dk_96 (dk_at dksX6_mended_2 16 rfl rfl)
theorem dX6_mended_65 : decode cX6_mended 65 = .ok (.istore_n 2, 1) := dk_61 (dk_at dksX6_mended_2 17 rfl rfl)
theorem dX6_mended_66 : decode cX6_mended 66 = .ok (.iload_n 3, 1) := dk_29 (dk_at dksX6_mended_2 18 rfl rfl)
theorem dX6_mended_67 : decode cX6_mended 67 = .ok (.iload 6, 2) := dk_21 6 (dk_at dksX6_mended_2 19 rfl rfl)
theorem dX6_mended_69 : decode cX6_mended 69 = .ok (.ior, 1) := dk_128 (dk_at dksX6_mended_2 21 rfl rfl)
theorem dX6_mended_70 : decode cX6_mended 70 = .ok (.istore_n 3, 1) := dk_62 (dk_at dksX6_mended_2 22 rfl rfl)
theorem dX6_mended_71 : decode cX6_mended 71 = .ok (.bipush 15, 2) := dk_16 15 (dk_at dksX6_mended_3 0 rfl rfl)
theorem dX6_mended_73 : decode cX6_mended 73 = .ok (.istore 7, 2) := dk_54 7 (dk_at dksX6_mended_3 2 rfl rfl)
theorem dX6_mended_75 : decode cX6_mended 75 = .ok (.iload 7, 2) := dk_21 7 (dk_at dksX6_mended_3 4 rfl rfl)
theorem dX6_mended_77 : decode cX6_mended 77 = .ok (.iload 5, 2) := dk_21 5 (dk_at dksX6_mended_3 6 rfl rfl)
theorem dX6_mended_79 : decode cX6_mended 79 = .ok (.if_icmp .le 56, 3) := dk_164 0 56 (dk_at dksX6_mended_3 8 rfl rfl)
theorem dX6_mended_82 : decode cX6_mended 82 = .ok (.iload 4, 2) := dk_21 4 (dk_at dksX6_mended_3 11 rfl rfl)
theorem dX6_mended_84 : decode cX6_mended 84 = .ok (.bipush (-2), 2) := dk_16 254 (dk_at dksX6_mended_3 13 rfl rfl)
theorem dX6_mended_86 : decode cX6_mended 86 = .ok (.if_icmp .eq 13, 3) := dk_159 0 13 (dk_at dksX6_mended_3 15 rfl rfl)
theorem dX6_mended_89 : decode cX6_mended 89 = .ok (.iload 4, 2) := dk_21 4 (dk_at dksX6_mended_3 18 rfl rfl)
theorem dX6_mended_91 : decode cX6_mended 91 = .ok (.bipush 16, 2) := dk_16 16 (dk_at dksX6_mended_3 20 rfl rfl)
theorem dX6_mended_93 : decode cX6_mended 93 = .ok (.idiv, 1) := dk_108 (dk_at dksX6_mended_3 22 rfl rfl)
theorem dX6_mended_94 : decode cX6_mended 94 = .ok (.iload 5, 2) := dk_21 5 (dk_at dksX6_mended_4 0 rfl rfl)
theorem dX6_mended_96 : decode cX6_mended 96 = .ok (.if_icmp .ne 39, 3) := dk_160 0 39 (dk_at dksX6_mended_4 2 rfl rfl)
theorem dX6_mended_99 : decode cX6_mended 99 = .ok (.aload_n 0, 1) := dk_42 (dk_at dksX6_mended_4 5 rfl rfl)
theorem dX6_mended_100 : decode cX6_mended 100 = .ok (.getfield 22, 3) := dk_180 0 22 (dk_at dksX6_mended_4 6 rfl rfl)
theorem dX6_mended_103 : decode cX6_mended 103 = .ok (.iload 5, 2) := dk_21 5 (dk_at dksX6_mended_4 9 rfl rfl)
theorem dX6_mended_105 : decode cX6_mended 105 = .ok (.iaload, 1) := dk_46 (dk_at dksX6_mended_4 11 rfl rfl)
theorem dX6_mended_106 : decode cX6_mended 106 = .ok (.iload 6, 2) := dk_21 6 (dk_at dksX6_mended_4 12 rfl rfl)
theorem dX6_mended_108 : decode cX6_mended 108 = .ok (.iconst (-1), 1) := dk_2 (dk_at dksX6_mended_4 14 rfl rfl)
theorem dX6_mended_109 : decode cX6_mended 109 = .ok (.ixor, 1) := dk_130 (dk_at dksX6_mended_4 15 rfl rfl)
theorem dX6_mended_110 : decode cX6_mended 110 = .ok (.iand, 1) := dk_126 (dk_at dksX6_mended_4 16 rfl rfl)
theorem dX6_mended_111 : decode cX6_mended 111 = .ok (.iload 7, 2) := dk_21 7 (dk_at dksX6_mended_4 17 rfl rfl)
theorem dX6_mended_113 : decode cX6_mended 113 = .ok (.invokestatic 100, 3) := dk_184 0 100 (dk_at dksX6_mended_4 19 rfl rfl)
theorem dX6_mended_116 : decode cX6_mended 116 = .ok (.ifCond .eq 13, 3) := dk_153 0 13 (dk_at dksX6_mended_5 0 rfl rfl)
theorem dX6_mended_119 : decode cX6_mended 119 = .ok (.bipush 16, 2) := dk_16 16 (dk_at dksX6_mended_5 3 rfl rfl)
theorem dX6_mended_121 : decode cX6_mended 121 = .ok (.iload 5, 2) := dk_21 5 (dk_at dksX6_mended_5 5 rfl rfl)
theorem dX6_mended_123 : decode cX6_mended 123 = .ok (.imul, 1) := dk_104 (dk_at dksX6_mended_5 7 rfl rfl)
theorem dX6_mended_124 : decode cX6_mended 124 = .ok (.iload 7, 2) := dk_21 7 (dk_at dksX6_mended_5 8 rfl rfl)
theorem dX6_mended_126 : decode cX6_mended 126 = .ok (.iadd, 1) := dk_96 (dk_at dksX6_mended_5 10 rfl rfl)
theorem dX6_mended_127 : decode cX6_mended 127 = .ok (.istore 4, 2) := dk_54 4 (dk_at dksX6_mended_5 11 rfl rfl)
theorem dX6_mended_129 : decode cX6_mended 129 = .ok (.iinc 7 (-1), 3) := dk_132 7 255 (dk_at dksX6_mended_5 13 rfl rfl)
theorem dX6_mended_132 : decode cX6_mended 132 = .ok (.goto (-57), 3) := dk_167 255 199 (dk_at dksX6_mended_5 16 rfl rfl)
theorem dX6_mended_135 : decode cX6_mended 135 = .ok (.iinc 5 1, 3) := dk_132 5 1 (dk_at dksX6_mended_5 19 rfl rfl)
theorem dX6_mended_138 : decode cX6_mended 138 = .ok (.goto (-116), 3) := dk_167 255 140 (dk_at dksX6_mended_6 0 rfl rfl)
theorem dX6_mended_141 : decode cX6_mended 141 = .ok (.iload_n 1, 1) := dk_27 (dk_at dksX6_mended_6 3 rfl rfl)
theorem dX6_mended_142 : decode cX6_mended 142 = .ok (.iconst 1, 1) := dk_4 (dk_at dksX6_mended_6 4 rfl rfl)
theorem dX6_mended_143 : decode cX6_mended 143 = .ok (.if_icmp .ne 8, 3) := dk_160 0 8 (dk_at dksX6_mended_6 5 rfl rfl)
theorem dX6_mended_146 : decode cX6_mended 146 = .ok (.iload 4, 2) := dk_21 4 (dk_at dksX6_mended_6 8 rfl rfl)
theorem dX6_mended_148 : decode cX6_mended 148 = .ok (.goto 10, 3) := dk_167 0 10 (dk_at dksX6_mended_6 10 rfl rfl)
theorem dX6_mended_151 : decode cX6_mended 151 = .ok (.iconst 0, 1) := dk_3 (dk_at dksX6_mended_6 13 rfl rfl)
theorem dX6_mended_152 : decode cX6_mended 152 = .ok (.iload_n 2, 1) := dk_28 (dk_at dksX6_mended_6 14 rfl rfl)
theorem dX6_mended_153 : decode cX6_mended 153 = .ok (.iconst 1, 1) := dk_4 (dk_at dksX6_mended_6 15 rfl rfl)
theorem dX6_mended_154 : decode cX6_mended 154 = .ok (.isub, 1) := dk_100 (dk_at dksX6_mended_6 16 rfl rfl)
theorem dX6_mended_155 : decode cX6_mended 155 = .ok (.invokestatic 368, 3) := dk_184 1 112 (dk_at dksX6_mended_6 17 rfl rfl)
theorem dX6_mended_158 : decode cX6_mended 158 = .ok (.ireturn, 1) := dk_172 (dk_at dksX6_mended_6 20 rfl rfl)
abbrev cX6_max : ByteArray := prog_20_method_4_code
def yX6_max : MethodName := ⟨RX6, "max", "(II)I"⟩
def dkwX6_max_0 : List UInt8 := [26, 27, 164, 0, 7, 26, 167, 0, 4, 27, 172]
abbrev dktX6_max_0 : List UInt8 := dkwX6_max_0 ++ []
theorem dksX6_max_0 : cX6_max.data.toList.drop 0 = dktX6_max_0 := by decide +kernel
theorem dX6_max_0 : decode cX6_max 0 = .ok (.iload_n 0, 1) := dk_26 (dk_at dksX6_max_0 0 rfl rfl)
theorem dX6_max_1 : decode cX6_max 1 = .ok (.iload_n 1, 1) := dk_27 (dk_at dksX6_max_0 1 rfl rfl)
theorem dX6_max_2 : decode cX6_max 2 = .ok (.if_icmp .le 7, 3) := dk_164 0 7 (dk_at dksX6_max_0 2 rfl rfl)
theorem dX6_max_5 : decode cX6_max 5 = .ok (.iload_n 0, 1) := dk_26 (dk_at dksX6_max_0 5 rfl rfl)
theorem dX6_max_6 : decode cX6_max 6 = .ok (.goto 4, 3) := dk_167 0 4 (dk_at dksX6_max_0 6 rfl rfl)
theorem dX6_max_9 : decode cX6_max 9 = .ok (.iload_n 1, 1) := dk_27 (dk_at dksX6_max_0 9 rfl rfl)
theorem dX6_max_10 : decode cX6_max 10 = .ok (.ireturn, 1) := dk_172 (dk_at dksX6_max_0 10 rfl rfl)
abbrev cX6_longest : ByteArray := prog_20_method_82_code
def yX6_longest : MethodName := ⟨RX6, "longest", "(I)I"⟩
def dkwX6_longest_9 : List UInt8 := [184, 1, 87, 172]
abbrev dktX6_longest_9 : List UInt8 := dkwX6_longest_9 ++ []
def dkwX6_longest_8 : List UInt8 := [132, 4, 1, 167, 255, 88, 27, 154, 0, 7, 28, 167, 0, 16, 28, 154, 0, 8, 16, 254, 167, 0, 7, 29]
abbrev dktX6_longest_8 : List UInt8 := dkwX6_longest_8 ++ dktX6_longest_9
def dkwX6_longest_7 : List UInt8 := [21, 4, 46, 167, 0, 12, 29, 42, 180, 0, 88, 21, 4, 46, 128, 62, 21, 4, 184, 1, 20, 61]
abbrev dktX6_longest_7 : List UInt8 := dkwX6_longest_7 ++ dktX6_longest_8
def dkwX6_longest_6 : List UInt8 := [184, 1, 20, 28, 162, 0, 6, 167, 0, 38, 21, 4, 184, 1, 20, 28, 164, 0, 13, 42, 180, 0, 88]
abbrev dktX6_longest_6 : List UInt8 := dkwX6_longest_6 ++ dktX6_longest_7
def dkwX6_longest_5 : List UInt8 := [21, 5, 120, 128, 79, 132, 5, 1, 167, 255, 184, 42, 180, 0, 88, 21, 4, 46, 153, 0, 50, 21, 4]
abbrev dktX6_longest_5 : List UInt8 := dkwX6_longest_5 ++ dktX6_longest_6
def dkwX6_longest_4 : List UInt8 := [21, 5, 182, 1, 35, 126, 153, 0, 22, 42, 180, 0, 88, 21, 4, 42, 180, 0, 88, 21, 4, 46, 4]
abbrev dktX6_longest_4 : List UInt8 := dkwX6_longest_4 ++ dktX6_longest_5
def dkwX6_longest_3 : List UInt8 := [21, 4, 21, 5, 184, 0, 100, 153, 0, 44, 21, 6, 153, 0, 20, 42, 180, 0, 88, 21, 6, 46, 42]
abbrev dktX6_longest_3 : List UInt8 := dkwX6_longest_3 ++ dktX6_longest_4
def dkwX6_longest_2 : List UInt8 := [167, 0, 138, 3, 54, 5, 21, 5, 16, 16, 162, 0, 71, 21, 4, 4, 21, 5, 120, 2, 130, 126, 54, 6]
abbrev dktX6_longest_2 : List UInt8 := dkwX6_longest_2 ++ dktX6_longest_3
def dkwX6_longest_1 : List UInt8 := [162, 0, 167, 42, 180, 0, 88, 21, 4, 3, 79, 21, 4, 42, 180, 0, 108, 2, 130, 126, 153, 0, 6]
abbrev dktX6_longest_1 : List UInt8 := dkwX6_longest_1 ++ dktX6_longest_2
def dkwX6_longest_0 : List UInt8 := [27, 3, 4, 184, 0, 104, 154, 0, 5, 2, 172, 3, 61, 3, 62, 4, 54, 4, 21, 4, 18, 80]
abbrev dktX6_longest_0 : List UInt8 := dkwX6_longest_0 ++ dktX6_longest_1
theorem dksX6_longest_0 : cX6_longest.data.toList.drop 0 = dktX6_longest_0 := by decide +kernel
theorem dksX6_longest_1 : cX6_longest.data.toList.drop 22 = dktX6_longest_1 := dk_seg dksX6_longest_0 22 rfl rfl
theorem dksX6_longest_2 : cX6_longest.data.toList.drop 45 = dktX6_longest_2 := dk_seg dksX6_longest_1 23 rfl rfl
theorem dksX6_longest_3 : cX6_longest.data.toList.drop 69 = dktX6_longest_3 := dk_seg dksX6_longest_2 24 rfl rfl
theorem dksX6_longest_4 : cX6_longest.data.toList.drop 92 = dktX6_longest_4 := dk_seg dksX6_longest_3 23 rfl rfl
theorem dksX6_longest_5 : cX6_longest.data.toList.drop 115 = dktX6_longest_5 := dk_seg dksX6_longest_4 23 rfl rfl
theorem dksX6_longest_6 : cX6_longest.data.toList.drop 138 = dktX6_longest_6 := dk_seg dksX6_longest_5 23 rfl rfl
theorem dksX6_longest_7 : cX6_longest.data.toList.drop 161 = dktX6_longest_7 := dk_seg dksX6_longest_6 23 rfl rfl
theorem dksX6_longest_8 : cX6_longest.data.toList.drop 183 = dktX6_longest_8 := dk_seg dksX6_longest_7 22 rfl rfl
theorem dksX6_longest_9 : cX6_longest.data.toList.drop 207 = dktX6_longest_9 := dk_seg dksX6_longest_8 24 rfl rfl
theorem dX6_longest_0 : decode cX6_longest 0 = .ok (.iload_n 1, 1) := dk_27 (dk_at dksX6_longest_0 0 rfl rfl)
theorem dX6_longest_1 : decode cX6_longest 1 = .ok (.iconst 0, 1) := dk_3 (dk_at dksX6_longest_0 1 rfl rfl)
theorem dX6_longest_2 : decode cX6_longest 2 = .ok (.iconst 1, 1) := dk_4 (dk_at dksX6_longest_0 2 rfl rfl)
theorem dX6_longest_3 : decode cX6_longest 3 = .ok (.invokestatic 104, 3) := dk_184 0 104 (dk_at dksX6_longest_0 3 rfl rfl)
theorem dX6_longest_6 : decode cX6_longest 6 = .ok (.ifCond .ne 5, 3) := dk_154 0 5 (dk_at dksX6_longest_0 6 rfl rfl)
theorem dX6_longest_9 : decode cX6_longest 9 = .ok (.iconst (-1), 1) := dk_2 (dk_at dksX6_longest_0 9 rfl rfl)
theorem dX6_longest_10 : decode cX6_longest 10 = .ok (.ireturn, 1) := dk_172 (dk_at dksX6_longest_0 10 rfl rfl)
theorem dX6_longest_11 : decode cX6_longest 11 = .ok (.iconst 0, 1) := dk_3 (dk_at dksX6_longest_0 11 rfl rfl)
theorem dX6_longest_12 : decode cX6_longest 12 = .ok (.istore_n 2, 1) := dk_61 (dk_at dksX6_longest_0 12 rfl rfl)
theorem dX6_longest_13 : decode cX6_longest 13 = .ok (.iconst 0, 1) := dk_3 (dk_at dksX6_longest_0 13 rfl rfl)
theorem dX6_longest_14 : decode cX6_longest 14 = .ok (.istore_n 3, 1) := dk_62 (dk_at dksX6_longest_0 14 rfl rfl)
theorem dX6_longest_15 : decode cX6_longest 15 = .ok (.iconst 1, 1) := dk_4 (dk_at dksX6_longest_0 15 rfl rfl)
theorem dX6_longest_16 : decode cX6_longest 16 = .ok (.istore 4, 2) := dk_54 4 (dk_at dksX6_longest_0 16 rfl rfl)
theorem dX6_longest_18 : decode cX6_longest 18 = .ok (.iload 4, 2) := dk_21 4 (dk_at dksX6_longest_0 18 rfl rfl)
theorem dX6_longest_20 : decode cX6_longest 20 = .ok (.ldc 80, 2) := dk_18 80 (dk_at dksX6_longest_0 20 rfl rfl)
theorem dX6_longest_22 : decode cX6_longest 22 = .ok (.if_icmp .ge 167, 3) := dk_162 0 167 (dk_at dksX6_longest_1 0 rfl rfl)
theorem dX6_longest_25 : decode cX6_longest 25 = .ok (.aload_n 0, 1) := dk_42 (dk_at dksX6_longest_1 3 rfl rfl)
theorem dX6_longest_26 : decode cX6_longest 26 = .ok (.getfield 88, 3) := dk_180 0 88 (dk_at dksX6_longest_1 4 rfl rfl)
theorem dX6_longest_29 : decode cX6_longest 29 = .ok (.iload 4, 2) := dk_21 4 (dk_at dksX6_longest_1 7 rfl rfl)
theorem dX6_longest_31 : decode cX6_longest 31 = .ok (.iconst 0, 1) := dk_3 (dk_at dksX6_longest_1 9 rfl rfl)
theorem dX6_longest_32 : decode cX6_longest 32 = .ok (.iastore, 1) := dk_79 (dk_at dksX6_longest_1 10 rfl rfl)
theorem dX6_longest_33 : decode cX6_longest 33 = .ok (.iload 4, 2) := dk_21 4 (dk_at dksX6_longest_1 11 rfl rfl)
theorem dX6_longest_35 : decode cX6_longest 35 = .ok (.aload_n 0, 1) := dk_42 (dk_at dksX6_longest_1 13 rfl rfl)
theorem dX6_longest_36 : decode cX6_longest 36 = .ok (.getfield 108, 3) := dk_180 0 108 (dk_at dksX6_longest_1 14 rfl rfl)
theorem dX6_longest_39 : decode cX6_longest 39 = .ok (.iconst (-1), 1) := dk_2 (dk_at dksX6_longest_1 17 rfl rfl)
theorem dX6_longest_40 : decode cX6_longest 40 = .ok (.ixor, 1) := dk_130 (dk_at dksX6_longest_1 18 rfl rfl)
theorem dX6_longest_41 : decode cX6_longest 41 = .ok (.iand, 1) := dk_126 (dk_at dksX6_longest_1 19 rfl rfl)
theorem dX6_longest_42 : decode cX6_longest 42 = .ok (.ifCond .eq 6, 3) := dk_153 0 6 (dk_at dksX6_longest_1 20 rfl rfl)
theorem dX6_longest_45 : decode cX6_longest 45 = .ok (.goto 138, 3) := dk_167 0 138 (dk_at dksX6_longest_2 0 rfl rfl)
theorem dX6_longest_48 : decode cX6_longest 48 = .ok (.iconst 0, 1) := dk_3 (dk_at dksX6_longest_2 3 rfl rfl)
theorem dX6_longest_49 : decode cX6_longest 49 = .ok (.istore 5, 2) := dk_54 5 (dk_at dksX6_longest_2 4 rfl rfl)
theorem dX6_longest_51 : decode cX6_longest 51 = .ok (.iload 5, 2) := dk_21 5 (dk_at dksX6_longest_2 6 rfl rfl)
theorem dX6_longest_53 : decode cX6_longest 53 = .ok (.bipush 16, 2) := dk_16 16 (dk_at dksX6_longest_2 8 rfl rfl)
theorem dX6_longest_55 : decode cX6_longest 55 = .ok (.if_icmp .ge 71, 3) := dk_162 0 71 (dk_at dksX6_longest_2 10 rfl rfl)
theorem dX6_longest_58 : decode cX6_longest 58 = .ok (.iload 4, 2) := dk_21 4 (dk_at dksX6_longest_2 13 rfl rfl)
theorem dX6_longest_60 : decode cX6_longest 60 = .ok (.iconst 1, 1) := dk_4 (dk_at dksX6_longest_2 15 rfl rfl)
theorem dX6_longest_61 : decode cX6_longest 61 = .ok (.iload 5, 2) := dk_21 5 (dk_at dksX6_longest_2 16 rfl rfl)
theorem dX6_longest_63 : decode cX6_longest 63 = .ok (.ishl, 1) := dk_120 (dk_at dksX6_longest_2 18 rfl rfl)
theorem dX6_longest_64 : decode cX6_longest 64 = .ok (.iconst (-1), 1) := dk_2 (dk_at dksX6_longest_2 19 rfl rfl)
theorem dX6_longest_65 : decode cX6_longest 65 = .ok (.ixor, 1) := dk_130 (dk_at dksX6_longest_2 20 rfl rfl)
theorem dX6_longest_66 : decode cX6_longest 66 = .ok (.iand, 1) := dk_126 (dk_at dksX6_longest_2 21 rfl rfl)
theorem dX6_longest_67 : decode cX6_longest 67 = .ok (.istore 6, 2) := dk_54 6 (dk_at dksX6_longest_2 22 rfl rfl)
theorem dX6_longest_69 : decode cX6_longest 69 = .ok (.iload 4, 2) := dk_21 4 (dk_at dksX6_longest_3 0 rfl rfl)
theorem dX6_longest_71 : decode cX6_longest 71 = .ok (.iload 5, 2) := dk_21 5 (dk_at dksX6_longest_3 2 rfl rfl)
theorem dX6_longest_73 : decode cX6_longest 73 = .ok (.invokestatic 100, 3) := dk_184 0 100 (dk_at dksX6_longest_3 4 rfl rfl)
theorem dX6_longest_76 : decode cX6_longest 76 = .ok (.ifCond .eq 44, 3) := dk_153 0 44 (dk_at dksX6_longest_3 7 rfl rfl)
theorem dX6_longest_79 : decode cX6_longest 79 = .ok (.iload 6, 2) := dk_21 6 (dk_at dksX6_longest_3 10 rfl rfl)
theorem dX6_longest_81 : decode cX6_longest 81 = .ok (.ifCond .eq 20, 3) := dk_153 0 20 (dk_at dksX6_longest_3 12 rfl rfl)
theorem dX6_longest_84 : decode cX6_longest 84 = .ok (.aload_n 0, 1) := dk_42 (dk_at dksX6_longest_3 15 rfl rfl)
theorem dX6_longest_85 : decode cX6_longest 85 = .ok (.getfield 88, 3) := dk_180 0 88 (dk_at dksX6_longest_3 16 rfl rfl)
theorem dX6_longest_88 : decode cX6_longest 88 = .ok (.iload 6, 2) := dk_21 6 (dk_at dksX6_longest_3 19 rfl rfl)
theorem dX6_longest_90 : decode cX6_longest 90 = .ok (.iaload, 1) := dk_46 (dk_at dksX6_longest_3 21 rfl rfl)
theorem dX6_longest_91 : decode cX6_longest 91 = .ok (.aload_n 0, 1) := dk_42 (dk_at dksX6_longest_3 22 rfl rfl)
theorem dX6_longest_92 : decode cX6_longest 92 = .ok (.iload 5, 2) := dk_21 5 (dk_at dksX6_longest_4 0 rfl rfl)
theorem dX6_longest_94 : decode cX6_longest 94 = .ok (.invokevirtual 291, 3) := dk_182 1 35 (dk_at dksX6_longest_4 2 rfl rfl)
theorem dX6_longest_97 : decode cX6_longest 97 = .ok (.iand, 1) := dk_126 (dk_at dksX6_longest_4 5 rfl rfl)
theorem dX6_longest_98 : decode cX6_longest 98 = .ok (.ifCond .eq 22, 3) := dk_153 0 22 (dk_at dksX6_longest_4 6 rfl rfl)
theorem dX6_longest_101 : decode cX6_longest 101 = .ok (.aload_n 0, 1) := dk_42 (dk_at dksX6_longest_4 9 rfl rfl)
theorem dX6_longest_102 : decode cX6_longest 102 = .ok (.getfield 88, 3) := dk_180 0 88 (dk_at dksX6_longest_4 10 rfl rfl)
theorem dX6_longest_105 : decode cX6_longest 105 = .ok (.iload 4, 2) := dk_21 4 (dk_at dksX6_longest_4 13 rfl rfl)
theorem dX6_longest_107 : decode cX6_longest 107 = .ok (.aload_n 0, 1) := dk_42 (dk_at dksX6_longest_4 15 rfl rfl)
theorem dX6_longest_108 : decode cX6_longest 108 = .ok (.getfield 88, 3) := dk_180 0 88 (dk_at dksX6_longest_4 16 rfl rfl)
theorem dX6_longest_111 : decode cX6_longest 111 = .ok (.iload 4, 2) := dk_21 4 (dk_at dksX6_longest_4 19 rfl rfl)
theorem dX6_longest_113 : decode cX6_longest 113 = .ok (.iaload, 1) := dk_46 (dk_at dksX6_longest_4 21 rfl rfl)
theorem dX6_longest_114 : decode cX6_longest 114 = .ok (.iconst 1, 1) := dk_4 (dk_at dksX6_longest_4 22 rfl rfl)
theorem dX6_longest_115 : decode cX6_longest 115 = .ok (.iload 5, 2) := dk_21 5 (dk_at dksX6_longest_5 0 rfl rfl)
theorem dX6_longest_117 : decode cX6_longest 117 = .ok (.ishl, 1) := dk_120 (dk_at dksX6_longest_5 2 rfl rfl)
theorem dX6_longest_118 : decode cX6_longest 118 = .ok (.ior, 1) := dk_128 (dk_at dksX6_longest_5 3 rfl rfl)
theorem dX6_longest_119 : decode cX6_longest 119 = .ok (.iastore, 1) := dk_79 (dk_at dksX6_longest_5 4 rfl rfl)
theorem dX6_longest_120 : decode cX6_longest 120 = .ok (.iinc 5 1, 3) := dk_132 5 1 (dk_at dksX6_longest_5 5 rfl rfl)
theorem dX6_longest_123 : decode cX6_longest 123 = .ok (.goto (-72), 3) := dk_167 255 184 (dk_at dksX6_longest_5 8 rfl rfl)
theorem dX6_longest_126 : decode cX6_longest 126 = .ok (.aload_n 0, 1) := dk_42 (dk_at dksX6_longest_5 11 rfl rfl)
theorem dX6_longest_127 : decode cX6_longest 127 = .ok (.getfield 88, 3) := dk_180 0 88 (dk_at dksX6_longest_5 12 rfl rfl)
theorem dX6_longest_130 : decode cX6_longest 130 = .ok (.iload 4, 2) := dk_21 4 (dk_at dksX6_longest_5 15 rfl rfl)
theorem dX6_longest_132 : decode cX6_longest 132 = .ok (.iaload, 1) := dk_46 (dk_at dksX6_longest_5 17 rfl rfl)
theorem dX6_longest_133 : decode cX6_longest 133 = .ok (.ifCond .eq 50, 3) := dk_153 0 50 (dk_at dksX6_longest_5 18 rfl rfl)
theorem dX6_longest_136 : decode cX6_longest 136 = .ok (.iload 4, 2) := dk_21 4 (dk_at dksX6_longest_5 21 rfl rfl)
theorem dX6_longest_138 : decode cX6_longest 138 = .ok (.invokestatic 276, 3) := dk_184 1 20 (dk_at dksX6_longest_6 0 rfl rfl)
theorem dX6_longest_141 : decode cX6_longest 141 = .ok (.iload_n 2, 1) := dk_28 (dk_at dksX6_longest_6 3 rfl rfl)
theorem dX6_longest_142 : decode cX6_longest 142 = .ok (.if_icmp .ge 6, 3) := dk_162 0 6 (dk_at dksX6_longest_6 4 rfl rfl)
theorem dX6_longest_145 : decode cX6_longest 145 = .ok (.goto 38, 3) := dk_167 0 38 (dk_at dksX6_longest_6 7 rfl rfl)
theorem dX6_longest_148 : decode cX6_longest 148 = .ok (.iload 4, 2) := dk_21 4 (dk_at dksX6_longest_6 10 rfl rfl)
theorem dX6_longest_150 : decode cX6_longest 150 = .ok (.invokestatic 276, 3) := dk_184 1 20 (dk_at dksX6_longest_6 12 rfl rfl)
theorem dX6_longest_153 : decode cX6_longest 153 = .ok (.iload_n 2, 1) := dk_28 (dk_at dksX6_longest_6 15 rfl rfl)
theorem dX6_longest_154 : decode cX6_longest 154 = .ok (.if_icmp .le 13, 3) := dk_164 0 13 (dk_at dksX6_longest_6 16 rfl rfl)
theorem dX6_longest_157 : decode cX6_longest 157 = .ok (.aload_n 0, 1) := dk_42 (dk_at dksX6_longest_6 19 rfl rfl)
theorem dX6_longest_158 : decode cX6_longest 158 = .ok (.getfield 88, 3) := dk_180 0 88 (dk_at dksX6_longest_6 20 rfl rfl)
theorem dX6_longest_161 : decode cX6_longest 161 = .ok (.iload 4, 2) := dk_21 4 (dk_at dksX6_longest_7 0 rfl rfl)
theorem dX6_longest_163 : decode cX6_longest 163 = .ok (.iaload, 1) := dk_46 (dk_at dksX6_longest_7 2 rfl rfl)
theorem dX6_longest_164 : decode cX6_longest 164 = .ok (.goto 12, 3) := dk_167 0 12 (dk_at dksX6_longest_7 3 rfl rfl)
theorem dX6_longest_167 : decode cX6_longest 167 = .ok (.iload_n 3, 1) := dk_29 (dk_at dksX6_longest_7 6 rfl rfl)
theorem dX6_longest_168 : decode cX6_longest 168 = .ok (.aload_n 0, 1) := dk_42 (dk_at dksX6_longest_7 7 rfl rfl)
theorem dX6_longest_169 : decode cX6_longest 169 = .ok (.getfield 88, 3) := dk_180 0 88 (dk_at dksX6_longest_7 8 rfl rfl)
theorem dX6_longest_172 : decode cX6_longest 172 = .ok (.iload 4, 2) := dk_21 4 (dk_at dksX6_longest_7 11 rfl rfl)
theorem dX6_longest_174 : decode cX6_longest 174 = .ok (.iaload, 1) := dk_46 (dk_at dksX6_longest_7 13 rfl rfl)
theorem dX6_longest_175 : decode cX6_longest 175 = .ok (.ior, 1) := dk_128 (dk_at dksX6_longest_7 14 rfl rfl)
theorem dX6_longest_176 : decode cX6_longest 176 = .ok (.istore_n 3, 1) := dk_62 (dk_at dksX6_longest_7 15 rfl rfl)
theorem dX6_longest_177 : decode cX6_longest 177 = .ok (.iload 4, 2) := dk_21 4 (dk_at dksX6_longest_7 16 rfl rfl)
theorem dX6_longest_179 : decode cX6_longest 179 = .ok (.invokestatic 276, 3) := dk_184 1 20 (dk_at dksX6_longest_7 18 rfl rfl)
theorem dX6_longest_182 : decode cX6_longest 182 = .ok (.istore_n 2, 1) := dk_61 (dk_at dksX6_longest_7 21 rfl rfl)
theorem dX6_longest_183 : decode cX6_longest 183 = .ok (.iinc 4 1, 3) := dk_132 4 1 (dk_at dksX6_longest_8 0 rfl rfl)
theorem dX6_longest_186 : decode cX6_longest 186 = .ok (.goto (-168), 3) := dk_167 255 88 (dk_at dksX6_longest_8 3 rfl rfl)
theorem dX6_longest_189 : decode cX6_longest 189 = .ok (.iload_n 1, 1) := dk_27 (dk_at dksX6_longest_8 6 rfl rfl)
theorem dX6_longest_190 : decode cX6_longest 190 = .ok (.ifCond .ne 7, 3) := dk_154 0 7 (dk_at dksX6_longest_8 7 rfl rfl)
theorem dX6_longest_193 : decode cX6_longest 193 = .ok (.iload_n 2, 1) := dk_28 (dk_at dksX6_longest_8 10 rfl rfl)
theorem dX6_longest_194 : decode cX6_longest 194 = .ok (.goto 16, 3) := dk_167 0 16 (dk_at dksX6_longest_8 11 rfl rfl)
theorem dX6_longest_197 : decode cX6_longest 197 = .ok (.iload_n 2, 1) := dk_28 (dk_at dksX6_longest_8 14 rfl rfl)
theorem dX6_longest_198 : decode cX6_longest 198 = .ok (.ifCond .ne 8, 3) := dk_154 0 8 (dk_at dksX6_longest_8 15 rfl rfl)
theorem dX6_longest_201 : decode cX6_longest 201 = .ok (.bipush (-2), 2) := dk_16 254 (dk_at dksX6_longest_8 18 rfl rfl)
theorem dX6_longest_203 : decode cX6_longest 203 = .ok (.goto 7, 3) := dk_167 0 7 (dk_at dksX6_longest_8 20 rfl rfl)
theorem dX6_longest_206 : decode cX6_longest 206 = .ok (.iload_n 3, 1) := dk_29 (dk_at dksX6_longest_8 23 rfl rfl)
theorem dX6_longest_207 : decode cX6_longest 207 = .ok (.invokestatic 343, 3) := dk_184 1 87 (dk_at dksX6_longest_9 0 rfl rfl)
theorem dX6_longest_210 : decode cX6_longest 210 = .ok (.ireturn, 1) := dk_172 (dk_at dksX6_longest_9 3 rfl rfl)
abbrev cX6_luckless : ByteArray := prog_20_method_83_code
def yX6_luckless : MethodName := ⟨RX6, "luckless", "(I)I"⟩
def dkwX6_luckless_4 : List UInt8 := [28, 4, 29, 120, 2, 130, 126, 61, 132, 4, 1, 167, 255, 186, 29, 172]
abbrev dktX6_luckless_4 : List UInt8 := dkwX6_luckless_4 ++ []
def dkwX6_luckless_3 : List UInt8 := [21, 5, 96, 46, 42, 180, 0, 7, 3, 29, 96, 46, 164, 0, 6, 21, 5, 62, 132, 5, 1, 167, 255, 214]
abbrev dktX6_luckless_3 : List UInt8 := dkwX6_luckless_3 ++ dktX6_luckless_4
def dkwX6_luckless_2 : List UInt8 := [29, 54, 5, 21, 5, 16, 16, 162, 0, 41, 28, 21, 5, 184, 0, 100, 153, 0, 26, 42, 180, 0, 7, 3]
abbrev dktX6_luckless_2 : List UInt8 := dkwX6_luckless_2 ++ dktX6_luckless_3
def dkwX6_luckless_1 : List UInt8 := [16, 252, 172, 42, 180, 0, 108, 61, 2, 62, 3, 54, 4, 21, 4, 27, 163, 0, 70, 28, 184, 1, 87, 62]
abbrev dktX6_luckless_1 : List UInt8 := dkwX6_luckless_1 ++ dktX6_luckless_2
def dkwX6_luckless_0 : List UInt8 := [27, 3, 16, 15, 184, 0, 104, 154, 0, 5, 2, 172, 27, 42, 180, 0, 108, 184, 1, 20, 161, 0, 6]
abbrev dktX6_luckless_0 : List UInt8 := dkwX6_luckless_0 ++ dktX6_luckless_1
theorem dksX6_luckless_0 : cX6_luckless.data.toList.drop 0 = dktX6_luckless_0 := by decide +kernel
theorem dksX6_luckless_1 : cX6_luckless.data.toList.drop 23 = dktX6_luckless_1 := dk_seg dksX6_luckless_0 23 rfl rfl
theorem dksX6_luckless_2 : cX6_luckless.data.toList.drop 47 = dktX6_luckless_2 := dk_seg dksX6_luckless_1 24 rfl rfl
theorem dksX6_luckless_3 : cX6_luckless.data.toList.drop 71 = dktX6_luckless_3 := dk_seg dksX6_luckless_2 24 rfl rfl
theorem dksX6_luckless_4 : cX6_luckless.data.toList.drop 95 = dktX6_luckless_4 := dk_seg dksX6_luckless_3 24 rfl rfl
theorem dX6_luckless_0 : decode cX6_luckless 0 = .ok (.iload_n 1, 1) := dk_27 (dk_at dksX6_luckless_0 0 rfl rfl)
theorem dX6_luckless_1 : decode cX6_luckless 1 = .ok (.iconst 0, 1) := dk_3 (dk_at dksX6_luckless_0 1 rfl rfl)
theorem dX6_luckless_2 : decode cX6_luckless 2 = .ok (.bipush 15, 2) := dk_16 15 (dk_at dksX6_luckless_0 2 rfl rfl)
theorem dX6_luckless_4 : decode cX6_luckless 4 = .ok (.invokestatic 104, 3) := dk_184 0 104 (dk_at dksX6_luckless_0 4 rfl rfl)
theorem dX6_luckless_7 : decode cX6_luckless 7 = .ok (.ifCond .ne 5, 3) := dk_154 0 5 (dk_at dksX6_luckless_0 7 rfl rfl)
theorem dX6_luckless_10 : decode cX6_luckless 10 = .ok (.iconst (-1), 1) := dk_2 (dk_at dksX6_luckless_0 10 rfl rfl)
theorem dX6_luckless_11 : decode cX6_luckless 11 = .ok (.ireturn, 1) := dk_172 (dk_at dksX6_luckless_0 11 rfl rfl)
theorem dX6_luckless_12 : decode cX6_luckless 12 = .ok (.iload_n 1, 1) := dk_27 (dk_at dksX6_luckless_0 12 rfl rfl)
theorem dX6_luckless_13 : decode cX6_luckless 13 = .ok (.aload_n 0, 1) := dk_42 (dk_at dksX6_luckless_0 13 rfl rfl)
theorem dX6_luckless_14 : decode cX6_luckless 14 = .ok (.getfield 108, 3) := dk_180 0 108 (dk_at dksX6_luckless_0 14 rfl rfl)
theorem dX6_luckless_17 : decode cX6_luckless 17 = .ok (.invokestatic 276, 3) := dk_184 1 20 (dk_at dksX6_luckless_0 17 rfl rfl)
theorem dX6_luckless_20 : decode cX6_luckless 20 = .ok (.if_icmp .lt 6, 3) := dk_161 0 6 (dk_at dksX6_luckless_0 20 rfl rfl)
theorem dX6_luckless_23 : decode cX6_luckless 23 = .ok (.bipush (-4), 2) := dk_16 252 (dk_at dksX6_luckless_1 0 rfl rfl)
theorem dX6_luckless_25 : decode cX6_luckless 25 = .ok (.ireturn, 1) := dk_172 (dk_at dksX6_luckless_1 2 rfl rfl)
theorem dX6_luckless_26 : decode cX6_luckless 26 = .ok (.aload_n 0, 1) := dk_42 (dk_at dksX6_luckless_1 3 rfl rfl)
theorem dX6_luckless_27 : decode cX6_luckless 27 = .ok (.getfield 108, 3) := dk_180 0 108 (dk_at dksX6_luckless_1 4 rfl rfl)
theorem dX6_luckless_30 : decode cX6_luckless 30 = .ok (.istore_n 2, 1) := dk_61 (dk_at dksX6_luckless_1 7 rfl rfl)
theorem dX6_luckless_31 : decode cX6_luckless 31 = .ok (.iconst (-1), 1) := dk_2 (dk_at dksX6_luckless_1 8 rfl rfl)
theorem dX6_luckless_32 : decode cX6_luckless 32 = .ok (.istore_n 3, 1) := dk_62 (dk_at dksX6_luckless_1 9 rfl rfl)
theorem dX6_luckless_33 : decode cX6_luckless 33 = .ok (.iconst 0, 1) := dk_3 (dk_at dksX6_luckless_1 10 rfl rfl)
theorem dX6_luckless_34 : decode cX6_luckless 34 = .ok (.istore 4, 2) := dk_54 4 (dk_at dksX6_luckless_1 11 rfl rfl)
theorem dX6_luckless_36 : decode cX6_luckless 36 = .ok (.iload 4, 2) := dk_21 4 (dk_at dksX6_luckless_1 13 rfl rfl)
theorem dX6_luckless_38 : decode cX6_luckless 38 = .ok (.iload_n 1, 1) := dk_27 (dk_at dksX6_luckless_1 15 rfl rfl)
theorem dX6_luckless_39 : decode cX6_luckless 39 = .ok (.if_icmp .gt 70, 3) := dk_163 0 70 (dk_at dksX6_luckless_1 16 rfl rfl)
theorem dX6_luckless_42 : decode cX6_luckless 42 = .ok (.iload_n 2, 1) := dk_28 (dk_at dksX6_luckless_1 19 rfl rfl)
theorem dX6_luckless_43 : decode cX6_luckless 43 = .ok (.invokestatic 343, 3) := dk_184 1 87 (dk_at dksX6_luckless_1 20 rfl rfl)
theorem dX6_luckless_46 : decode cX6_luckless 46 = .ok (.istore_n 3, 1) := dk_62 (dk_at dksX6_luckless_1 23 rfl rfl)
theorem dX6_luckless_47 : decode cX6_luckless 47 = .ok (.iload_n 3, 1) := dk_29 (dk_at dksX6_luckless_2 0 rfl rfl)
theorem dX6_luckless_48 : decode cX6_luckless 48 = .ok (.istore 5, 2) := dk_54 5 (dk_at dksX6_luckless_2 1 rfl rfl)
theorem dX6_luckless_50 : decode cX6_luckless 50 = .ok (.iload 5, 2) := dk_21 5 (dk_at dksX6_luckless_2 3 rfl rfl)
theorem dX6_luckless_52 : decode cX6_luckless 52 = .ok (.bipush 16, 2) := dk_16 16 (dk_at dksX6_luckless_2 5 rfl rfl)
theorem dX6_luckless_54 : decode cX6_luckless 54 = .ok (.if_icmp .ge 41, 3) := dk_162 0 41 (dk_at dksX6_luckless_2 7 rfl rfl)
theorem dX6_luckless_57 : decode cX6_luckless 57 = .ok (.iload_n 2, 1) := dk_28 (dk_at dksX6_luckless_2 10 rfl rfl)
theorem dX6_luckless_58 : decode cX6_luckless 58 = .ok (.iload 5, 2) := dk_21 5 (dk_at dksX6_luckless_2 11 rfl rfl)
theorem dX6_luckless_60 : decode cX6_luckless 60 = .ok (.invokestatic 100, 3) := dk_184 0 100 (dk_at dksX6_luckless_2 13 rfl rfl)
theorem dX6_luckless_63 : decode cX6_luckless 63 = .ok (.ifCond .eq 26, 3) := dk_153 0 26 (dk_at dksX6_luckless_2 16 rfl rfl)
theorem dX6_luckless_66 : decode cX6_luckless 66 = .ok (.aload_n 0, 1) := dk_42 (dk_at dksX6_luckless_2 19 rfl rfl)
theorem dX6_luckless_67 : decode cX6_luckless 67 = .ok (.getfield 7, 3) := dk_180 0 7 (dk_at dksX6_luckless_2 20 rfl rfl)
theorem dX6_luckless_70 : decode cX6_luckless 70 = .ok (.iconst 0, 1) := dk_3 (dk_at dksX6_luckless_2 23 rfl rfl)
theorem dX6_luckless_71 : decode cX6_luckless 71 = .ok (.iload 5, 2) := dk_21 5 (dk_at dksX6_luckless_3 0 rfl rfl)
theorem dX6_luckless_73 : decode cX6_luckless 73 = .ok (.iadd, 1) := dk_96 (dk_at dksX6_luckless_3 2 rfl rfl)
theorem dX6_luckless_74 : decode cX6_luckless 74 = .ok (.iaload, 1) := dk_46 (dk_at dksX6_luckless_3 3 rfl rfl)
theorem dX6_luckless_75 : decode cX6_luckless 75 = .ok (.aload_n 0, 1) := dk_42 (dk_at dksX6_luckless_3 4 rfl rfl)
theorem dX6_luckless_76 : decode cX6_luckless 76 = .ok (.getfield 7, 3) := dk_180 0 7 (dk_at dksX6_luckless_3 5 rfl rfl)
theorem dX6_luckless_79 : decode cX6_luckless 79 = .ok (.iconst 0, 1) := dk_3 (dk_at dksX6_luckless_3 8 rfl rfl)
theorem dX6_luckless_80 : decode cX6_luckless 80 = .ok (.iload_n 3, 1) := dk_29 (dk_at dksX6_luckless_3 9 rfl rfl)
theorem dX6_luckless_81 : decode cX6_luckless 81 = .ok (.iadd, 1) := dk_96 (dk_at dksX6_luckless_3 10 rfl rfl)
theorem dX6_luckless_82 : decode cX6_luckless 82 = .ok (.iaload, 1) := dk_46 (dk_at dksX6_luckless_3 11 rfl rfl)
theorem dX6_luckless_83 : decode cX6_luckless 83 = .ok (.if_icmp .le 6, 3) := dk_164 0 6 (dk_at dksX6_luckless_3 12 rfl rfl)
theorem dX6_luckless_86 : decode cX6_luckless 86 = .ok (.iload 5, 2) := dk_21 5 (dk_at dksX6_luckless_3 15 rfl rfl)
theorem dX6_luckless_88 : decode cX6_luckless 88 = .ok (.istore_n 3, 1) := dk_62 (dk_at dksX6_luckless_3 17 rfl rfl)
theorem dX6_luckless_89 : decode cX6_luckless 89 = .ok (.iinc 5 1, 3) := dk_132 5 1 (dk_at dksX6_luckless_3 18 rfl rfl)
theorem dX6_luckless_92 : decode cX6_luckless 92 = .ok (.goto (-42), 3) := dk_167 255 214 (dk_at dksX6_luckless_3 21 rfl rfl)
theorem dX6_luckless_95 : decode cX6_luckless 95 = .ok (.iload_n 2, 1) := dk_28 (dk_at dksX6_luckless_4 0 rfl rfl)
theorem dX6_luckless_96 : decode cX6_luckless 96 = .ok (.iconst 1, 1) := dk_4 (dk_at dksX6_luckless_4 1 rfl rfl)
theorem dX6_luckless_97 : decode cX6_luckless 97 = .ok (.iload_n 3, 1) := dk_29 (dk_at dksX6_luckless_4 2 rfl rfl)
theorem dX6_luckless_98 : decode cX6_luckless 98 = .ok (.ishl, 1) := dk_120 (dk_at dksX6_luckless_4 3 rfl rfl)
theorem dX6_luckless_99 : decode cX6_luckless 99 = .ok (.iconst (-1), 1) := dk_2 (dk_at dksX6_luckless_4 4 rfl rfl)
theorem dX6_luckless_100 : decode cX6_luckless 100 = .ok (.ixor, 1) := dk_130 (dk_at dksX6_luckless_4 5 rfl rfl)
theorem dX6_luckless_101 : decode cX6_luckless 101 = .ok (.iand, 1) := dk_126 (dk_at dksX6_luckless_4 6 rfl rfl)
theorem dX6_luckless_102 : decode cX6_luckless 102 = .ok (.istore_n 2, 1) := dk_61 (dk_at dksX6_luckless_4 7 rfl rfl)
theorem dX6_luckless_103 : decode cX6_luckless 103 = .ok (.iinc 4 1, 3) := dk_132 4 1 (dk_at dksX6_luckless_4 8 rfl rfl)
theorem dX6_luckless_106 : decode cX6_luckless 106 = .ok (.goto (-70), 3) := dk_167 255 186 (dk_at dksX6_luckless_4 11 rfl rfl)
theorem dX6_luckless_109 : decode cX6_luckless 109 = .ok (.iload_n 3, 1) := dk_29 (dk_at dksX6_luckless_4 14 rfl rfl)
theorem dX6_luckless_110 : decode cX6_luckless 110 = .ok (.ireturn, 1) := dk_172 (dk_at dksX6_luckless_4 15 rfl rfl)
abbrev cX6_stretch : ByteArray := prog_20_method_85_code
def yX6_stretch : MethodName := ⟨RX6, "stretch", "(I)I"⟩
def dkwX6_stretch_3 : List UInt8 := [132, 5, 1, 167, 255, 206, 27, 154, 0, 7, 28, 167, 0, 4, 29, 172]
abbrev dktX6_stretch_3 : List UInt8 := dkwX6_stretch_3 ++ []
def dkwX6_stretch_2 : List UInt8 := [21, 5, 21, 4, 100, 28, 164, 0, 12, 21, 5, 21, 4, 100, 61, 21, 4, 62, 21, 5, 54, 4]
abbrev dktX6_stretch_2 : List UInt8 := dkwX6_stretch_2 ++ dktX6_stretch_3
def dkwX6_stretch_1 : List UInt8 := [16, 99, 163, 0, 49, 42, 21, 5, 182, 1, 115, 154, 0, 6, 167, 0, 31, 21, 4, 2, 159, 0, 21]
abbrev dktX6_stretch_1 : List UInt8 := dkwX6_stretch_1 ++ dktX6_stretch_2
def dkwX6_stretch_0 : List UInt8 := [27, 3, 4, 184, 0, 104, 154, 0, 5, 2, 172, 3, 61, 16, 254, 62, 2, 54, 4, 3, 54, 5, 21, 5]
abbrev dktX6_stretch_0 : List UInt8 := dkwX6_stretch_0 ++ dktX6_stretch_1
theorem dksX6_stretch_0 : cX6_stretch.data.toList.drop 0 = dktX6_stretch_0 := by decide +kernel
theorem dksX6_stretch_1 : cX6_stretch.data.toList.drop 24 = dktX6_stretch_1 := dk_seg dksX6_stretch_0 24 rfl rfl
theorem dksX6_stretch_2 : cX6_stretch.data.toList.drop 47 = dktX6_stretch_2 := dk_seg dksX6_stretch_1 23 rfl rfl
theorem dksX6_stretch_3 : cX6_stretch.data.toList.drop 69 = dktX6_stretch_3 := dk_seg dksX6_stretch_2 22 rfl rfl
theorem dX6_stretch_0 : decode cX6_stretch 0 = .ok (.iload_n 1, 1) := dk_27 (dk_at dksX6_stretch_0 0 rfl rfl)
theorem dX6_stretch_1 : decode cX6_stretch 1 = .ok (.iconst 0, 1) := dk_3 (dk_at dksX6_stretch_0 1 rfl rfl)
theorem dX6_stretch_2 : decode cX6_stretch 2 = .ok (.iconst 1, 1) := dk_4 (dk_at dksX6_stretch_0 2 rfl rfl)
theorem dX6_stretch_3 : decode cX6_stretch 3 = .ok (.invokestatic 104, 3) := dk_184 0 104 (dk_at dksX6_stretch_0 3 rfl rfl)
theorem dX6_stretch_6 : decode cX6_stretch 6 = .ok (.ifCond .ne 5, 3) := dk_154 0 5 (dk_at dksX6_stretch_0 6 rfl rfl)
theorem dX6_stretch_9 : decode cX6_stretch 9 = .ok (.iconst (-1), 1) := dk_2 (dk_at dksX6_stretch_0 9 rfl rfl)
theorem dX6_stretch_10 : decode cX6_stretch 10 = .ok (.ireturn, 1) := dk_172 (dk_at dksX6_stretch_0 10 rfl rfl)
theorem dX6_stretch_11 : decode cX6_stretch 11 = .ok (.iconst 0, 1) := dk_3 (dk_at dksX6_stretch_0 11 rfl rfl)
theorem dX6_stretch_12 : decode cX6_stretch 12 = .ok (.istore_n 2, 1) := dk_61 (dk_at dksX6_stretch_0 12 rfl rfl)
theorem dX6_stretch_13 : decode cX6_stretch 13 = .ok (.bipush (-2), 2) := dk_16 254 (dk_at dksX6_stretch_0 13 rfl rfl)
theorem dX6_stretch_15 : decode cX6_stretch 15 = .ok (.istore_n 3, 1) := dk_62 (dk_at dksX6_stretch_0 15 rfl rfl)
theorem dX6_stretch_16 : decode cX6_stretch 16 = .ok (.iconst (-1), 1) := dk_2 (dk_at dksX6_stretch_0 16 rfl rfl)
theorem dX6_stretch_17 : decode cX6_stretch 17 = .ok (.istore 4, 2) := dk_54 4 (dk_at dksX6_stretch_0 17 rfl rfl)
theorem dX6_stretch_19 : decode cX6_stretch 19 = .ok (.iconst 0, 1) := dk_3 (dk_at dksX6_stretch_0 19 rfl rfl)
theorem dX6_stretch_20 : decode cX6_stretch 20 = .ok (.istore 5, 2) := dk_54 5 (dk_at dksX6_stretch_0 20 rfl rfl)
theorem dX6_stretch_22 : decode cX6_stretch 22 = .ok (.iload 5, 2) := dk_21 5 (dk_at dksX6_stretch_0 22 rfl rfl)
theorem dX6_stretch_24 : decode cX6_stretch 24 = .ok (.bipush 99, 2) := dk_16 99 (dk_at dksX6_stretch_1 0 rfl rfl)
theorem dX6_stretch_26 : decode cX6_stretch 26 = .ok (.if_icmp .gt 49, 3) := dk_163 0 49 (dk_at dksX6_stretch_1 2 rfl rfl)
theorem dX6_stretch_29 : decode cX6_stretch 29 = .ok (.aload_n 0, 1) := dk_42 (dk_at dksX6_stretch_1 5 rfl rfl)
theorem dX6_stretch_30 : decode cX6_stretch 30 = .ok (.iload 5, 2) := dk_21 5 (dk_at dksX6_stretch_1 6 rfl rfl)
theorem dX6_stretch_32 : decode cX6_stretch 32 = .ok (.invokevirtual 371, 3) := dk_182 1 115 (dk_at dksX6_stretch_1 8 rfl rfl)
theorem dX6_stretch_35 : decode cX6_stretch 35 = .ok (.ifCond .ne 6, 3) := dk_154 0 6 (dk_at dksX6_stretch_1 11 rfl rfl)
theorem dX6_stretch_38 : decode cX6_stretch 38 = .ok (.goto 31, 3) := dk_167 0 31 (dk_at dksX6_stretch_1 14 rfl rfl)
theorem dX6_stretch_41 : decode cX6_stretch 41 = .ok (.iload 4, 2) := dk_21 4 (dk_at dksX6_stretch_1 17 rfl rfl)
theorem dX6_stretch_43 : decode cX6_stretch 43 = .ok (.iconst (-1), 1) := dk_2 (dk_at dksX6_stretch_1 19 rfl rfl)
theorem dX6_stretch_44 : decode cX6_stretch 44 = .ok (.if_icmp .eq 21, 3) := dk_159 0 21 (dk_at dksX6_stretch_1 20 rfl rfl)
theorem dX6_stretch_47 : decode cX6_stretch 47 = .ok (.iload 5, 2) := dk_21 5 (dk_at dksX6_stretch_2 0 rfl rfl)
theorem dX6_stretch_49 : decode cX6_stretch 49 = .ok (.iload 4, 2) := dk_21 4 (dk_at dksX6_stretch_2 2 rfl rfl)
theorem dX6_stretch_51 : decode cX6_stretch 51 = .ok (.isub, 1) := dk_100 (dk_at dksX6_stretch_2 4 rfl rfl)
theorem dX6_stretch_52 : decode cX6_stretch 52 = .ok (.iload_n 2, 1) := dk_28 (dk_at dksX6_stretch_2 5 rfl rfl)
theorem dX6_stretch_53 : decode cX6_stretch 53 = .ok (.if_icmp .le 12, 3) := dk_164 0 12 (dk_at dksX6_stretch_2 6 rfl rfl)
theorem dX6_stretch_56 : decode cX6_stretch 56 = .ok (.iload 5, 2) := dk_21 5 (dk_at dksX6_stretch_2 9 rfl rfl)
theorem dX6_stretch_58 : decode cX6_stretch 58 = .ok (.iload 4, 2) := dk_21 4 (dk_at dksX6_stretch_2 11 rfl rfl)
theorem dX6_stretch_60 : decode cX6_stretch 60 = .ok (.isub, 1) := dk_100 (dk_at dksX6_stretch_2 13 rfl rfl)
theorem dX6_stretch_61 : decode cX6_stretch 61 = .ok (.istore_n 2, 1) := dk_61 (dk_at dksX6_stretch_2 14 rfl rfl)
theorem dX6_stretch_62 : decode cX6_stretch 62 = .ok (.iload 4, 2) := dk_21 4 (dk_at dksX6_stretch_2 15 rfl rfl)
theorem dX6_stretch_64 : decode cX6_stretch 64 = .ok (.istore_n 3, 1) := dk_62 (dk_at dksX6_stretch_2 17 rfl rfl)
theorem dX6_stretch_65 : decode cX6_stretch 65 = .ok (.iload 5, 2) := dk_21 5 (dk_at dksX6_stretch_2 18 rfl rfl)
theorem dX6_stretch_67 : decode cX6_stretch 67 = .ok (.istore 4, 2) := dk_54 4 (dk_at dksX6_stretch_2 20 rfl rfl)
theorem dX6_stretch_69 : decode cX6_stretch 69 = .ok (.iinc 5 1, 3) := dk_132 5 1 (dk_at dksX6_stretch_3 0 rfl rfl)
theorem dX6_stretch_72 : decode cX6_stretch 72 = .ok (.goto (-50), 3) := dk_167 255 206 (dk_at dksX6_stretch_3 3 rfl rfl)
theorem dX6_stretch_75 : decode cX6_stretch 75 = .ok (.iload_n 1, 1) := dk_27 (dk_at dksX6_stretch_3 6 rfl rfl)
theorem dX6_stretch_76 : decode cX6_stretch 76 = .ok (.ifCond .ne 7, 3) := dk_154 0 7 (dk_at dksX6_stretch_3 7 rfl rfl)
theorem dX6_stretch_79 : decode cX6_stretch 79 = .ok (.iload_n 2, 1) := dk_28 (dk_at dksX6_stretch_3 10 rfl rfl)
theorem dX6_stretch_80 : decode cX6_stretch 80 = .ok (.goto 4, 3) := dk_167 0 4 (dk_at dksX6_stretch_3 11 rfl rfl)
theorem dX6_stretch_83 : decode cX6_stretch 83 = .ok (.iload_n 3, 1) := dk_29 (dk_at dksX6_stretch_3 14 rfl rfl)
theorem dX6_stretch_84 : decode cX6_stretch 84 = .ok (.ireturn, 1) := dk_172 (dk_at dksX6_stretch_3 15 rfl rfl)
abbrev cX6_isHouse : ByteArray := prog_20_method_84_code
def yX6_isHouse : MethodName := ⟨RX6, "isHouse", "(I)Z"⟩
def dkwX6_isHouse_1 : List UInt8 := [160, 0, 5, 4, 172, 132, 2, 1, 167, 255, 227, 3, 172]
abbrev dktX6_isHouse_1 : List UInt8 := dkwX6_isHouse_1 ++ []
def dkwX6_isHouse_0 : List UInt8 := [3, 61, 28, 16, 16, 162, 0, 29, 42, 28, 182, 0, 233, 153, 0, 15, 42, 180, 0, 19, 28, 46, 27]
abbrev dktX6_isHouse_0 : List UInt8 := dkwX6_isHouse_0 ++ dktX6_isHouse_1
theorem dksX6_isHouse_0 : cX6_isHouse.data.toList.drop 0 = dktX6_isHouse_0 := by decide +kernel
theorem dksX6_isHouse_1 : cX6_isHouse.data.toList.drop 23 = dktX6_isHouse_1 := dk_seg dksX6_isHouse_0 23 rfl rfl
theorem dX6_isHouse_0 : decode cX6_isHouse 0 = .ok (.iconst 0, 1) := dk_3 (dk_at dksX6_isHouse_0 0 rfl rfl)
theorem dX6_isHouse_1 : decode cX6_isHouse 1 = .ok (.istore_n 2, 1) := dk_61 (dk_at dksX6_isHouse_0 1 rfl rfl)
theorem dX6_isHouse_2 : decode cX6_isHouse 2 = .ok (.iload_n 2, 1) := dk_28 (dk_at dksX6_isHouse_0 2 rfl rfl)
theorem dX6_isHouse_3 : decode cX6_isHouse 3 = .ok (.bipush 16, 2) := dk_16 16 (dk_at dksX6_isHouse_0 3 rfl rfl)
theorem dX6_isHouse_5 : decode cX6_isHouse 5 = .ok (.if_icmp .ge 29, 3) := dk_162 0 29 (dk_at dksX6_isHouse_0 5 rfl rfl)
theorem dX6_isHouse_8 : decode cX6_isHouse 8 = .ok (.aload_n 0, 1) := dk_42 (dk_at dksX6_isHouse_0 8 rfl rfl)
theorem dX6_isHouse_9 : decode cX6_isHouse 9 = .ok (.iload_n 2, 1) := dk_28 (dk_at dksX6_isHouse_0 9 rfl rfl)
theorem dX6_isHouse_10 : decode cX6_isHouse 10 = .ok (.invokevirtual 233, 3) := dk_182 0 233 (dk_at dksX6_isHouse_0 10 rfl rfl)
theorem dX6_isHouse_13 : decode cX6_isHouse 13 = .ok (.ifCond .eq 15, 3) := dk_153 0 15 (dk_at dksX6_isHouse_0 13 rfl rfl)
theorem dX6_isHouse_16 : decode cX6_isHouse 16 = .ok (.aload_n 0, 1) := dk_42 (dk_at dksX6_isHouse_0 16 rfl rfl)
theorem dX6_isHouse_17 : decode cX6_isHouse 17 = .ok (.getfield 19, 3) := dk_180 0 19 (dk_at dksX6_isHouse_0 17 rfl rfl)
theorem dX6_isHouse_20 : decode cX6_isHouse 20 = .ok (.iload_n 2, 1) := dk_28 (dk_at dksX6_isHouse_0 20 rfl rfl)
theorem dX6_isHouse_21 : decode cX6_isHouse 21 = .ok (.iaload, 1) := dk_46 (dk_at dksX6_isHouse_0 21 rfl rfl)
theorem dX6_isHouse_22 : decode cX6_isHouse 22 = .ok (.iload_n 1, 1) := dk_27 (dk_at dksX6_isHouse_0 22 rfl rfl)
theorem dX6_isHouse_23 : decode cX6_isHouse 23 = .ok (.if_icmp .ne 5, 3) := dk_160 0 5 (dk_at dksX6_isHouse_1 0 rfl rfl)
theorem dX6_isHouse_26 : decode cX6_isHouse 26 = .ok (.iconst 1, 1) := dk_4 (dk_at dksX6_isHouse_1 3 rfl rfl)
theorem dX6_isHouse_27 : decode cX6_isHouse 27 = .ok (.ireturn, 1) := dk_172 (dk_at dksX6_isHouse_1 4 rfl rfl)
theorem dX6_isHouse_28 : decode cX6_isHouse 28 = .ok (.iinc 2 1, 3) := dk_132 2 1 (dk_at dksX6_isHouse_1 5 rfl rfl)
theorem dX6_isHouse_31 : decode cX6_isHouse 31 = .ok (.goto (-29), 3) := dk_167 255 227 (dk_at dksX6_isHouse_1 8 rfl rfl)
theorem dX6_isHouse_34 : decode cX6_isHouse 34 = .ok (.iconst 0, 1) := dk_3 (dk_at dksX6_isHouse_1 11 rfl rfl)
theorem dX6_isHouse_35 : decode cX6_isHouse 35 = .ok (.ireturn, 1) := dk_172 (dk_at dksX6_isHouse_1 12 rfl rfl)
abbrev cX6_inDebt : ByteArray := prog_20_method_86_code
def yX6_inDebt : MethodName := ⟨RX6, "inDebt", "(I)I"⟩
def dkwX6_inDebt_2 : List UInt8 := [120, 128, 61, 132, 3, 1, 167, 255, 218, 28, 172]
abbrev dktX6_inDebt_2 : List UInt8 := dkwX6_inDebt_2 ++ []
def dkwX6_inDebt_1 : List UInt8 := [182, 0, 233, 153, 0, 24, 42, 27, 29, 182, 1, 29, 42, 29, 27, 182, 1, 29, 164, 0, 9, 28, 4, 29]
abbrev dktX6_inDebt_1 : List UInt8 := dkwX6_inDebt_1 ++ dktX6_inDebt_2
def dkwX6_inDebt_0 : List UInt8 := [42, 27, 182, 0, 233, 154, 0, 5, 2, 172, 3, 61, 3, 62, 29, 16, 16, 162, 0, 38, 42, 29]
abbrev dktX6_inDebt_0 : List UInt8 := dkwX6_inDebt_0 ++ dktX6_inDebt_1
theorem dksX6_inDebt_0 : cX6_inDebt.data.toList.drop 0 = dktX6_inDebt_0 := by decide +kernel
theorem dksX6_inDebt_1 : cX6_inDebt.data.toList.drop 22 = dktX6_inDebt_1 := dk_seg dksX6_inDebt_0 22 rfl rfl
theorem dksX6_inDebt_2 : cX6_inDebt.data.toList.drop 46 = dktX6_inDebt_2 := dk_seg dksX6_inDebt_1 24 rfl rfl
theorem dX6_inDebt_0 : decode cX6_inDebt 0 = .ok (.aload_n 0, 1) := dk_42 (dk_at dksX6_inDebt_0 0 rfl rfl)
theorem dX6_inDebt_1 : decode cX6_inDebt 1 = .ok (.iload_n 1, 1) := dk_27 (dk_at dksX6_inDebt_0 1 rfl rfl)
theorem dX6_inDebt_2 : decode cX6_inDebt 2 = .ok (.invokevirtual 233, 3) := dk_182 0 233 (dk_at dksX6_inDebt_0 2 rfl rfl)
theorem dX6_inDebt_5 : decode cX6_inDebt 5 = .ok (.ifCond .ne 5, 3) := dk_154 0 5 (dk_at dksX6_inDebt_0 5 rfl rfl)
theorem dX6_inDebt_8 : decode cX6_inDebt 8 = .ok (.iconst (-1), 1) := dk_2 (dk_at dksX6_inDebt_0 8 rfl rfl)
theorem dX6_inDebt_9 : decode cX6_inDebt 9 = .ok (.ireturn, 1) := dk_172 (dk_at dksX6_inDebt_0 9 rfl rfl)
theorem dX6_inDebt_10 : decode cX6_inDebt 10 = .ok (.iconst 0, 1) := dk_3 (dk_at dksX6_inDebt_0 10 rfl rfl)
theorem dX6_inDebt_11 : decode cX6_inDebt 11 = .ok (.istore_n 2, 1) := dk_61 (dk_at dksX6_inDebt_0 11 rfl rfl)
theorem dX6_inDebt_12 : decode cX6_inDebt 12 = .ok (.iconst 0, 1) := dk_3 (dk_at dksX6_inDebt_0 12 rfl rfl)
theorem dX6_inDebt_13 : decode cX6_inDebt 13 = .ok (.istore_n 3, 1) := dk_62 (dk_at dksX6_inDebt_0 13 rfl rfl)
theorem dX6_inDebt_14 : decode cX6_inDebt 14 = .ok (.iload_n 3, 1) := dk_29 (dk_at dksX6_inDebt_0 14 rfl rfl)
theorem dX6_inDebt_15 : decode cX6_inDebt 15 = .ok (.bipush 16, 2) := dk_16 16 (dk_at dksX6_inDebt_0 15 rfl rfl)
theorem dX6_inDebt_17 : decode cX6_inDebt 17 = .ok (.if_icmp .ge 38, 3) := dk_162 0 38 (dk_at dksX6_inDebt_0 17 rfl rfl)
theorem dX6_inDebt_20 : decode cX6_inDebt 20 = .ok (.aload_n 0, 1) := dk_42 (dk_at dksX6_inDebt_0 20 rfl rfl)
theorem dX6_inDebt_21 : decode cX6_inDebt 21 = .ok (.iload_n 3, 1) := dk_29 (dk_at dksX6_inDebt_0 21 rfl rfl)
theorem dX6_inDebt_22 : decode cX6_inDebt 22 = .ok (.invokevirtual 233, 3) := dk_182 0 233 (dk_at dksX6_inDebt_1 0 rfl rfl)
theorem dX6_inDebt_25 : decode cX6_inDebt 25 = .ok (.ifCond .eq 24, 3) := dk_153 0 24 (dk_at dksX6_inDebt_1 3 rfl rfl)
theorem dX6_inDebt_28 : decode cX6_inDebt 28 = .ok (.aload_n 0, 1) := dk_42 (dk_at dksX6_inDebt_1 6 rfl rfl)
theorem dX6_inDebt_29 : decode cX6_inDebt 29 = .ok (.iload_n 1, 1) := dk_27 (dk_at dksX6_inDebt_1 7 rfl rfl)
theorem dX6_inDebt_30 : decode cX6_inDebt 30 = .ok (.iload_n 3, 1) := dk_29 (dk_at dksX6_inDebt_1 8 rfl rfl)
theorem dX6_inDebt_31 : decode cX6_inDebt 31 = .ok (.invokevirtual 285, 3) := dk_182 1 29 (dk_at dksX6_inDebt_1 9 rfl rfl)
theorem dX6_inDebt_34 : decode cX6_inDebt 34 = .ok (.aload_n 0, 1) := dk_42 (dk_at dksX6_inDebt_1 12 rfl rfl)
theorem dX6_inDebt_35 : decode cX6_inDebt 35 = .ok (.iload_n 3, 1) := dk_29 (dk_at dksX6_inDebt_1 13 rfl rfl)
theorem dX6_inDebt_36 : decode cX6_inDebt 36 = .ok (.iload_n 1, 1) := dk_27 (dk_at dksX6_inDebt_1 14 rfl rfl)
theorem dX6_inDebt_37 : decode cX6_inDebt 37 = .ok (.invokevirtual 285, 3) := dk_182 1 29 (dk_at dksX6_inDebt_1 15 rfl rfl)
theorem dX6_inDebt_40 : decode cX6_inDebt 40 = .ok (.if_icmp .le 9, 3) := dk_164 0 9 (dk_at dksX6_inDebt_1 18 rfl rfl)
theorem dX6_inDebt_43 : decode cX6_inDebt 43 = .ok (.iload_n 2, 1) := dk_28 (dk_at dksX6_inDebt_1 21 rfl rfl)
theorem dX6_inDebt_44 : decode cX6_inDebt 44 = .ok (.iconst 1, 1) := dk_4 (dk_at dksX6_inDebt_1 22 rfl rfl)
theorem dX6_inDebt_45 : decode cX6_inDebt 45 = .ok (.iload_n 3, 1) := dk_29 (dk_at dksX6_inDebt_1 23 rfl rfl)
theorem dX6_inDebt_46 : decode cX6_inDebt 46 = .ok (.ishl, 1) := dk_120 (dk_at dksX6_inDebt_2 0 rfl rfl)
theorem dX6_inDebt_47 : decode cX6_inDebt 47 = .ok (.ior, 1) := dk_128 (dk_at dksX6_inDebt_2 1 rfl rfl)
theorem dX6_inDebt_48 : decode cX6_inDebt 48 = .ok (.istore_n 2, 1) := dk_61 (dk_at dksX6_inDebt_2 2 rfl rfl)
theorem dX6_inDebt_49 : decode cX6_inDebt 49 = .ok (.iinc 3 1, 3) := dk_132 3 1 (dk_at dksX6_inDebt_2 3 rfl rfl)
theorem dX6_inDebt_52 : decode cX6_inDebt 52 = .ok (.goto (-38), 3) := dk_167 255 218 (dk_at dksX6_inDebt_2 6 rfl rfl)
theorem dX6_inDebt_55 : decode cX6_inDebt 55 = .ok (.iload_n 2, 1) := dk_28 (dk_at dksX6_inDebt_2 9 rfl rfl)
theorem dX6_inDebt_56 : decode cX6_inDebt 56 = .ok (.ireturn, 1) := dk_172 (dk_at dksX6_inDebt_2 10 rfl rfl)
abbrev cX6_meeting : ByteArray := prog_20_method_88_code
def yX6_meeting : MethodName := ⟨RX6, "meeting", "(I)I"⟩
def dkwX6_meeting_2 : List UInt8 := [167, 0, 8, 42, 28, 182, 1, 118, 172]
abbrev dktX6_meeting_2 : List UInt8 := dkwX6_meeting_2 ++ []
def dkwX6_meeting_1 : List UInt8 := [182, 1, 118, 42, 28, 182, 1, 118, 162, 0, 5, 29, 61, 132, 3, 1, 167, 255, 232, 27, 154, 0, 7, 28]
abbrev dktX6_meeting_1 : List UInt8 := dkwX6_meeting_1 ++ dktX6_meeting_2
def dkwX6_meeting_0 : List UInt8 := [27, 3, 4, 184, 0, 104, 154, 0, 5, 2, 172, 3, 61, 4, 62, 29, 16, 99, 163, 0, 24, 42, 29]
abbrev dktX6_meeting_0 : List UInt8 := dkwX6_meeting_0 ++ dktX6_meeting_1
theorem dksX6_meeting_0 : cX6_meeting.data.toList.drop 0 = dktX6_meeting_0 := by decide +kernel
theorem dksX6_meeting_1 : cX6_meeting.data.toList.drop 23 = dktX6_meeting_1 := dk_seg dksX6_meeting_0 23 rfl rfl
theorem dksX6_meeting_2 : cX6_meeting.data.toList.drop 47 = dktX6_meeting_2 := dk_seg dksX6_meeting_1 24 rfl rfl
theorem dX6_meeting_0 : decode cX6_meeting 0 = .ok (.iload_n 1, 1) := dk_27 (dk_at dksX6_meeting_0 0 rfl rfl)
theorem dX6_meeting_1 : decode cX6_meeting 1 = .ok (.iconst 0, 1) := dk_3 (dk_at dksX6_meeting_0 1 rfl rfl)
theorem dX6_meeting_2 : decode cX6_meeting 2 = .ok (.iconst 1, 1) := dk_4 (dk_at dksX6_meeting_0 2 rfl rfl)
theorem dX6_meeting_3 : decode cX6_meeting 3 = .ok (.invokestatic 104, 3) := dk_184 0 104 (dk_at dksX6_meeting_0 3 rfl rfl)
theorem dX6_meeting_6 : decode cX6_meeting 6 = .ok (.ifCond .ne 5, 3) := dk_154 0 5 (dk_at dksX6_meeting_0 6 rfl rfl)
theorem dX6_meeting_9 : decode cX6_meeting 9 = .ok (.iconst (-1), 1) := dk_2 (dk_at dksX6_meeting_0 9 rfl rfl)
theorem dX6_meeting_10 : decode cX6_meeting 10 = .ok (.ireturn, 1) := dk_172 (dk_at dksX6_meeting_0 10 rfl rfl)
theorem dX6_meeting_11 : decode cX6_meeting 11 = .ok (.iconst 0, 1) := dk_3 (dk_at dksX6_meeting_0 11 rfl rfl)
theorem dX6_meeting_12 : decode cX6_meeting 12 = .ok (.istore_n 2, 1) := dk_61 (dk_at dksX6_meeting_0 12 rfl rfl)
theorem dX6_meeting_13 : decode cX6_meeting 13 = .ok (.iconst 1, 1) := dk_4 (dk_at dksX6_meeting_0 13 rfl rfl)
theorem dX6_meeting_14 : decode cX6_meeting 14 = .ok (.istore_n 3, 1) := dk_62 (dk_at dksX6_meeting_0 14 rfl rfl)
theorem dX6_meeting_15 : decode cX6_meeting 15 = .ok (.iload_n 3, 1) := dk_29 (dk_at dksX6_meeting_0 15 rfl rfl)
theorem dX6_meeting_16 : decode cX6_meeting 16 = .ok (.bipush 99, 2) := dk_16 99 (dk_at dksX6_meeting_0 16 rfl rfl)
theorem dX6_meeting_18 : decode cX6_meeting 18 = .ok (.if_icmp .gt 24, 3) := dk_163 0 24 (dk_at dksX6_meeting_0 18 rfl rfl)
theorem dX6_meeting_21 : decode cX6_meeting 21 = .ok (.aload_n 0, 1) := dk_42 (dk_at dksX6_meeting_0 21 rfl rfl)
theorem dX6_meeting_22 : decode cX6_meeting 22 = .ok (.iload_n 3, 1) := dk_29 (dk_at dksX6_meeting_0 22 rfl rfl)
theorem dX6_meeting_23 : decode cX6_meeting 23 = .ok (.invokevirtual 374, 3) := dk_182 1 118 (dk_at dksX6_meeting_1 0 rfl rfl)
theorem dX6_meeting_26 : decode cX6_meeting 26 = .ok (.aload_n 0, 1) := dk_42 (dk_at dksX6_meeting_1 3 rfl rfl)
theorem dX6_meeting_27 : decode cX6_meeting 27 = .ok (.iload_n 2, 1) := dk_28 (dk_at dksX6_meeting_1 4 rfl rfl)
theorem dX6_meeting_28 : decode cX6_meeting 28 = .ok (.invokevirtual 374, 3) := dk_182 1 118 (dk_at dksX6_meeting_1 5 rfl rfl)
theorem dX6_meeting_31 : decode cX6_meeting 31 = .ok (.if_icmp .ge 5, 3) := dk_162 0 5 (dk_at dksX6_meeting_1 8 rfl rfl)
theorem dX6_meeting_34 : decode cX6_meeting 34 = .ok (.iload_n 3, 1) := dk_29 (dk_at dksX6_meeting_1 11 rfl rfl)
theorem dX6_meeting_35 : decode cX6_meeting 35 = .ok (.istore_n 2, 1) := dk_61 (dk_at dksX6_meeting_1 12 rfl rfl)
theorem dX6_meeting_36 : decode cX6_meeting 36 = .ok (.iinc 3 1, 3) := dk_132 3 1 (dk_at dksX6_meeting_1 13 rfl rfl)
theorem dX6_meeting_39 : decode cX6_meeting 39 = .ok (.goto (-24), 3) := dk_167 255 232 (dk_at dksX6_meeting_1 16 rfl rfl)
theorem dX6_meeting_42 : decode cX6_meeting 42 = .ok (.iload_n 1, 1) := dk_27 (dk_at dksX6_meeting_1 19 rfl rfl)
theorem dX6_meeting_43 : decode cX6_meeting 43 = .ok (.ifCond .ne 7, 3) := dk_154 0 7 (dk_at dksX6_meeting_1 20 rfl rfl)
theorem dX6_meeting_46 : decode cX6_meeting 46 = .ok (.iload_n 2, 1) := dk_28 (dk_at dksX6_meeting_1 23 rfl rfl)
theorem dX6_meeting_47 : decode cX6_meeting 47 = .ok (.goto 8, 3) := dk_167 0 8 (dk_at dksX6_meeting_2 0 rfl rfl)
theorem dX6_meeting_50 : decode cX6_meeting 50 = .ok (.aload_n 0, 1) := dk_42 (dk_at dksX6_meeting_2 3 rfl rfl)
theorem dX6_meeting_51 : decode cX6_meeting 51 = .ok (.iload_n 2, 1) := dk_28 (dk_at dksX6_meeting_2 4 rfl rfl)
theorem dX6_meeting_52 : decode cX6_meeting 52 = .ok (.invokevirtual 374, 3) := dk_182 1 118 (dk_at dksX6_meeting_2 5 rfl rfl)
theorem dX6_meeting_55 : decode cX6_meeting 55 = .ok (.ireturn, 1) := dk_172 (dk_at dksX6_meeting_2 8 rfl rfl)
abbrev cX6_stepsTo : ByteArray := prog_20_method_87_code
def yX6_stepsTo : MethodName := ⟨RX6, "stepsTo", "(I)I"⟩
def dkwX6_stepsTo_1 : List UInt8 := [46, 27, 100, 184, 0, 112, 96, 61, 132, 3, 1, 167, 255, 225, 28, 172]
abbrev dktX6_stepsTo_1 : List UInt8 := dkwX6_stepsTo_1 ++ []
def dkwX6_stepsTo_0 : List UInt8 := [3, 61, 3, 62, 29, 16, 16, 162, 0, 31, 42, 29, 182, 0, 233, 153, 0, 17, 28, 42, 180, 0, 19, 29]
abbrev dktX6_stepsTo_0 : List UInt8 := dkwX6_stepsTo_0 ++ dktX6_stepsTo_1
theorem dksX6_stepsTo_0 : cX6_stepsTo.data.toList.drop 0 = dktX6_stepsTo_0 := by decide +kernel
theorem dksX6_stepsTo_1 : cX6_stepsTo.data.toList.drop 24 = dktX6_stepsTo_1 := dk_seg dksX6_stepsTo_0 24 rfl rfl
theorem dX6_stepsTo_0 : decode cX6_stepsTo 0 = .ok (.iconst 0, 1) := dk_3 (dk_at dksX6_stepsTo_0 0 rfl rfl)
theorem dX6_stepsTo_1 : decode cX6_stepsTo 1 = .ok (.istore_n 2, 1) := dk_61 (dk_at dksX6_stepsTo_0 1 rfl rfl)
theorem dX6_stepsTo_2 : decode cX6_stepsTo 2 = .ok (.iconst 0, 1) := dk_3 (dk_at dksX6_stepsTo_0 2 rfl rfl)
theorem dX6_stepsTo_3 : decode cX6_stepsTo 3 = .ok (.istore_n 3, 1) := dk_62 (dk_at dksX6_stepsTo_0 3 rfl rfl)
theorem dX6_stepsTo_4 : decode cX6_stepsTo 4 = .ok (.iload_n 3, 1) := dk_29 (dk_at dksX6_stepsTo_0 4 rfl rfl)
theorem dX6_stepsTo_5 : decode cX6_stepsTo 5 = .ok (.bipush 16, 2) := dk_16 16 (dk_at dksX6_stepsTo_0 5 rfl rfl)
theorem dX6_stepsTo_7 : decode cX6_stepsTo 7 = .ok (.if_icmp .ge 31, 3) := dk_162 0 31 (dk_at dksX6_stepsTo_0 7 rfl rfl)
theorem dX6_stepsTo_10 : decode cX6_stepsTo 10 = .ok (.aload_n 0, 1) := dk_42 (dk_at dksX6_stepsTo_0 10 rfl rfl)
theorem dX6_stepsTo_11 : decode cX6_stepsTo 11 = .ok (.iload_n 3, 1) := dk_29 (dk_at dksX6_stepsTo_0 11 rfl rfl)
theorem dX6_stepsTo_12 : decode cX6_stepsTo 12 = .ok (.invokevirtual 233, 3) := dk_182 0 233 (dk_at dksX6_stepsTo_0 12 rfl rfl)
theorem dX6_stepsTo_15 : decode cX6_stepsTo 15 = .ok (.ifCond .eq 17, 3) := dk_153 0 17 (dk_at dksX6_stepsTo_0 15 rfl rfl)
theorem dX6_stepsTo_18 : decode cX6_stepsTo 18 = .ok (.iload_n 2, 1) := dk_28 (dk_at dksX6_stepsTo_0 18 rfl rfl)
theorem dX6_stepsTo_19 : decode cX6_stepsTo 19 = .ok (.aload_n 0, 1) := dk_42 (dk_at dksX6_stepsTo_0 19 rfl rfl)
theorem dX6_stepsTo_20 : decode cX6_stepsTo 20 = .ok (.getfield 19, 3) := dk_180 0 19 (dk_at dksX6_stepsTo_0 20 rfl rfl)
theorem dX6_stepsTo_23 : decode cX6_stepsTo 23 = .ok (.iload_n 3, 1) := dk_29 (dk_at dksX6_stepsTo_0 23 rfl rfl)
theorem dX6_stepsTo_24 : decode cX6_stepsTo 24 = .ok (.iaload, 1) := dk_46 (dk_at dksX6_stepsTo_1 0 rfl rfl)
theorem dX6_stepsTo_25 : decode cX6_stepsTo 25 = .ok (.iload_n 1, 1) := dk_27 (dk_at dksX6_stepsTo_1 1 rfl rfl)
theorem dX6_stepsTo_26 : decode cX6_stepsTo 26 = .ok (.isub, 1) := dk_100 (dk_at dksX6_stepsTo_1 2 rfl rfl)
theorem dX6_stepsTo_27 : decode cX6_stepsTo 27 = .ok (.invokestatic 112, 3) := dk_184 0 112 (dk_at dksX6_stepsTo_1 3 rfl rfl)
theorem dX6_stepsTo_30 : decode cX6_stepsTo 30 = .ok (.iadd, 1) := dk_96 (dk_at dksX6_stepsTo_1 6 rfl rfl)
theorem dX6_stepsTo_31 : decode cX6_stepsTo 31 = .ok (.istore_n 2, 1) := dk_61 (dk_at dksX6_stepsTo_1 7 rfl rfl)
theorem dX6_stepsTo_32 : decode cX6_stepsTo 32 = .ok (.iinc 3 1, 3) := dk_132 3 1 (dk_at dksX6_stepsTo_1 8 rfl rfl)
theorem dX6_stepsTo_35 : decode cX6_stepsTo 35 = .ok (.goto (-31), 3) := dk_167 255 225 (dk_at dksX6_stepsTo_1 11 rfl rfl)
theorem dX6_stepsTo_38 : decode cX6_stepsTo 38 = .ok (.iload_n 2, 1) := dk_28 (dk_at dksX6_stepsTo_1 14 rfl rfl)
theorem dX6_stepsTo_39 : decode cX6_stepsTo 39 = .ok (.ireturn, 1) := dk_172 (dk_at dksX6_stepsTo_1 15 rfl rfl)
abbrev cX6_across : ByteArray := prog_20_method_89_code
def yX6_across : MethodName := ⟨RX6, "across", "(II)I"⟩
def dkwX6_across_8 : List UInt8 := [120, 4, 100, 46, 172]
abbrev dktX6_across_8 : List UInt8 := dkwX6_across_8 ++ []
def dkwX6_across_7 : List UInt8 := [21, 4, 120, 4, 100, 126, 184, 1, 20, 182, 1, 121, 132, 4, 1, 167, 255, 219, 42, 180, 0, 91, 4, 29]
abbrev dktX6_across_7 : List UInt8 := dkwX6_across_7 ++ dktX6_across_8
def dkwX6_across_6 : List UInt8 := [54, 4, 21, 4, 16, 16, 162, 0, 36, 27, 21, 4, 184, 0, 100, 153, 0, 21, 42, 21, 4, 29, 27, 4]
abbrev dktX6_across_6 : List UInt8 := dkwX6_across_6 ++ dktX6_across_7
def dkwX6_across_5 : List UInt8 := [180, 0, 91, 21, 4, 21, 4, 154, 0, 7, 4, 167, 0, 4, 3, 79, 132, 4, 1, 167, 255, 228, 3]
abbrev dktX6_across_5 : List UInt8 := dkwX6_across_5 ++ dktX6_across_6
def dkwX6_across_4 : List UInt8 := [79, 29, 4, 96, 62, 132, 4, 1, 167, 255, 222, 3, 54, 4, 21, 4, 4, 29, 120, 162, 0, 26, 42]
abbrev dktX6_across_4 : List UInt8 := dkwX6_across_4 ++ dktX6_across_5
def dkwX6_across_3 : List UInt8 := [16, 16, 162, 0, 33, 28, 21, 4, 184, 0, 100, 154, 0, 6, 167, 0, 15, 42, 180, 0, 94, 29, 21, 4]
abbrev dktX6_across_3 : List UInt8 := dkwX6_across_3 ++ dktX6_across_4
def dkwX6_across_2 : List UInt8 := [184, 1, 20, 160, 0, 12, 27, 184, 1, 20, 16, 8, 164, 0, 5, 2, 172, 3, 62, 3, 54, 4, 21, 4]
abbrev dktX6_across_2 : List UInt8 := dkwX6_across_2 ++ dktX6_across_3
def dkwX6_across_1 : List UInt8 := [128, 42, 180, 0, 108, 2, 130, 126, 153, 0, 5, 2, 172, 27, 28, 126, 154, 0, 23, 27, 184, 1, 20, 28]
abbrev dktX6_across_1 : List UInt8 := dkwX6_across_1 ++ dktX6_across_2
def dkwX6_across_0 : List UInt8 := [27, 4, 19, 1, 93, 184, 0, 104, 153, 0, 27, 28, 4, 19, 1, 93, 184, 0, 104, 153, 0, 16, 27, 28]
abbrev dktX6_across_0 : List UInt8 := dkwX6_across_0 ++ dktX6_across_1
theorem dksX6_across_0 : cX6_across.data.toList.drop 0 = dktX6_across_0 := by decide +kernel
theorem dksX6_across_1 : cX6_across.data.toList.drop 24 = dktX6_across_1 := dk_seg dksX6_across_0 24 rfl rfl
theorem dksX6_across_2 : cX6_across.data.toList.drop 48 = dktX6_across_2 := dk_seg dksX6_across_1 24 rfl rfl
theorem dksX6_across_3 : cX6_across.data.toList.drop 72 = dktX6_across_3 := dk_seg dksX6_across_2 24 rfl rfl
theorem dksX6_across_4 : cX6_across.data.toList.drop 96 = dktX6_across_4 := dk_seg dksX6_across_3 24 rfl rfl
theorem dksX6_across_5 : cX6_across.data.toList.drop 119 = dktX6_across_5 := dk_seg dksX6_across_4 23 rfl rfl
theorem dksX6_across_6 : cX6_across.data.toList.drop 142 = dktX6_across_6 := dk_seg dksX6_across_5 23 rfl rfl
theorem dksX6_across_7 : cX6_across.data.toList.drop 166 = dktX6_across_7 := dk_seg dksX6_across_6 24 rfl rfl
theorem dksX6_across_8 : cX6_across.data.toList.drop 190 = dktX6_across_8 := dk_seg dksX6_across_7 24 rfl rfl
theorem dX6_across_0 : decode cX6_across 0 = .ok (.iload_n 1, 1) := dk_27 (dk_at dksX6_across_0 0 rfl rfl)
theorem dX6_across_1 : decode cX6_across 1 = .ok (.iconst 1, 1) := dk_4 (dk_at dksX6_across_0 1 rfl rfl)
theorem dX6_across_2 : decode cX6_across 2 = .ok (.ldc_w 349, 3) := dk_19 1 93 (dk_at dksX6_across_0 2 rfl rfl)
theorem dX6_across_5 : decode cX6_across 5 = .ok (.invokestatic 104, 3) := dk_184 0 104 (dk_at dksX6_across_0 5 rfl rfl)
theorem dX6_across_8 : decode cX6_across 8 = .ok (.ifCond .eq 27, 3) := dk_153 0 27 (dk_at dksX6_across_0 8 rfl rfl)
theorem dX6_across_11 : decode cX6_across 11 = .ok (.iload_n 2, 1) := dk_28 (dk_at dksX6_across_0 11 rfl rfl)
theorem dX6_across_12 : decode cX6_across 12 = .ok (.iconst 1, 1) := dk_4 (dk_at dksX6_across_0 12 rfl rfl)
theorem dX6_across_13 : decode cX6_across 13 = .ok (.ldc_w 349, 3) := dk_19 1 93 (dk_at dksX6_across_0 13 rfl rfl)
theorem dX6_across_16 : decode cX6_across 16 = .ok (.invokestatic 104, 3) := dk_184 0 104 (dk_at dksX6_across_0 16 rfl rfl)
theorem dX6_across_19 : decode cX6_across 19 = .ok (.ifCond .eq 16, 3) := dk_153 0 16 (dk_at dksX6_across_0 19 rfl rfl)
theorem dX6_across_22 : decode cX6_across 22 = .ok (.iload_n 1, 1) := dk_27 (dk_at dksX6_across_0 22 rfl rfl)
theorem dX6_across_23 : decode cX6_across 23 = .ok (.iload_n 2, 1) := dk_28 (dk_at dksX6_across_0 23 rfl rfl)
theorem dX6_across_24 : decode cX6_across 24 = .ok (.ior, 1) := dk_128 (dk_at dksX6_across_1 0 rfl rfl)
theorem dX6_across_25 : decode cX6_across 25 = .ok (.aload_n 0, 1) := dk_42 (dk_at dksX6_across_1 1 rfl rfl)
theorem dX6_across_26 : decode cX6_across 26 = .ok (.getfield 108, 3) := dk_180 0 108 (dk_at dksX6_across_1 2 rfl rfl)
theorem dX6_across_29 : decode cX6_across 29 = .ok (.iconst (-1), 1) := dk_2 (dk_at dksX6_across_1 5 rfl rfl)
theorem dX6_across_30 : decode cX6_across 30 = .ok (.ixor, 1) := dk_130 (dk_at dksX6_across_1 6 rfl rfl)
theorem dX6_across_31 : decode cX6_across 31 = .ok (.iand, 1) := dk_126 (dk_at dksX6_across_1 7 rfl rfl)
theorem dX6_across_32 : decode cX6_across 32 = .ok (.ifCond .eq 5, 3) := dk_153 0 5 (dk_at dksX6_across_1 8 rfl rfl)
theorem dX6_across_35 : decode cX6_across 35 = .ok (.iconst (-1), 1) := dk_2 (dk_at dksX6_across_1 11 rfl rfl)
theorem dX6_across_36 : decode cX6_across 36 = .ok (.ireturn, 1) := dk_172 (dk_at dksX6_across_1 12 rfl rfl)
theorem dX6_across_37 : decode cX6_across 37 = .ok (.iload_n 1, 1) := dk_27 (dk_at dksX6_across_1 13 rfl rfl)
theorem dX6_across_38 : decode cX6_across 38 = .ok (.iload_n 2, 1) := dk_28 (dk_at dksX6_across_1 14 rfl rfl)
theorem dX6_across_39 : decode cX6_across 39 = .ok (.iand, 1) := dk_126 (dk_at dksX6_across_1 15 rfl rfl)
theorem dX6_across_40 : decode cX6_across 40 = .ok (.ifCond .ne 23, 3) := dk_154 0 23 (dk_at dksX6_across_1 16 rfl rfl)
theorem dX6_across_43 : decode cX6_across 43 = .ok (.iload_n 1, 1) := dk_27 (dk_at dksX6_across_1 19 rfl rfl)
theorem dX6_across_44 : decode cX6_across 44 = .ok (.invokestatic 276, 3) := dk_184 1 20 (dk_at dksX6_across_1 20 rfl rfl)
theorem dX6_across_47 : decode cX6_across 47 = .ok (.iload_n 2, 1) := dk_28 (dk_at dksX6_across_1 23 rfl rfl)
theorem dX6_across_48 : decode cX6_across 48 = .ok (.invokestatic 276, 3) := dk_184 1 20 (dk_at dksX6_across_2 0 rfl rfl)
theorem dX6_across_51 : decode cX6_across 51 = .ok (.if_icmp .ne 12, 3) := dk_160 0 12 (dk_at dksX6_across_2 3 rfl rfl)
theorem dX6_across_54 : decode cX6_across 54 = .ok (.iload_n 1, 1) := dk_27 (dk_at dksX6_across_2 6 rfl rfl)
theorem dX6_across_55 : decode cX6_across 55 = .ok (.invokestatic 276, 3) := dk_184 1 20 (dk_at dksX6_across_2 7 rfl rfl)
theorem dX6_across_58 : decode cX6_across 58 = .ok (.bipush 8, 2) := dk_16 8 (dk_at dksX6_across_2 10 rfl rfl)
theorem dX6_across_60 : decode cX6_across 60 = .ok (.if_icmp .le 5, 3) := dk_164 0 5 (dk_at dksX6_across_2 12 rfl rfl)
theorem dX6_across_63 : decode cX6_across 63 = .ok (.iconst (-1), 1) := dk_2 (dk_at dksX6_across_2 15 rfl rfl)
theorem dX6_across_64 : decode cX6_across 64 = .ok (.ireturn, 1) := dk_172 (dk_at dksX6_across_2 16 rfl rfl)
theorem dX6_across_65 : decode cX6_across 65 = .ok (.iconst 0, 1) := dk_3 (dk_at dksX6_across_2 17 rfl rfl)
theorem dX6_across_66 : decode cX6_across 66 = .ok (.istore_n 3, 1) := dk_62 (dk_at dksX6_across_2 18 rfl rfl)
theorem dX6_across_67 : decode cX6_across 67 = .ok (.iconst 0, 1) := dk_3 (dk_at dksX6_across_2 19 rfl rfl)
theorem dX6_across_68 : decode cX6_across 68 = .ok (.istore 4, 2) := dk_54 4 (dk_at dksX6_across_2 20 rfl rfl)
theorem dX6_across_70 : decode cX6_across 70 = .ok (.iload 4, 2) := dk_21 4 (dk_at dksX6_across_2 22 rfl rfl)
theorem dX6_across_72 : decode cX6_across 72 = .ok (.bipush 16, 2) := dk_16 16 (dk_at dksX6_across_3 0 rfl rfl)
theorem dX6_across_74 : decode cX6_across 74 = .ok (.if_icmp .ge 33, 3) := dk_162 0 33 (dk_at dksX6_across_3 2 rfl rfl)
theorem dX6_across_77 : decode cX6_across 77 = .ok (.iload_n 2, 1) := dk_28 (dk_at dksX6_across_3 5 rfl rfl)
theorem dX6_across_78 : decode cX6_across 78 = .ok (.iload 4, 2) := dk_21 4 (dk_at dksX6_across_3 6 rfl rfl)
theorem dX6_across_80 : decode cX6_across 80 = .ok (.invokestatic 100, 3) := dk_184 0 100 (dk_at dksX6_across_3 8 rfl rfl)
theorem dX6_across_83 : decode cX6_across 83 = .ok (.ifCond .ne 6, 3) := dk_154 0 6 (dk_at dksX6_across_3 11 rfl rfl)
theorem dX6_across_86 : decode cX6_across 86 = .ok (.goto 15, 3) := dk_167 0 15 (dk_at dksX6_across_3 14 rfl rfl)
theorem dX6_across_89 : decode cX6_across 89 = .ok (.aload_n 0, 1) := dk_42 (dk_at dksX6_across_3 17 rfl rfl)
theorem dX6_across_90 : decode cX6_across 90 = .ok (.getfield 94, 3) := dk_180 0 94 (dk_at dksX6_across_3 18 rfl rfl)
theorem dX6_across_93 : decode cX6_across 93 = .ok (.iload_n 3, 1) := dk_29 (dk_at dksX6_across_3 21 rfl rfl)
theorem dX6_across_94 : decode cX6_across 94 = .ok (.iload 4, 2) := dk_21 4 (dk_at dksX6_across_3 22 rfl rfl)
theorem dX6_across_96 : decode cX6_across 96 = .ok (.iastore, 1) := dk_79 (dk_at dksX6_across_4 0 rfl rfl)
theorem dX6_across_97 : decode cX6_across 97 = .ok (.iload_n 3, 1) := dk_29 (dk_at dksX6_across_4 1 rfl rfl)
theorem dX6_across_98 : decode cX6_across 98 = .ok (.iconst 1, 1) := dk_4 (dk_at dksX6_across_4 2 rfl rfl)
theorem dX6_across_99 : decode cX6_across 99 = .ok (.iadd, 1) := dk_96 (dk_at dksX6_across_4 3 rfl rfl)
theorem dX6_across_100 : decode cX6_across 100 = .ok (.istore_n 3, 1) := dk_62 (dk_at dksX6_across_4 4 rfl rfl)
theorem dX6_across_101 : decode cX6_across 101 = .ok (.iinc 4 1, 3) := dk_132 4 1 (dk_at dksX6_across_4 5 rfl rfl)
theorem dX6_across_104 : decode cX6_across 104 = .ok (.goto (-34), 3) := dk_167 255 222 (dk_at dksX6_across_4 8 rfl rfl)
theorem dX6_across_107 : decode cX6_across 107 = .ok (.iconst 0, 1) := dk_3 (dk_at dksX6_across_4 11 rfl rfl)
theorem dX6_across_108 : decode cX6_across 108 = .ok (.istore 4, 2) := dk_54 4 (dk_at dksX6_across_4 12 rfl rfl)
theorem dX6_across_110 : decode cX6_across 110 = .ok (.iload 4, 2) := dk_21 4 (dk_at dksX6_across_4 14 rfl rfl)
theorem dX6_across_112 : decode cX6_across 112 = .ok (.iconst 1, 1) := dk_4 (dk_at dksX6_across_4 16 rfl rfl)
theorem dX6_across_113 : decode cX6_across 113 = .ok (.iload_n 3, 1) := dk_29 (dk_at dksX6_across_4 17 rfl rfl)
theorem dX6_across_114 : decode cX6_across 114 = .ok (.ishl, 1) := dk_120 (dk_at dksX6_across_4 18 rfl rfl)
theorem dX6_across_115 : decode cX6_across 115 = .ok (.if_icmp .ge 26, 3) := dk_162 0 26 (dk_at dksX6_across_4 19 rfl rfl)
theorem dX6_across_118 : decode cX6_across 118 = .ok (.aload_n 0, 1) := dk_42 (dk_at dksX6_across_4 22 rfl rfl)
theorem dX6_across_119 : decode cX6_across 119 = .ok (.getfield 91, 3) := dk_180 0 91 (dk_at dksX6_across_5 0 rfl rfl)
theorem dX6_across_122 : decode cX6_across 122 = .ok (.iload 4, 2) := dk_21 4 (dk_at dksX6_across_5 3 rfl rfl)
theorem dX6_across_124 : decode cX6_across 124 = .ok (.iload 4, 2) := dk_21 4 (dk_at dksX6_across_5 5 rfl rfl)
theorem dX6_across_126 : decode cX6_across 126 = .ok (.ifCond .ne 7, 3) := dk_154 0 7 (dk_at dksX6_across_5 7 rfl rfl)
theorem dX6_across_129 : decode cX6_across 129 = .ok (.iconst 1, 1) := dk_4 (dk_at dksX6_across_5 10 rfl rfl)
theorem dX6_across_130 : decode cX6_across 130 = .ok (.goto 4, 3) := dk_167 0 4 (dk_at dksX6_across_5 11 rfl rfl)
theorem dX6_across_133 : decode cX6_across 133 = .ok (.iconst 0, 1) := dk_3 (dk_at dksX6_across_5 14 rfl rfl)
theorem dX6_across_134 : decode cX6_across 134 = .ok (.iastore, 1) := dk_79 (dk_at dksX6_across_5 15 rfl rfl)
theorem dX6_across_135 : decode cX6_across 135 = .ok (.iinc 4 1, 3) := dk_132 4 1 (dk_at dksX6_across_5 16 rfl rfl)
theorem dX6_across_138 : decode cX6_across 138 = .ok (.goto (-28), 3) := dk_167 255 228 (dk_at dksX6_across_5 19 rfl rfl)
theorem dX6_across_141 : decode cX6_across 141 = .ok (.iconst 0, 1) := dk_3 (dk_at dksX6_across_5 22 rfl rfl)
theorem dX6_across_142 : decode cX6_across 142 = .ok (.istore 4, 2) := dk_54 4 (dk_at dksX6_across_6 0 rfl rfl)
theorem dX6_across_144 : decode cX6_across 144 = .ok (.iload 4, 2) := dk_21 4 (dk_at dksX6_across_6 2 rfl rfl)
theorem dX6_across_146 : decode cX6_across 146 = .ok (.bipush 16, 2) := dk_16 16 (dk_at dksX6_across_6 4 rfl rfl)
theorem dX6_across_148 : decode cX6_across 148 = .ok (.if_icmp .ge 36, 3) := dk_162 0 36 (dk_at dksX6_across_6 6 rfl rfl)
theorem dX6_across_151 : decode cX6_across 151 = .ok (.iload_n 1, 1) := dk_27 (dk_at dksX6_across_6 9 rfl rfl)
theorem dX6_across_152 : decode cX6_across 152 = .ok (.iload 4, 2) := dk_21 4 (dk_at dksX6_across_6 10 rfl rfl)
theorem dX6_across_154 : decode cX6_across 154 = .ok (.invokestatic 100, 3) := dk_184 0 100 (dk_at dksX6_across_6 12 rfl rfl)
theorem dX6_across_157 : decode cX6_across 157 = .ok (.ifCond .eq 21, 3) := dk_153 0 21 (dk_at dksX6_across_6 15 rfl rfl)
theorem dX6_across_160 : decode cX6_across 160 = .ok (.aload_n 0, 1) := dk_42 (dk_at dksX6_across_6 18 rfl rfl)
theorem dX6_across_161 : decode cX6_across 161 = .ok (.iload 4, 2) := dk_21 4 (dk_at dksX6_across_6 19 rfl rfl)
theorem dX6_across_163 : decode cX6_across 163 = .ok (.iload_n 3, 1) := dk_29 (dk_at dksX6_across_6 21 rfl rfl)
theorem dX6_across_164 : decode cX6_across 164 = .ok (.iload_n 1, 1) := dk_27 (dk_at dksX6_across_6 22 rfl rfl)
theorem dX6_across_165 : decode cX6_across 165 = .ok (.iconst 1, 1) := dk_4 (dk_at dksX6_across_6 23 rfl rfl)
theorem dX6_across_166 : decode cX6_across 166 = .ok (.iload 4, 2) := dk_21 4 (dk_at dksX6_across_7 0 rfl rfl)
theorem dX6_across_168 : decode cX6_across 168 = .ok (.ishl, 1) := dk_120 (dk_at dksX6_across_7 2 rfl rfl)
theorem dX6_across_169 : decode cX6_across 169 = .ok (.iconst 1, 1) := dk_4 (dk_at dksX6_across_7 3 rfl rfl)
theorem dX6_across_170 : decode cX6_across 170 = .ok (.isub, 1) := dk_100 (dk_at dksX6_across_7 4 rfl rfl)
theorem dX6_across_171 : decode cX6_across 171 = .ok (.iand, 1) := dk_126 (dk_at dksX6_across_7 5 rfl rfl)
theorem dX6_across_172 : decode cX6_across 172 = .ok (.invokestatic 276, 3) := dk_184 1 20 (dk_at dksX6_across_7 6 rfl rfl)
theorem dX6_across_175 : decode cX6_across 175 = .ok (.invokevirtual 377, 3) := dk_182 1 121 (dk_at dksX6_across_7 9 rfl rfl)
theorem dX6_across_178 : decode cX6_across 178 = .ok (.iinc 4 1, 3) := dk_132 4 1 (dk_at dksX6_across_7 12 rfl rfl)
theorem dX6_across_181 : decode cX6_across 181 = .ok (.goto (-37), 3) := dk_167 255 219 (dk_at dksX6_across_7 15 rfl rfl)
theorem dX6_across_184 : decode cX6_across 184 = .ok (.aload_n 0, 1) := dk_42 (dk_at dksX6_across_7 18 rfl rfl)
theorem dX6_across_185 : decode cX6_across 185 = .ok (.getfield 91, 3) := dk_180 0 91 (dk_at dksX6_across_7 19 rfl rfl)
theorem dX6_across_188 : decode cX6_across 188 = .ok (.iconst 1, 1) := dk_4 (dk_at dksX6_across_7 22 rfl rfl)
theorem dX6_across_189 : decode cX6_across 189 = .ok (.iload_n 3, 1) := dk_29 (dk_at dksX6_across_7 23 rfl rfl)
theorem dX6_across_190 : decode cX6_across 190 = .ok (.ishl, 1) := dk_120 (dk_at dksX6_across_8 0 rfl rfl)
theorem dX6_across_191 : decode cX6_across 191 = .ok (.iconst 1, 1) := dk_4 (dk_at dksX6_across_8 1 rfl rfl)
theorem dX6_across_192 : decode cX6_across 192 = .ok (.isub, 1) := dk_100 (dk_at dksX6_across_8 2 rfl rfl)
theorem dX6_across_193 : decode cX6_across 193 = .ok (.iaload, 1) := dk_46 (dk_at dksX6_across_8 3 rfl rfl)
theorem dX6_across_194 : decode cX6_across 194 = .ok (.ireturn, 1) := dk_172 (dk_at dksX6_across_8 4 rfl rfl)
abbrev cX6_pairs : ByteArray := prog_20_method_90_code
def yX6_pairs : MethodName := ⟨RX6, "pairs", "(III)V"⟩
def dkwX6_pairs_4 : List UInt8 := [167, 255, 187, 132, 4, 255, 167, 255, 161, 177]
abbrev dktX6_pairs_4 : List UInt8 := dkwX6_pairs_4 ++ []
def dkwX6_pairs_3 : List UInt8 := [42, 180, 0, 91, 21, 4, 4, 21, 5, 120, 128, 46, 42, 180, 0, 91, 21, 4, 46, 96, 79, 132, 5, 1]
abbrev dktX6_pairs_3 : List UInt8 := dkwX6_pairs_3 ++ dktX6_pairs_4
def dkwX6_pairs_2 : List UInt8 := [42, 180, 0, 94, 21, 5, 46, 184, 0, 100, 153, 0, 35, 42, 180, 0, 91, 21, 4, 4, 21, 5, 120, 128]
abbrev dktX6_pairs_2 : List UInt8 := dkwX6_pairs_2 ++ dktX6_pairs_3
def dkwX6_pairs_1 : List UInt8 := [3, 54, 5, 21, 5, 28, 162, 0, 69, 21, 4, 21, 5, 184, 0, 100, 154, 0, 53, 42, 27, 182, 1, 35]
abbrev dktX6_pairs_1 : List UInt8 := dkwX6_pairs_1 ++ dktX6_pairs_2
def dkwX6_pairs_0 : List UInt8 := [4, 28, 120, 4, 100, 54, 4, 21, 4, 155, 0, 96, 21, 4, 184, 1, 20, 29, 159, 0, 6, 167, 0, 78]
abbrev dktX6_pairs_0 : List UInt8 := dkwX6_pairs_0 ++ dktX6_pairs_1
theorem dksX6_pairs_0 : cX6_pairs.data.toList.drop 0 = dktX6_pairs_0 := by decide +kernel
theorem dksX6_pairs_1 : cX6_pairs.data.toList.drop 24 = dktX6_pairs_1 := dk_seg dksX6_pairs_0 24 rfl rfl
theorem dksX6_pairs_2 : cX6_pairs.data.toList.drop 48 = dktX6_pairs_2 := dk_seg dksX6_pairs_1 24 rfl rfl
theorem dksX6_pairs_3 : cX6_pairs.data.toList.drop 72 = dktX6_pairs_3 := dk_seg dksX6_pairs_2 24 rfl rfl
theorem dksX6_pairs_4 : cX6_pairs.data.toList.drop 96 = dktX6_pairs_4 := dk_seg dksX6_pairs_3 24 rfl rfl
theorem dX6_pairs_0 : decode cX6_pairs 0 = .ok (.iconst 1, 1) := dk_4 (dk_at dksX6_pairs_0 0 rfl rfl)
theorem dX6_pairs_1 : decode cX6_pairs 1 = .ok (.iload_n 2, 1) := dk_28 (dk_at dksX6_pairs_0 1 rfl rfl)
theorem dX6_pairs_2 : decode cX6_pairs 2 = .ok (.ishl, 1) := dk_120 (dk_at dksX6_pairs_0 2 rfl rfl)
theorem dX6_pairs_3 : decode cX6_pairs 3 = .ok (.iconst 1, 1) := dk_4 (dk_at dksX6_pairs_0 3 rfl rfl)
theorem dX6_pairs_4 : decode cX6_pairs 4 = .ok (.isub, 1) := dk_100 (dk_at dksX6_pairs_0 4 rfl rfl)
theorem dX6_pairs_5 : decode cX6_pairs 5 = .ok (.istore 4, 2) := dk_54 4 (dk_at dksX6_pairs_0 5 rfl rfl)
theorem dX6_pairs_7 : decode cX6_pairs 7 = .ok (.iload 4, 2) := dk_21 4 (dk_at dksX6_pairs_0 7 rfl rfl)
theorem dX6_pairs_9 : decode cX6_pairs 9 = .ok (.ifCond .lt 96, 3) := dk_155 0 96 (dk_at dksX6_pairs_0 9 rfl rfl)
theorem dX6_pairs_12 : decode cX6_pairs 12 = .ok (.iload 4, 2) := dk_21 4 (dk_at dksX6_pairs_0 12 rfl rfl)
theorem dX6_pairs_14 : decode cX6_pairs 14 = .ok (.invokestatic 276, 3) := dk_184 1 20 (dk_at dksX6_pairs_0 14 rfl rfl)
theorem dX6_pairs_17 : decode cX6_pairs 17 = .ok (.iload_n 3, 1) := dk_29 (dk_at dksX6_pairs_0 17 rfl rfl)
theorem dX6_pairs_18 : decode cX6_pairs 18 = .ok (.if_icmp .eq 6, 3) := dk_159 0 6 (dk_at dksX6_pairs_0 18 rfl rfl)
theorem dX6_pairs_21 : decode cX6_pairs 21 = .ok (.goto 78, 3) := dk_167 0 78 (dk_at dksX6_pairs_0 21 rfl rfl)
theorem dX6_pairs_24 : decode cX6_pairs 24 = .ok (.iconst 0, 1) := dk_3 (dk_at dksX6_pairs_1 0 rfl rfl)
theorem dX6_pairs_25 : decode cX6_pairs 25 = .ok (.istore 5, 2) := dk_54 5 (dk_at dksX6_pairs_1 1 rfl rfl)
theorem dX6_pairs_27 : decode cX6_pairs 27 = .ok (.iload 5, 2) := dk_21 5 (dk_at dksX6_pairs_1 3 rfl rfl)
theorem dX6_pairs_29 : decode cX6_pairs 29 = .ok (.iload_n 2, 1) := dk_28 (dk_at dksX6_pairs_1 5 rfl rfl)
theorem dX6_pairs_30 : decode cX6_pairs 30 = .ok (.if_icmp .ge 69, 3) := dk_162 0 69 (dk_at dksX6_pairs_1 6 rfl rfl)
theorem dX6_pairs_33 : decode cX6_pairs 33 = .ok (.iload 4, 2) := dk_21 4 (dk_at dksX6_pairs_1 9 rfl rfl)
theorem dX6_pairs_35 : decode cX6_pairs 35 = .ok (.iload 5, 2) := dk_21 5 (dk_at dksX6_pairs_1 11 rfl rfl)
theorem dX6_pairs_37 : decode cX6_pairs 37 = .ok (.invokestatic 100, 3) := dk_184 0 100 (dk_at dksX6_pairs_1 13 rfl rfl)
theorem dX6_pairs_40 : decode cX6_pairs 40 = .ok (.ifCond .ne 53, 3) := dk_154 0 53 (dk_at dksX6_pairs_1 16 rfl rfl)
theorem dX6_pairs_43 : decode cX6_pairs 43 = .ok (.aload_n 0, 1) := dk_42 (dk_at dksX6_pairs_1 19 rfl rfl)
theorem dX6_pairs_44 : decode cX6_pairs 44 = .ok (.iload_n 1, 1) := dk_27 (dk_at dksX6_pairs_1 20 rfl rfl)
theorem dX6_pairs_45 : decode cX6_pairs 45 = .ok (.invokevirtual 291, 3) := dk_182 1 35 (dk_at dksX6_pairs_1 21 rfl rfl)
theorem dX6_pairs_48 : decode cX6_pairs 48 = .ok (.aload_n 0, 1) := dk_42 (dk_at dksX6_pairs_2 0 rfl rfl)
theorem dX6_pairs_49 : decode cX6_pairs 49 = .ok (.getfield 94, 3) := dk_180 0 94 (dk_at dksX6_pairs_2 1 rfl rfl)
theorem dX6_pairs_52 : decode cX6_pairs 52 = .ok (.iload 5, 2) := dk_21 5 (dk_at dksX6_pairs_2 4 rfl rfl)
theorem dX6_pairs_54 : decode cX6_pairs 54 = .ok (.iaload, 1) := dk_46 (dk_at dksX6_pairs_2 6 rfl rfl)
theorem dX6_pairs_55 : decode cX6_pairs 55 = .ok (.invokestatic 100, 3) := dk_184 0 100 (dk_at dksX6_pairs_2 7 rfl rfl)
theorem dX6_pairs_58 : decode cX6_pairs 58 = .ok (.ifCond .eq 35, 3) := dk_153 0 35 (dk_at dksX6_pairs_2 10 rfl rfl)
theorem dX6_pairs_61 : decode cX6_pairs 61 = .ok (.aload_n 0, 1) := dk_42 (dk_at dksX6_pairs_2 13 rfl rfl)
theorem dX6_pairs_62 : decode cX6_pairs 62 = .ok (.getfield 91, 3) := dk_180 0 91 (dk_at dksX6_pairs_2 14 rfl rfl)
theorem dX6_pairs_65 : decode cX6_pairs 65 = .ok (.iload 4, 2) := dk_21 4 (dk_at dksX6_pairs_2 17 rfl rfl)
theorem dX6_pairs_67 : decode cX6_pairs 67 = .ok (.iconst 1, 1) := dk_4 (dk_at dksX6_pairs_2 19 rfl rfl)
theorem dX6_pairs_68 : decode cX6_pairs 68 = .ok (.iload 5, 2) := dk_21 5 (dk_at dksX6_pairs_2 20 rfl rfl)
theorem dX6_pairs_70 : decode cX6_pairs 70 = .ok (.ishl, 1) := dk_120 (dk_at dksX6_pairs_2 22 rfl rfl)
theorem dX6_pairs_71 : decode cX6_pairs 71 = .ok (.ior, 1) := dk_128 (dk_at dksX6_pairs_2 23 rfl rfl)
theorem dX6_pairs_72 : decode cX6_pairs 72 = .ok (.aload_n 0, 1) := dk_42 (dk_at dksX6_pairs_3 0 rfl rfl)
theorem dX6_pairs_73 : decode cX6_pairs 73 = .ok (.getfield 91, 3) := dk_180 0 91 (dk_at dksX6_pairs_3 1 rfl rfl)
theorem dX6_pairs_76 : decode cX6_pairs 76 = .ok (.iload 4, 2) := dk_21 4 (dk_at dksX6_pairs_3 4 rfl rfl)
theorem dX6_pairs_78 : decode cX6_pairs 78 = .ok (.iconst 1, 1) := dk_4 (dk_at dksX6_pairs_3 6 rfl rfl)
theorem dX6_pairs_79 : decode cX6_pairs 79 = .ok (.iload 5, 2) := dk_21 5 (dk_at dksX6_pairs_3 7 rfl rfl)
theorem dX6_pairs_81 : decode cX6_pairs 81 = .ok (.ishl, 1) := dk_120 (dk_at dksX6_pairs_3 9 rfl rfl)
theorem dX6_pairs_82 : decode cX6_pairs 82 = .ok (.ior, 1) := dk_128 (dk_at dksX6_pairs_3 10 rfl rfl)
theorem dX6_pairs_83 : decode cX6_pairs 83 = .ok (.iaload, 1) := dk_46 (dk_at dksX6_pairs_3 11 rfl rfl)
theorem dX6_pairs_84 : decode cX6_pairs 84 = .ok (.aload_n 0, 1) := dk_42 (dk_at dksX6_pairs_3 12 rfl rfl)
theorem dX6_pairs_85 : decode cX6_pairs 85 = .ok (.getfield 91, 3) := dk_180 0 91 (dk_at dksX6_pairs_3 13 rfl rfl)
theorem dX6_pairs_88 : decode cX6_pairs 88 = .ok (.iload 4, 2) := dk_21 4 (dk_at dksX6_pairs_3 16 rfl rfl)
theorem dX6_pairs_90 : decode cX6_pairs 90 = .ok (.iaload, 1) := dk_46 (dk_at dksX6_pairs_3 18 rfl rfl)
theorem dX6_pairs_91 : decode cX6_pairs 91 = .ok (.iadd, 1) := dk_96 (dk_at dksX6_pairs_3 19 rfl rfl)
theorem dX6_pairs_92 : decode cX6_pairs 92 = .ok (.iastore, 1) := dk_79 (dk_at dksX6_pairs_3 20 rfl rfl)
theorem dX6_pairs_93 : decode cX6_pairs 93 = .ok (.iinc 5 1, 3) := dk_132 5 1 (dk_at dksX6_pairs_3 21 rfl rfl)
theorem dX6_pairs_96 : decode cX6_pairs 96 = .ok (.goto (-69), 3) := dk_167 255 187 (dk_at dksX6_pairs_4 0 rfl rfl)
theorem dX6_pairs_99 : decode cX6_pairs 99 = .ok (.iinc 4 (-1), 3) := dk_132 4 255 (dk_at dksX6_pairs_4 3 rfl rfl)
theorem dX6_pairs_102 : decode cX6_pairs 102 = .ok (.goto (-95), 3) := dk_167 255 161 (dk_at dksX6_pairs_4 6 rfl rfl)
theorem dX6_pairs_105 : decode cX6_pairs 105 = .ok (.return_, 1) := dk_177 (dk_at dksX6_pairs_4 9 rfl rfl)
abbrev cX6_madeEven : ByteArray := prog_20_method_91_code
def yX6_madeEven : MethodName := ⟨RX6, "madeEven", "(I)I"⟩
def dkwX6_madeEven_1 : List UInt8 := [19, 1, 125, 172]
abbrev dktX6_madeEven_1 : List UInt8 := dkwX6_madeEven_1 ++ []
def dkwX6_madeEven_0 : List UInt8 := [42, 27, 182, 0, 233, 153, 0, 17, 42, 27, 182, 1, 75, 42, 27, 182, 1, 78, 100, 167, 0, 6]
abbrev dktX6_madeEven_0 : List UInt8 := dkwX6_madeEven_0 ++ dktX6_madeEven_1
theorem dksX6_madeEven_0 : cX6_madeEven.data.toList.drop 0 = dktX6_madeEven_0 := by decide +kernel
theorem dksX6_madeEven_1 : cX6_madeEven.data.toList.drop 22 = dktX6_madeEven_1 := dk_seg dksX6_madeEven_0 22 rfl rfl
theorem dX6_madeEven_0 : decode cX6_madeEven 0 = .ok (.aload_n 0, 1) := dk_42 (dk_at dksX6_madeEven_0 0 rfl rfl)
theorem dX6_madeEven_1 : decode cX6_madeEven 1 = .ok (.iload_n 1, 1) := dk_27 (dk_at dksX6_madeEven_0 1 rfl rfl)
theorem dX6_madeEven_2 : decode cX6_madeEven 2 = .ok (.invokevirtual 233, 3) := dk_182 0 233 (dk_at dksX6_madeEven_0 2 rfl rfl)
theorem dX6_madeEven_5 : decode cX6_madeEven 5 = .ok (.ifCond .eq 17, 3) := dk_153 0 17 (dk_at dksX6_madeEven_0 5 rfl rfl)
theorem dX6_madeEven_8 : decode cX6_madeEven 8 = .ok (.aload_n 0, 1) := dk_42 (dk_at dksX6_madeEven_0 8 rfl rfl)
theorem dX6_madeEven_9 : decode cX6_madeEven 9 = .ok (.iload_n 1, 1) := dk_27 (dk_at dksX6_madeEven_0 9 rfl rfl)
theorem dX6_madeEven_10 : decode cX6_madeEven 10 = .ok (.invokevirtual 331, 3) := dk_182 1 75 (dk_at dksX6_madeEven_0 10 rfl rfl)
theorem dX6_madeEven_13 : decode cX6_madeEven 13 = .ok (.aload_n 0, 1) := dk_42 (dk_at dksX6_madeEven_0 13 rfl rfl)
theorem dX6_madeEven_14 : decode cX6_madeEven 14 = .ok (.iload_n 1, 1) := dk_27 (dk_at dksX6_madeEven_0 14 rfl rfl)
theorem dX6_madeEven_15 : decode cX6_madeEven 15 = .ok (.invokevirtual 334, 3) := dk_182 1 78 (dk_at dksX6_madeEven_0 15 rfl rfl)
theorem dX6_madeEven_18 : decode cX6_madeEven 18 = .ok (.isub, 1) := dk_100 (dk_at dksX6_madeEven_0 18 rfl rfl)
theorem dX6_madeEven_19 : decode cX6_madeEven 19 = .ok (.goto 6, 3) := dk_167 0 6 (dk_at dksX6_madeEven_0 19 rfl rfl)
theorem dX6_madeEven_22 : decode cX6_madeEven 22 = .ok (.ldc_w 381, 3) := dk_19 1 125 (dk_at dksX6_madeEven_1 0 rfl rfl)
theorem dX6_madeEven_25 : decode cX6_madeEven 25 = .ok (.ireturn, 1) := dk_172 (dk_at dksX6_madeEven_1 3 rfl rfl)
abbrev cX6_mostOwed : ByteArray := prog_20_method_92_code
def yX6_mostOwed : MethodName := ⟨RX6, "mostOwed", "()I"⟩
def dkwX6_mostOwed_2 : List UInt8 := [27, 172]
abbrev dktX6_mostOwed_2 : List UInt8 := dkwX6_mostOwed_2 ++ []
def dkwX6_mostOwed_1 : List UInt8 := [159, 0, 16, 42, 28, 182, 1, 126, 42, 27, 182, 1, 126, 164, 0, 5, 28, 60, 132, 2, 1, 167, 255, 218]
abbrev dktX6_mostOwed_1 : List UInt8 := dkwX6_mostOwed_1 ++ dktX6_mostOwed_2
def dkwX6_mostOwed_0 : List UInt8 := [16, 254, 60, 3, 61, 28, 16, 16, 162, 0, 38, 42, 28, 182, 0, 233, 153, 0, 24, 27, 16, 254]
abbrev dktX6_mostOwed_0 : List UInt8 := dkwX6_mostOwed_0 ++ dktX6_mostOwed_1
theorem dksX6_mostOwed_0 : cX6_mostOwed.data.toList.drop 0 = dktX6_mostOwed_0 := by decide +kernel
theorem dksX6_mostOwed_1 : cX6_mostOwed.data.toList.drop 22 = dktX6_mostOwed_1 := dk_seg dksX6_mostOwed_0 22 rfl rfl
theorem dksX6_mostOwed_2 : cX6_mostOwed.data.toList.drop 46 = dktX6_mostOwed_2 := dk_seg dksX6_mostOwed_1 24 rfl rfl
theorem dX6_mostOwed_0 : decode cX6_mostOwed 0 = .ok (.bipush (-2), 2) := dk_16 254 (dk_at dksX6_mostOwed_0 0 rfl rfl)
theorem dX6_mostOwed_2 : decode cX6_mostOwed 2 = .ok (.istore_n 1, 1) := dk_60 (dk_at dksX6_mostOwed_0 2 rfl rfl)
theorem dX6_mostOwed_3 : decode cX6_mostOwed 3 = .ok (.iconst 0, 1) := dk_3 (dk_at dksX6_mostOwed_0 3 rfl rfl)
theorem dX6_mostOwed_4 : decode cX6_mostOwed 4 = .ok (.istore_n 2, 1) := dk_61 (dk_at dksX6_mostOwed_0 4 rfl rfl)
theorem dX6_mostOwed_5 : decode cX6_mostOwed 5 = .ok (.iload_n 2, 1) := dk_28 (dk_at dksX6_mostOwed_0 5 rfl rfl)
theorem dX6_mostOwed_6 : decode cX6_mostOwed 6 = .ok (.bipush 16, 2) := dk_16 16 (dk_at dksX6_mostOwed_0 6 rfl rfl)
theorem dX6_mostOwed_8 : decode cX6_mostOwed 8 = .ok (.if_icmp .ge 38, 3) := dk_162 0 38 (dk_at dksX6_mostOwed_0 8 rfl rfl)
theorem dX6_mostOwed_11 : decode cX6_mostOwed 11 = .ok (.aload_n 0, 1) := dk_42 (dk_at dksX6_mostOwed_0 11 rfl rfl)
theorem dX6_mostOwed_12 : decode cX6_mostOwed 12 = .ok (.iload_n 2, 1) := dk_28 (dk_at dksX6_mostOwed_0 12 rfl rfl)
theorem dX6_mostOwed_13 : decode cX6_mostOwed 13 = .ok (.invokevirtual 233, 3) := dk_182 0 233 (dk_at dksX6_mostOwed_0 13 rfl rfl)
theorem dX6_mostOwed_16 : decode cX6_mostOwed 16 = .ok (.ifCond .eq 24, 3) := dk_153 0 24 (dk_at dksX6_mostOwed_0 16 rfl rfl)
theorem dX6_mostOwed_19 : decode cX6_mostOwed 19 = .ok (.iload_n 1, 1) := dk_27 (dk_at dksX6_mostOwed_0 19 rfl rfl)
theorem dX6_mostOwed_20 : decode cX6_mostOwed 20 = .ok (.bipush (-2), 2) := dk_16 254 (dk_at dksX6_mostOwed_0 20 rfl rfl)
theorem dX6_mostOwed_22 : decode cX6_mostOwed 22 = .ok (.if_icmp .eq 16, 3) := dk_159 0 16 (dk_at dksX6_mostOwed_1 0 rfl rfl)
theorem dX6_mostOwed_25 : decode cX6_mostOwed 25 = .ok (.aload_n 0, 1) := dk_42 (dk_at dksX6_mostOwed_1 3 rfl rfl)
theorem dX6_mostOwed_26 : decode cX6_mostOwed 26 = .ok (.iload_n 2, 1) := dk_28 (dk_at dksX6_mostOwed_1 4 rfl rfl)
theorem dX6_mostOwed_27 : decode cX6_mostOwed 27 = .ok (.invokevirtual 382, 3) := dk_182 1 126 (dk_at dksX6_mostOwed_1 5 rfl rfl)
theorem dX6_mostOwed_30 : decode cX6_mostOwed 30 = .ok (.aload_n 0, 1) := dk_42 (dk_at dksX6_mostOwed_1 8 rfl rfl)
theorem dX6_mostOwed_31 : decode cX6_mostOwed 31 = .ok (.iload_n 1, 1) := dk_27 (dk_at dksX6_mostOwed_1 9 rfl rfl)
theorem dX6_mostOwed_32 : decode cX6_mostOwed 32 = .ok (.invokevirtual 382, 3) := dk_182 1 126 (dk_at dksX6_mostOwed_1 10 rfl rfl)
theorem dX6_mostOwed_35 : decode cX6_mostOwed 35 = .ok (.if_icmp .le 5, 3) := dk_164 0 5 (dk_at dksX6_mostOwed_1 13 rfl rfl)
theorem dX6_mostOwed_38 : decode cX6_mostOwed 38 = .ok (.iload_n 2, 1) := dk_28 (dk_at dksX6_mostOwed_1 16 rfl rfl)
theorem dX6_mostOwed_39 : decode cX6_mostOwed 39 = .ok (.istore_n 1, 1) := dk_60 (dk_at dksX6_mostOwed_1 17 rfl rfl)
theorem dX6_mostOwed_40 : decode cX6_mostOwed 40 = .ok (.iinc 2 1, 3) := dk_132 2 1 (dk_at dksX6_mostOwed_1 18 rfl rfl)
theorem dX6_mostOwed_43 : decode cX6_mostOwed 43 = .ok (.goto (-38), 3) := dk_167 255 218 (dk_at dksX6_mostOwed_1 21 rfl rfl)
theorem dX6_mostOwed_46 : decode cX6_mostOwed 46 = .ok (.iload_n 1, 1) := dk_27 (dk_at dksX6_mostOwed_2 0 rfl rfl)
theorem dX6_mostOwed_47 : decode cX6_mostOwed 47 = .ok (.ireturn, 1) := dk_172 (dk_at dksX6_mostOwed_2 1 rfl rfl)
abbrev cX6_hermit : ByteArray := prog_20_method_93_code
def yX6_hermit : MethodName := ⟨RX6, "hermit", "(II)I"⟩
def dkwX6_hermit_3 : List UInt8 := [182, 1, 129, 128, 2, 130, 126, 62, 132, 4, 1, 167, 255, 220, 29, 172]
abbrev dktX6_hermit_3 : List UInt8 := dkwX6_hermit_3 ++ []
def dkwX6_hermit_2 : List UInt8 := [28, 162, 0, 36, 29, 42, 5, 21, 4, 104, 182, 1, 129, 16, 8, 120, 42, 5, 21, 4, 104, 4, 96]
abbrev dktX6_hermit_2 : List UInt8 := dkwX6_hermit_2 ++ dktX6_hermit_3
def dkwX6_hermit_1 : List UInt8 := [180, 0, 116, 164, 0, 5, 2, 172, 42, 3, 181, 0, 116, 42, 27, 182, 1, 35, 62, 3, 54, 4, 21, 4]
abbrev dktX6_hermit_1 : List UInt8 := dkwX6_hermit_1 ++ dktX6_hermit_2
def dkwX6_hermit_0 : List UInt8 := [42, 27, 182, 0, 233, 153, 0, 23, 28, 4, 16, 8, 184, 0, 104, 153, 0, 13, 5, 28, 104, 42]
abbrev dktX6_hermit_0 : List UInt8 := dkwX6_hermit_0 ++ dktX6_hermit_1
theorem dksX6_hermit_0 : cX6_hermit.data.toList.drop 0 = dktX6_hermit_0 := by decide +kernel
theorem dksX6_hermit_1 : cX6_hermit.data.toList.drop 22 = dktX6_hermit_1 := dk_seg dksX6_hermit_0 22 rfl rfl
theorem dksX6_hermit_2 : cX6_hermit.data.toList.drop 46 = dktX6_hermit_2 := dk_seg dksX6_hermit_1 24 rfl rfl
theorem dksX6_hermit_3 : cX6_hermit.data.toList.drop 69 = dktX6_hermit_3 := dk_seg dksX6_hermit_2 23 rfl rfl
theorem dX6_hermit_0 : decode cX6_hermit 0 = .ok (.aload_n 0, 1) := dk_42 (dk_at dksX6_hermit_0 0 rfl rfl)
theorem dX6_hermit_1 : decode cX6_hermit 1 = .ok (.iload_n 1, 1) := dk_27 (dk_at dksX6_hermit_0 1 rfl rfl)
theorem dX6_hermit_2 : decode cX6_hermit 2 = .ok (.invokevirtual 233, 3) := dk_182 0 233 (dk_at dksX6_hermit_0 2 rfl rfl)
theorem dX6_hermit_5 : decode cX6_hermit 5 = .ok (.ifCond .eq 23, 3) := dk_153 0 23 (dk_at dksX6_hermit_0 5 rfl rfl)
theorem dX6_hermit_8 : decode cX6_hermit 8 = .ok (.iload_n 2, 1) := dk_28 (dk_at dksX6_hermit_0 8 rfl rfl)
theorem dX6_hermit_9 : decode cX6_hermit 9 = .ok (.iconst 1, 1) := dk_4 (dk_at dksX6_hermit_0 9 rfl rfl)
theorem dX6_hermit_10 : decode cX6_hermit 10 = .ok (.bipush 8, 2) := dk_16 8 (dk_at dksX6_hermit_0 10 rfl rfl)
theorem dX6_hermit_12 : decode cX6_hermit 12 = .ok (.invokestatic 104, 3) := dk_184 0 104 (dk_at dksX6_hermit_0 12 rfl rfl)
theorem dX6_hermit_15 : decode cX6_hermit 15 = .ok (.ifCond .eq 13, 3) := dk_153 0 13 (dk_at dksX6_hermit_0 15 rfl rfl)
theorem dX6_hermit_18 : decode cX6_hermit 18 = .ok (.iconst 2, 1) := dk_5 (dk_at dksX6_hermit_0 18 rfl rfl)
theorem dX6_hermit_19 : decode cX6_hermit 19 = .ok (.iload_n 2, 1) := dk_28 (dk_at dksX6_hermit_0 19 rfl rfl)
theorem dX6_hermit_20 : decode cX6_hermit 20 = .ok (.imul, 1) := dk_104 (dk_at dksX6_hermit_0 20 rfl rfl)
theorem dX6_hermit_21 : decode cX6_hermit 21 = .ok (.aload_n 0, 1) := dk_42 (dk_at dksX6_hermit_0 21 rfl rfl)
theorem dX6_hermit_22 : decode cX6_hermit 22 = .ok (.getfield 116, 3) := dk_180 0 116 (dk_at dksX6_hermit_1 0 rfl rfl)
theorem dX6_hermit_25 : decode cX6_hermit 25 = .ok (.if_icmp .le 5, 3) := dk_164 0 5 (dk_at dksX6_hermit_1 3 rfl rfl)
theorem dX6_hermit_28 : decode cX6_hermit 28 = .ok (.iconst (-1), 1) := dk_2 (dk_at dksX6_hermit_1 6 rfl rfl)
theorem dX6_hermit_29 : decode cX6_hermit 29 = .ok (.ireturn, 1) := dk_172 (dk_at dksX6_hermit_1 7 rfl rfl)
theorem dX6_hermit_30 : decode cX6_hermit 30 = .ok (.aload_n 0, 1) := dk_42 (dk_at dksX6_hermit_1 8 rfl rfl)
theorem dX6_hermit_31 : decode cX6_hermit 31 = .ok (.iconst 0, 1) := dk_3 (dk_at dksX6_hermit_1 9 rfl rfl)
theorem dX6_hermit_32 : decode cX6_hermit 32 = .ok (.putfield 116, 3) := dk_181 0 116 (dk_at dksX6_hermit_1 10 rfl rfl)
theorem dX6_hermit_35 : decode cX6_hermit 35 = .ok (.aload_n 0, 1) := dk_42 (dk_at dksX6_hermit_1 13 rfl rfl)
theorem dX6_hermit_36 : decode cX6_hermit 36 = .ok (.iload_n 1, 1) := dk_27 (dk_at dksX6_hermit_1 14 rfl rfl)
theorem dX6_hermit_37 : decode cX6_hermit 37 = .ok (.invokevirtual 291, 3) := dk_182 1 35 (dk_at dksX6_hermit_1 15 rfl rfl)
theorem dX6_hermit_40 : decode cX6_hermit 40 = .ok (.istore_n 3, 1) := dk_62 (dk_at dksX6_hermit_1 18 rfl rfl)
theorem dX6_hermit_41 : decode cX6_hermit 41 = .ok (.iconst 0, 1) := dk_3 (dk_at dksX6_hermit_1 19 rfl rfl)
theorem dX6_hermit_42 : decode cX6_hermit 42 = .ok (.istore 4, 2) := dk_54 4 (dk_at dksX6_hermit_1 20 rfl rfl)
theorem dX6_hermit_44 : decode cX6_hermit 44 = .ok (.iload 4, 2) := dk_21 4 (dk_at dksX6_hermit_1 22 rfl rfl)
theorem dX6_hermit_46 : decode cX6_hermit 46 = .ok (.iload_n 2, 1) := dk_28 (dk_at dksX6_hermit_2 0 rfl rfl)
theorem dX6_hermit_47 : decode cX6_hermit 47 = .ok (.if_icmp .ge 36, 3) := dk_162 0 36 (dk_at dksX6_hermit_2 1 rfl rfl)
theorem dX6_hermit_50 : decode cX6_hermit 50 = .ok (.iload_n 3, 1) := dk_29 (dk_at dksX6_hermit_2 4 rfl rfl)
theorem dX6_hermit_51 : decode cX6_hermit 51 = .ok (.aload_n 0, 1) := dk_42 (dk_at dksX6_hermit_2 5 rfl rfl)
theorem dX6_hermit_52 : decode cX6_hermit 52 = .ok (.iconst 2, 1) := dk_5 (dk_at dksX6_hermit_2 6 rfl rfl)
theorem dX6_hermit_53 : decode cX6_hermit 53 = .ok (.iload 4, 2) := dk_21 4 (dk_at dksX6_hermit_2 7 rfl rfl)
theorem dX6_hermit_55 : decode cX6_hermit 55 = .ok (.imul, 1) := dk_104 (dk_at dksX6_hermit_2 9 rfl rfl)
theorem dX6_hermit_56 : decode cX6_hermit 56 = .ok (.invokevirtual 385, 3) := dk_182 1 129 (dk_at dksX6_hermit_2 10 rfl rfl)
theorem dX6_hermit_59 : decode cX6_hermit 59 = .ok (.bipush 8, 2) := dk_16 8 (dk_at dksX6_hermit_2 13 rfl rfl)
theorem dX6_hermit_61 : decode cX6_hermit 61 = .ok (.ishl, 1) := dk_120 (dk_at dksX6_hermit_2 15 rfl rfl)
theorem dX6_hermit_62 : decode cX6_hermit 62 = .ok (.aload_n 0, 1) := dk_42 (dk_at dksX6_hermit_2 16 rfl rfl)
theorem dX6_hermit_63 : decode cX6_hermit 63 = .ok (.iconst 2, 1) := dk_5 (dk_at dksX6_hermit_2 17 rfl rfl)
theorem dX6_hermit_64 : decode cX6_hermit 64 = .ok (.iload 4, 2) := dk_21 4 (dk_at dksX6_hermit_2 18 rfl rfl)
theorem dX6_hermit_66 : decode cX6_hermit 66 = .ok (.imul, 1) := dk_104 (dk_at dksX6_hermit_2 20 rfl rfl)
theorem dX6_hermit_67 : decode cX6_hermit 67 = .ok (.iconst 1, 1) := dk_4 (dk_at dksX6_hermit_2 21 rfl rfl)
theorem dX6_hermit_68 : decode cX6_hermit 68 = .ok (.iadd, 1) := dk_96 (dk_at dksX6_hermit_2 22 rfl rfl)
theorem dX6_hermit_69 : decode cX6_hermit 69 = .ok (.invokevirtual 385, 3) := dk_182 1 129 (dk_at dksX6_hermit_3 0 rfl rfl)
theorem dX6_hermit_72 : decode cX6_hermit 72 = .ok (.ior, 1) := dk_128 (dk_at dksX6_hermit_3 3 rfl rfl)
theorem dX6_hermit_73 : decode cX6_hermit 73 = .ok (.iconst (-1), 1) := dk_2 (dk_at dksX6_hermit_3 4 rfl rfl)
theorem dX6_hermit_74 : decode cX6_hermit 74 = .ok (.ixor, 1) := dk_130 (dk_at dksX6_hermit_3 5 rfl rfl)
theorem dX6_hermit_75 : decode cX6_hermit 75 = .ok (.iand, 1) := dk_126 (dk_at dksX6_hermit_3 6 rfl rfl)
theorem dX6_hermit_76 : decode cX6_hermit 76 = .ok (.istore_n 3, 1) := dk_62 (dk_at dksX6_hermit_3 7 rfl rfl)
theorem dX6_hermit_77 : decode cX6_hermit 77 = .ok (.iinc 4 1, 3) := dk_132 4 1 (dk_at dksX6_hermit_3 8 rfl rfl)
theorem dX6_hermit_80 : decode cX6_hermit 80 = .ok (.goto (-36), 3) := dk_167 255 220 (dk_at dksX6_hermit_3 11 rfl rfl)
theorem dX6_hermit_83 : decode cX6_hermit 83 = .ok (.iload_n 3, 1) := dk_29 (dk_at dksX6_hermit_3 14 rfl rfl)
theorem dX6_hermit_84 : decode cX6_hermit 84 = .ok (.ireturn, 1) := dk_172 (dk_at dksX6_hermit_3 15 rfl rfl)
abbrev cX6_octet : ByteArray := prog_20_method_16_code
def yX6_octet : MethodName := ⟨RX6, "octet", "(I)I"⟩
def dkwX6_octet_0 : List UInt8 := [42, 180, 0, 31, 27, 51, 17, 0, 255, 126, 172]
abbrev dktX6_octet_0 : List UInt8 := dkwX6_octet_0 ++ []
theorem dksX6_octet_0 : cX6_octet.data.toList.drop 0 = dktX6_octet_0 := by decide +kernel
theorem dX6_octet_0 : decode cX6_octet 0 = .ok (.aload_n 0, 1) := dk_42 (dk_at dksX6_octet_0 0 rfl rfl)
theorem dX6_octet_1 : decode cX6_octet 1 = .ok (.getfield 31, 3) := dk_180 0 31 (dk_at dksX6_octet_0 1 rfl rfl)
theorem dX6_octet_4 : decode cX6_octet 4 = .ok (.iload_n 1, 1) := dk_27 (dk_at dksX6_octet_0 4 rfl rfl)
theorem dX6_octet_5 : decode cX6_octet 5 = .ok (.baload, 1) := dk_51 (dk_at dksX6_octet_0 5 rfl rfl)
theorem dX6_octet_6 : decode cX6_octet 6 = .ok (.sipush 255, 3) := dk_17 0 255 (dk_at dksX6_octet_0 6 rfl rfl)
theorem dX6_octet_9 : decode cX6_octet 9 = .ok (.iand, 1) := dk_126 (dk_at dksX6_octet_0 9 rfl rfl)
theorem dX6_octet_10 : decode cX6_octet 10 = .ok (.ireturn, 1) := dk_172 (dk_at dksX6_octet_0 10 rfl rfl)
abbrev cX6_burglar : ByteArray := prog_20_method_94_code
def yX6_burglar : MethodName := ⟨RX6, "burglar", "(I)I"⟩
def dkwX6_burglar_3 : List UInt8 := [28, 172]
abbrev dktX6_burglar_3 : List UInt8 := dkwX6_burglar_3 ++ []
def dkwX6_burglar_2 : List UInt8 := [154, 0, 6, 16, 253, 172, 28, 4, 42, 29, 182, 1, 129, 120, 2, 130, 126, 61, 132, 3, 1, 167, 255, 221]
abbrev dktX6_burglar_2 : List UInt8 := dkwX6_burglar_2 ++ dktX6_burglar_3
def dkwX6_burglar_1 : List UInt8 := [181, 0, 116, 42, 180, 0, 108, 61, 3, 62, 29, 27, 162, 0, 36, 42, 42, 29, 182, 1, 129, 182, 0, 233]
abbrev dktX6_burglar_1 : List UInt8 := dkwX6_burglar_1 ++ dktX6_burglar_2
def dkwX6_burglar_0 : List UInt8 := [27, 4, 16, 10, 184, 0, 104, 153, 0, 11, 27, 42, 180, 0, 116, 164, 0, 5, 2, 172, 42, 3]
abbrev dktX6_burglar_0 : List UInt8 := dkwX6_burglar_0 ++ dktX6_burglar_1
theorem dksX6_burglar_0 : cX6_burglar.data.toList.drop 0 = dktX6_burglar_0 := by decide +kernel
theorem dksX6_burglar_1 : cX6_burglar.data.toList.drop 22 = dktX6_burglar_1 := dk_seg dksX6_burglar_0 22 rfl rfl
theorem dksX6_burglar_2 : cX6_burglar.data.toList.drop 46 = dktX6_burglar_2 := dk_seg dksX6_burglar_1 24 rfl rfl
theorem dksX6_burglar_3 : cX6_burglar.data.toList.drop 70 = dktX6_burglar_3 := dk_seg dksX6_burglar_2 24 rfl rfl
theorem dX6_burglar_0 : decode cX6_burglar 0 = .ok (.iload_n 1, 1) := dk_27 (dk_at dksX6_burglar_0 0 rfl rfl)
theorem dX6_burglar_1 : decode cX6_burglar 1 = .ok (.iconst 1, 1) := dk_4 (dk_at dksX6_burglar_0 1 rfl rfl)
theorem dX6_burglar_2 : decode cX6_burglar 2 = .ok (.bipush 10, 2) := dk_16 10 (dk_at dksX6_burglar_0 2 rfl rfl)
theorem dX6_burglar_4 : decode cX6_burglar 4 = .ok (.invokestatic 104, 3) := dk_184 0 104 (dk_at dksX6_burglar_0 4 rfl rfl)
theorem dX6_burglar_7 : decode cX6_burglar 7 = .ok (.ifCond .eq 11, 3) := dk_153 0 11 (dk_at dksX6_burglar_0 7 rfl rfl)
theorem dX6_burglar_10 : decode cX6_burglar 10 = .ok (.iload_n 1, 1) := dk_27 (dk_at dksX6_burglar_0 10 rfl rfl)
theorem dX6_burglar_11 : decode cX6_burglar 11 = .ok (.aload_n 0, 1) := dk_42 (dk_at dksX6_burglar_0 11 rfl rfl)
theorem dX6_burglar_12 : decode cX6_burglar 12 = .ok (.getfield 116, 3) := dk_180 0 116 (dk_at dksX6_burglar_0 12 rfl rfl)
theorem dX6_burglar_15 : decode cX6_burglar 15 = .ok (.if_icmp .le 5, 3) := dk_164 0 5 (dk_at dksX6_burglar_0 15 rfl rfl)
theorem dX6_burglar_18 : decode cX6_burglar 18 = .ok (.iconst (-1), 1) := dk_2 (dk_at dksX6_burglar_0 18 rfl rfl)
theorem dX6_burglar_19 : decode cX6_burglar 19 = .ok (.ireturn, 1) := dk_172 (dk_at dksX6_burglar_0 19 rfl rfl)
theorem dX6_burglar_20 : decode cX6_burglar 20 = .ok (.aload_n 0, 1) := dk_42 (dk_at dksX6_burglar_0 20 rfl rfl)
theorem dX6_burglar_21 : decode cX6_burglar 21 = .ok (.iconst 0, 1) := dk_3 (dk_at dksX6_burglar_0 21 rfl rfl)
theorem dX6_burglar_22 : decode cX6_burglar 22 = .ok (.putfield 116, 3) := dk_181 0 116 (dk_at dksX6_burglar_1 0 rfl rfl)
theorem dX6_burglar_25 : decode cX6_burglar 25 = .ok (.aload_n 0, 1) := dk_42 (dk_at dksX6_burglar_1 3 rfl rfl)
theorem dX6_burglar_26 : decode cX6_burglar 26 = .ok (.getfield 108, 3) := dk_180 0 108 (dk_at dksX6_burglar_1 4 rfl rfl)
theorem dX6_burglar_29 : decode cX6_burglar 29 = .ok (.istore_n 2, 1) := dk_61 (dk_at dksX6_burglar_1 7 rfl rfl)
theorem dX6_burglar_30 : decode cX6_burglar 30 = .ok (.iconst 0, 1) := dk_3 (dk_at dksX6_burglar_1 8 rfl rfl)
theorem dX6_burglar_31 : decode cX6_burglar 31 = .ok (.istore_n 3, 1) := dk_62 (dk_at dksX6_burglar_1 9 rfl rfl)
theorem dX6_burglar_32 : decode cX6_burglar 32 = .ok (.iload_n 3, 1) := dk_29 (dk_at dksX6_burglar_1 10 rfl rfl)
theorem dX6_burglar_33 : decode cX6_burglar 33 = .ok (.iload_n 1, 1) := dk_27 (dk_at dksX6_burglar_1 11 rfl rfl)
theorem dX6_burglar_34 : decode cX6_burglar 34 = .ok (.if_icmp .ge 36, 3) := dk_162 0 36 (dk_at dksX6_burglar_1 12 rfl rfl)
theorem dX6_burglar_37 : decode cX6_burglar 37 = .ok (.aload_n 0, 1) := dk_42 (dk_at dksX6_burglar_1 15 rfl rfl)
theorem dX6_burglar_38 : decode cX6_burglar 38 = .ok (.aload_n 0, 1) := dk_42 (dk_at dksX6_burglar_1 16 rfl rfl)
theorem dX6_burglar_39 : decode cX6_burglar 39 = .ok (.iload_n 3, 1) := dk_29 (dk_at dksX6_burglar_1 17 rfl rfl)
theorem dX6_burglar_40 : decode cX6_burglar 40 = .ok (.invokevirtual 385, 3) := dk_182 1 129 (dk_at dksX6_burglar_1 18 rfl rfl)
theorem dX6_burglar_43 : decode cX6_burglar 43 = .ok (.invokevirtual 233, 3) := dk_182 0 233 (dk_at dksX6_burglar_1 21 rfl rfl)
theorem dX6_burglar_46 : decode cX6_burglar 46 = .ok (.ifCond .ne 6, 3) := dk_154 0 6 (dk_at dksX6_burglar_2 0 rfl rfl)
theorem dX6_burglar_49 : decode cX6_burglar 49 = .ok (.bipush (-3), 2) := dk_16 253 (dk_at dksX6_burglar_2 3 rfl rfl)
theorem dX6_burglar_51 : decode cX6_burglar 51 = .ok (.ireturn, 1) := dk_172 (dk_at dksX6_burglar_2 5 rfl rfl)
theorem dX6_burglar_52 : decode cX6_burglar 52 = .ok (.iload_n 2, 1) := dk_28 (dk_at dksX6_burglar_2 6 rfl rfl)
theorem dX6_burglar_53 : decode cX6_burglar 53 = .ok (.iconst 1, 1) := dk_4 (dk_at dksX6_burglar_2 7 rfl rfl)
theorem dX6_burglar_54 : decode cX6_burglar 54 = .ok (.aload_n 0, 1) := dk_42 (dk_at dksX6_burglar_2 8 rfl rfl)
theorem dX6_burglar_55 : decode cX6_burglar 55 = .ok (.iload_n 3, 1) := dk_29 (dk_at dksX6_burglar_2 9 rfl rfl)
theorem dX6_burglar_56 : decode cX6_burglar 56 = .ok (.invokevirtual 385, 3) := dk_182 1 129 (dk_at dksX6_burglar_2 10 rfl rfl)
theorem dX6_burglar_59 : decode cX6_burglar 59 = .ok (.ishl, 1) := dk_120 (dk_at dksX6_burglar_2 13 rfl rfl)
theorem dX6_burglar_60 : decode cX6_burglar 60 = .ok (.iconst (-1), 1) := dk_2 (dk_at dksX6_burglar_2 14 rfl rfl)
theorem dX6_burglar_61 : decode cX6_burglar 61 = .ok (.ixor, 1) := dk_130 (dk_at dksX6_burglar_2 15 rfl rfl)
theorem dX6_burglar_62 : decode cX6_burglar 62 = .ok (.iand, 1) := dk_126 (dk_at dksX6_burglar_2 16 rfl rfl)
theorem dX6_burglar_63 : decode cX6_burglar 63 = .ok (.istore_n 2, 1) := dk_61 (dk_at dksX6_burglar_2 17 rfl rfl)
theorem dX6_burglar_64 : decode cX6_burglar 64 = .ok (.iinc 3 1, 3) := dk_132 3 1 (dk_at dksX6_burglar_2 18 rfl rfl)
theorem dX6_burglar_67 : decode cX6_burglar 67 = .ok (.goto (-35), 3) := dk_167 255 221 (dk_at dksX6_burglar_2 21 rfl rfl)
theorem dX6_burglar_70 : decode cX6_burglar 70 = .ok (.iload_n 2, 1) := dk_28 (dk_at dksX6_burglar_3 0 rfl rfl)
theorem dX6_burglar_71 : decode cX6_burglar 71 = .ok (.ireturn, 1) := dk_172 (dk_at dksX6_burglar_3 1 rfl rfl)
abbrev cX6_calls : ByteArray := prog_20_method_95_code
def yX6_calls : MethodName := ⟨RX6, "calls", "(II)I"⟩
def dkwX6_calls_7 : List UInt8 := [132, 4, 1, 167, 255, 226, 29, 19, 1, 136, 161, 0, 8, 16, 254, 167, 0, 4, 29, 172]
abbrev dktX6_calls_7 : List UInt8 := dkwX6_calls_7 ++ []
def dkwX6_calls_6 : List UInt8 := [162, 0, 30, 29, 42, 180, 0, 97, 16, 8, 4, 27, 120, 4, 100, 104, 21, 4, 96, 46, 184, 1, 47, 62]
abbrev dktX6_calls_6 : List UInt8 := dkwX6_calls_6 ++ dktX6_calls_7
def dkwX6_calls_5 : List UInt8 := [132, 4, 1, 167, 255, 211, 132, 3, 1, 167, 255, 195, 19, 1, 136, 62, 3, 54, 4, 21, 4, 27]
abbrev dktX6_calls_5 : List UInt8 := dkwX6_calls_5 ++ dktX6_calls_6
def dkwX6_calls_4 : List UInt8 := [21, 4, 184, 0, 100, 153, 0, 15, 42, 27, 28, 29, 21, 4, 182, 1, 132, 167, 0, 6, 19, 1, 136, 79]
abbrev dktX6_calls_4 : List UInt8 := dkwX6_calls_4 ++ dktX6_calls_5
def dkwX6_calls_3 : List UInt8 := [162, 0, 60, 3, 54, 4, 21, 4, 27, 162, 0, 45, 42, 180, 0, 97, 16, 8, 29, 104, 21, 4, 96, 29]
abbrev dktX6_calls_3 : List UInt8 := dkwX6_calls_3 ++ dktX6_calls_4
def dkwX6_calls_2 : List UInt8 := [182, 1, 129, 16, 99, 164, 0, 6, 16, 253, 172, 132, 3, 1, 167, 255, 233, 4, 62, 29, 4, 27, 120]
abbrev dktX6_calls_2 : List UInt8 := dkwX6_calls_2 ++ dktX6_calls_3
def dkwX6_calls_1 : List UInt8 := [180, 0, 116, 164, 0, 5, 2, 172, 42, 3, 181, 0, 116, 3, 62, 29, 27, 162, 0, 24, 42, 5, 29, 104]
abbrev dktX6_calls_1 : List UInt8 := dkwX6_calls_1 ++ dktX6_calls_2
def dkwX6_calls_0 : List UInt8 := [27, 4, 16, 8, 184, 0, 104, 153, 0, 23, 28, 3, 16, 99, 184, 0, 104, 153, 0, 13, 5, 27, 104, 42]
abbrev dktX6_calls_0 : List UInt8 := dkwX6_calls_0 ++ dktX6_calls_1
theorem dksX6_calls_0 : cX6_calls.data.toList.drop 0 = dktX6_calls_0 := by decide +kernel
theorem dksX6_calls_1 : cX6_calls.data.toList.drop 24 = dktX6_calls_1 := dk_seg dksX6_calls_0 24 rfl rfl
theorem dksX6_calls_2 : cX6_calls.data.toList.drop 48 = dktX6_calls_2 := dk_seg dksX6_calls_1 24 rfl rfl
theorem dksX6_calls_3 : cX6_calls.data.toList.drop 71 = dktX6_calls_3 := dk_seg dksX6_calls_2 23 rfl rfl
theorem dksX6_calls_4 : cX6_calls.data.toList.drop 95 = dktX6_calls_4 := dk_seg dksX6_calls_3 24 rfl rfl
theorem dksX6_calls_5 : cX6_calls.data.toList.drop 119 = dktX6_calls_5 := dk_seg dksX6_calls_4 24 rfl rfl
theorem dksX6_calls_6 : cX6_calls.data.toList.drop 141 = dktX6_calls_6 := dk_seg dksX6_calls_5 22 rfl rfl
theorem dksX6_calls_7 : cX6_calls.data.toList.drop 165 = dktX6_calls_7 := dk_seg dksX6_calls_6 24 rfl rfl
theorem dX6_calls_0 : decode cX6_calls 0 = .ok (.iload_n 1, 1) := dk_27 (dk_at dksX6_calls_0 0 rfl rfl)
theorem dX6_calls_1 : decode cX6_calls 1 = .ok (.iconst 1, 1) := dk_4 (dk_at dksX6_calls_0 1 rfl rfl)
theorem dX6_calls_2 : decode cX6_calls 2 = .ok (.bipush 8, 2) := dk_16 8 (dk_at dksX6_calls_0 2 rfl rfl)
theorem dX6_calls_4 : decode cX6_calls 4 = .ok (.invokestatic 104, 3) := dk_184 0 104 (dk_at dksX6_calls_0 4 rfl rfl)
theorem dX6_calls_7 : decode cX6_calls 7 = .ok (.ifCond .eq 23, 3) := dk_153 0 23 (dk_at dksX6_calls_0 7 rfl rfl)
theorem dX6_calls_10 : decode cX6_calls 10 = .ok (.iload_n 2, 1) := dk_28 (dk_at dksX6_calls_0 10 rfl rfl)
theorem dX6_calls_11 : decode cX6_calls 11 = .ok (.iconst 0, 1) := dk_3 (dk_at dksX6_calls_0 11 rfl rfl)
theorem dX6_calls_12 : decode cX6_calls 12 = .ok (.bipush 99, 2) := dk_16 99 (dk_at dksX6_calls_0 12 rfl rfl)
theorem dX6_calls_14 : decode cX6_calls 14 = .ok (.invokestatic 104, 3) := dk_184 0 104 (dk_at dksX6_calls_0 14 rfl rfl)
theorem dX6_calls_17 : decode cX6_calls 17 = .ok (.ifCond .eq 13, 3) := dk_153 0 13 (dk_at dksX6_calls_0 17 rfl rfl)
theorem dX6_calls_20 : decode cX6_calls 20 = .ok (.iconst 2, 1) := dk_5 (dk_at dksX6_calls_0 20 rfl rfl)
theorem dX6_calls_21 : decode cX6_calls 21 = .ok (.iload_n 1, 1) := dk_27 (dk_at dksX6_calls_0 21 rfl rfl)
theorem dX6_calls_22 : decode cX6_calls 22 = .ok (.imul, 1) := dk_104 (dk_at dksX6_calls_0 22 rfl rfl)
theorem dX6_calls_23 : decode cX6_calls 23 = .ok (.aload_n 0, 1) := dk_42 (dk_at dksX6_calls_0 23 rfl rfl)
theorem dX6_calls_24 : decode cX6_calls 24 = .ok (.getfield 116, 3) := dk_180 0 116 (dk_at dksX6_calls_1 0 rfl rfl)
theorem dX6_calls_27 : decode cX6_calls 27 = .ok (.if_icmp .le 5, 3) := dk_164 0 5 (dk_at dksX6_calls_1 3 rfl rfl)
theorem dX6_calls_30 : decode cX6_calls 30 = .ok (.iconst (-1), 1) := dk_2 (dk_at dksX6_calls_1 6 rfl rfl)
theorem dX6_calls_31 : decode cX6_calls 31 = .ok (.ireturn, 1) := dk_172 (dk_at dksX6_calls_1 7 rfl rfl)
theorem dX6_calls_32 : decode cX6_calls 32 = .ok (.aload_n 0, 1) := dk_42 (dk_at dksX6_calls_1 8 rfl rfl)
theorem dX6_calls_33 : decode cX6_calls 33 = .ok (.iconst 0, 1) := dk_3 (dk_at dksX6_calls_1 9 rfl rfl)
theorem dX6_calls_34 : decode cX6_calls 34 = .ok (.putfield 116, 3) := dk_181 0 116 (dk_at dksX6_calls_1 10 rfl rfl)
theorem dX6_calls_37 : decode cX6_calls 37 = .ok (.iconst 0, 1) := dk_3 (dk_at dksX6_calls_1 13 rfl rfl)
theorem dX6_calls_38 : decode cX6_calls 38 = .ok (.istore_n 3, 1) := dk_62 (dk_at dksX6_calls_1 14 rfl rfl)
theorem dX6_calls_39 : decode cX6_calls 39 = .ok (.iload_n 3, 1) := dk_29 (dk_at dksX6_calls_1 15 rfl rfl)
theorem dX6_calls_40 : decode cX6_calls 40 = .ok (.iload_n 1, 1) := dk_27 (dk_at dksX6_calls_1 16 rfl rfl)
theorem dX6_calls_41 : decode cX6_calls 41 = .ok (.if_icmp .ge 24, 3) := dk_162 0 24 (dk_at dksX6_calls_1 17 rfl rfl)
theorem dX6_calls_44 : decode cX6_calls 44 = .ok (.aload_n 0, 1) := dk_42 (dk_at dksX6_calls_1 20 rfl rfl)
theorem dX6_calls_45 : decode cX6_calls 45 = .ok (.iconst 2, 1) := dk_5 (dk_at dksX6_calls_1 21 rfl rfl)
theorem dX6_calls_46 : decode cX6_calls 46 = .ok (.iload_n 3, 1) := dk_29 (dk_at dksX6_calls_1 22 rfl rfl)
theorem dX6_calls_47 : decode cX6_calls 47 = .ok (.imul, 1) := dk_104 (dk_at dksX6_calls_1 23 rfl rfl)
theorem dX6_calls_48 : decode cX6_calls 48 = .ok (.invokevirtual 385, 3) := dk_182 1 129 (dk_at dksX6_calls_2 0 rfl rfl)
theorem dX6_calls_51 : decode cX6_calls 51 = .ok (.bipush 99, 2) := dk_16 99 (dk_at dksX6_calls_2 3 rfl rfl)
theorem dX6_calls_53 : decode cX6_calls 53 = .ok (.if_icmp .le 6, 3) := dk_164 0 6 (dk_at dksX6_calls_2 5 rfl rfl)
theorem dX6_calls_56 : decode cX6_calls 56 = .ok (.bipush (-3), 2) := dk_16 253 (dk_at dksX6_calls_2 8 rfl rfl)
theorem dX6_calls_58 : decode cX6_calls 58 = .ok (.ireturn, 1) := dk_172 (dk_at dksX6_calls_2 10 rfl rfl)
theorem dX6_calls_59 : decode cX6_calls 59 = .ok (.iinc 3 1, 3) := dk_132 3 1 (dk_at dksX6_calls_2 11 rfl rfl)
theorem dX6_calls_62 : decode cX6_calls 62 = .ok (.goto (-23), 3) := dk_167 255 233 (dk_at dksX6_calls_2 14 rfl rfl)
theorem dX6_calls_65 : decode cX6_calls 65 = .ok (.iconst 1, 1) := dk_4 (dk_at dksX6_calls_2 17 rfl rfl)
theorem dX6_calls_66 : decode cX6_calls 66 = .ok (.istore_n 3, 1) := dk_62 (dk_at dksX6_calls_2 18 rfl rfl)
theorem dX6_calls_67 : decode cX6_calls 67 = .ok (.iload_n 3, 1) := dk_29 (dk_at dksX6_calls_2 19 rfl rfl)
theorem dX6_calls_68 : decode cX6_calls 68 = .ok (.iconst 1, 1) := dk_4 (dk_at dksX6_calls_2 20 rfl rfl)
theorem dX6_calls_69 : decode cX6_calls 69 = .ok (.iload_n 1, 1) := dk_27 (dk_at dksX6_calls_2 21 rfl rfl)
theorem dX6_calls_70 : decode cX6_calls 70 = .ok (.ishl, 1) := dk_120 (dk_at dksX6_calls_2 22 rfl rfl)
theorem dX6_calls_71 : decode cX6_calls 71 = .ok (.if_icmp .ge 60, 3) := dk_162 0 60 (dk_at dksX6_calls_3 0 rfl rfl)
theorem dX6_calls_74 : decode cX6_calls 74 = .ok (.iconst 0, 1) := dk_3 (dk_at dksX6_calls_3 3 rfl rfl)
theorem dX6_calls_75 : decode cX6_calls 75 = .ok (.istore 4, 2) := dk_54 4 (dk_at dksX6_calls_3 4 rfl rfl)
theorem dX6_calls_77 : decode cX6_calls 77 = .ok (.iload 4, 2) := dk_21 4 (dk_at dksX6_calls_3 6 rfl rfl)
theorem dX6_calls_79 : decode cX6_calls 79 = .ok (.iload_n 1, 1) := dk_27 (dk_at dksX6_calls_3 8 rfl rfl)
theorem dX6_calls_80 : decode cX6_calls 80 = .ok (.if_icmp .ge 45, 3) := dk_162 0 45 (dk_at dksX6_calls_3 9 rfl rfl)
theorem dX6_calls_83 : decode cX6_calls 83 = .ok (.aload_n 0, 1) := dk_42 (dk_at dksX6_calls_3 12 rfl rfl)
theorem dX6_calls_84 : decode cX6_calls 84 = .ok (.getfield 97, 3) := dk_180 0 97 (dk_at dksX6_calls_3 13 rfl rfl)
theorem dX6_calls_87 : decode cX6_calls 87 = .ok (.bipush 8, 2) := dk_16 8 (dk_at dksX6_calls_3 16 rfl rfl)
theorem dX6_calls_89 : decode cX6_calls 89 = .ok (.iload_n 3, 1) := dk_29 (dk_at dksX6_calls_3 18 rfl rfl)
theorem dX6_calls_90 : decode cX6_calls 90 = .ok (.imul, 1) := dk_104 (dk_at dksX6_calls_3 19 rfl rfl)
theorem dX6_calls_91 : decode cX6_calls 91 = .ok (.iload 4, 2) := dk_21 4 (dk_at dksX6_calls_3 20 rfl rfl)
theorem dX6_calls_93 : decode cX6_calls 93 = .ok (.iadd, 1) := dk_96 (dk_at dksX6_calls_3 22 rfl rfl)
theorem dX6_calls_94 : decode cX6_calls 94 = .ok (.iload_n 3, 1) := dk_29 (dk_at dksX6_calls_3 23 rfl rfl)
theorem dX6_calls_95 : decode cX6_calls 95 = .ok (.iload 4, 2) := dk_21 4 (dk_at dksX6_calls_4 0 rfl rfl)
theorem dX6_calls_97 : decode cX6_calls 97 = .ok (.invokestatic 100, 3) := dk_184 0 100 (dk_at dksX6_calls_4 2 rfl rfl)
theorem dX6_calls_100 : decode cX6_calls 100 = .ok (.ifCond .eq 15, 3) := dk_153 0 15 (dk_at dksX6_calls_4 5 rfl rfl)
theorem dX6_calls_103 : decode cX6_calls 103 = .ok (.aload_n 0, 1) := dk_42 (dk_at dksX6_calls_4 8 rfl rfl)
theorem dX6_calls_104 : decode cX6_calls 104 = .ok (.iload_n 1, 1) := dk_27 (dk_at dksX6_calls_4 9 rfl rfl)
theorem dX6_calls_105 : decode cX6_calls 105 = .ok (.iload_n 2, 1) := dk_28 (dk_at dksX6_calls_4 10 rfl rfl)
theorem dX6_calls_106 : decode cX6_calls 106 = .ok (.iload_n 3, 1) := dk_29 (dk_at dksX6_calls_4 11 rfl rfl)
theorem dX6_calls_107 : decode cX6_calls 107 = .ok (.iload 4, 2) := dk_21 4 (dk_at dksX6_calls_4 12 rfl rfl)
theorem dX6_calls_109 : decode cX6_calls 109 = .ok (.invokevirtual 388, 3) := dk_182 1 132 (dk_at dksX6_calls_4 14 rfl rfl)
theorem dX6_calls_112 : decode cX6_calls 112 = .ok (.goto 6, 3) := dk_167 0 6 (dk_at dksX6_calls_4 17 rfl rfl)
theorem dX6_calls_115 : decode cX6_calls 115 = .ok (.ldc_w 392, 3) := dk_19 1 136 (dk_at dksX6_calls_4 20 rfl rfl)
theorem dX6_calls_118 : decode cX6_calls 118 = .ok (.iastore, 1) := dk_79 (dk_at dksX6_calls_4 23 rfl rfl)
theorem dX6_calls_119 : decode cX6_calls 119 = .ok (.iinc 4 1, 3) := dk_132 4 1 (dk_at dksX6_calls_5 0 rfl rfl)
theorem dX6_calls_122 : decode cX6_calls 122 = .ok (.goto (-45), 3) := dk_167 255 211 (dk_at dksX6_calls_5 3 rfl rfl)
theorem dX6_calls_125 : decode cX6_calls 125 = .ok (.iinc 3 1, 3) := dk_132 3 1 (dk_at dksX6_calls_5 6 rfl rfl)
theorem dX6_calls_128 : decode cX6_calls 128 = .ok (.goto (-61), 3) := dk_167 255 195 (dk_at dksX6_calls_5 9 rfl rfl)
theorem dX6_calls_131 : decode cX6_calls 131 = .ok (.ldc_w 392, 3) := dk_19 1 136 (dk_at dksX6_calls_5 12 rfl rfl)
theorem dX6_calls_134 : decode cX6_calls 134 = .ok (.istore_n 3, 1) := dk_62 (dk_at dksX6_calls_5 15 rfl rfl)
theorem dX6_calls_135 : decode cX6_calls 135 = .ok (.iconst 0, 1) := dk_3 (dk_at dksX6_calls_5 16 rfl rfl)
theorem dX6_calls_136 : decode cX6_calls 136 = .ok (.istore 4, 2) := dk_54 4 (dk_at dksX6_calls_5 17 rfl rfl)
theorem dX6_calls_138 : decode cX6_calls 138 = .ok (.iload 4, 2) := dk_21 4 (dk_at dksX6_calls_5 19 rfl rfl)
theorem dX6_calls_140 : decode cX6_calls 140 = .ok (.iload_n 1, 1) := dk_27 (dk_at dksX6_calls_5 21 rfl rfl)
theorem dX6_calls_141 : decode cX6_calls 141 = .ok (.if_icmp .ge 30, 3) := dk_162 0 30 (dk_at dksX6_calls_6 0 rfl rfl)
theorem dX6_calls_144 : decode cX6_calls 144 = .ok (.iload_n 3, 1) := dk_29 (dk_at dksX6_calls_6 3 rfl rfl)
theorem dX6_calls_145 : decode cX6_calls 145 = .ok (.aload_n 0, 1) := dk_42 (dk_at dksX6_calls_6 4 rfl rfl)
theorem dX6_calls_146 : decode cX6_calls 146 = .ok (.getfield 97, 3) := dk_180 0 97 (dk_at dksX6_calls_6 5 rfl rfl)
theorem dX6_calls_149 : decode cX6_calls 149 = .ok (.bipush 8, 2) := dk_16 8 (dk_at dksX6_calls_6 8 rfl rfl)
theorem dX6_calls_151 : decode cX6_calls 151 = .ok (.iconst 1, 1) := dk_4 (dk_at dksX6_calls_6 10 rfl rfl)
theorem dX6_calls_152 : decode cX6_calls 152 = .ok (.iload_n 1, 1) := dk_27 (dk_at dksX6_calls_6 11 rfl rfl)
theorem dX6_calls_153 : decode cX6_calls 153 = .ok (.ishl, 1) := dk_120 (dk_at dksX6_calls_6 12 rfl rfl)
theorem dX6_calls_154 : decode cX6_calls 154 = .ok (.iconst 1, 1) := dk_4 (dk_at dksX6_calls_6 13 rfl rfl)
theorem dX6_calls_155 : decode cX6_calls 155 = .ok (.isub, 1) := dk_100 (dk_at dksX6_calls_6 14 rfl rfl)
theorem dX6_calls_156 : decode cX6_calls 156 = .ok (.imul, 1) := dk_104 (dk_at dksX6_calls_6 15 rfl rfl)
theorem dX6_calls_157 : decode cX6_calls 157 = .ok (.iload 4, 2) := dk_21 4 (dk_at dksX6_calls_6 16 rfl rfl)
theorem dX6_calls_159 : decode cX6_calls 159 = .ok (.iadd, 1) := dk_96 (dk_at dksX6_calls_6 18 rfl rfl)
theorem dX6_calls_160 : decode cX6_calls 160 = .ok (.iaload, 1) := dk_46 (dk_at dksX6_calls_6 19 rfl rfl)
theorem dX6_calls_161 : decode cX6_calls 161 = .ok (.invokestatic 303, 3) := dk_184 1 47 (dk_at dksX6_calls_6 20 rfl rfl)
theorem dX6_calls_164 : decode cX6_calls 164 = .ok (.istore_n 3, 1) := dk_62 (dk_at dksX6_calls_6 23 rfl rfl)
theorem dX6_calls_165 : decode cX6_calls 165 = .ok (.iinc 4 1, 3) := dk_132 4 1 (dk_at dksX6_calls_7 0 rfl rfl)
theorem dX6_calls_168 : decode cX6_calls 168 = .ok (.goto (-30), 3) := dk_167 255 226 (dk_at dksX6_calls_7 3 rfl rfl)
theorem dX6_calls_171 : decode cX6_calls 171 = .ok (.iload_n 3, 1) := dk_29 (dk_at dksX6_calls_7 6 rfl rfl)
theorem dX6_calls_172 : decode cX6_calls 172 = .ok (.ldc_w 392, 3) := dk_19 1 136 (dk_at dksX6_calls_7 7 rfl rfl)
theorem dX6_calls_175 : decode cX6_calls 175 = .ok (.if_icmp .lt 8, 3) := dk_161 0 8 (dk_at dksX6_calls_7 10 rfl rfl)
theorem dX6_calls_178 : decode cX6_calls 178 = .ok (.bipush (-2), 2) := dk_16 254 (dk_at dksX6_calls_7 13 rfl rfl)
theorem dX6_calls_180 : decode cX6_calls 180 = .ok (.goto 4, 3) := dk_167 0 4 (dk_at dksX6_calls_7 15 rfl rfl)
theorem dX6_calls_183 : decode cX6_calls 183 = .ok (.iload_n 3, 1) := dk_29 (dk_at dksX6_calls_7 18 rfl rfl)
theorem dX6_calls_184 : decode cX6_calls 184 = .ok (.ireturn, 1) := dk_172 (dk_at dksX6_calls_7 19 rfl rfl)
abbrev cX6_callsAt : ByteArray := prog_20_method_96_code
def yX6_callsAt : MethodName := ⟨RX6, "callsAt", "(IIII)I"⟩
def dkwX6_callsAt_5 : List UInt8 := [167, 0, 5, 21, 7, 172]
abbrev dktX6_callsAt_5 : List UInt8 := dkwX6_callsAt_5 ++ []
def dkwX6_callsAt_4 : List UInt8 := [132, 8, 1, 167, 255, 202, 21, 7, 42, 5, 21, 4, 104, 4, 96, 182, 1, 129, 164, 0, 9, 19, 1, 136]
abbrev dktX6_callsAt_4 : List UInt8 := dkwX6_callsAt_4 ++ dktX6_callsAt_5
def dkwX6_callsAt_3 : List UInt8 := [21, 8, 96, 46, 21, 6, 42, 5, 21, 8, 104, 182, 1, 129, 100, 184, 0, 112, 96, 184, 1, 47, 54, 7]
abbrev dktX6_callsAt_3 : List UInt8 := dkwX6_callsAt_3 ++ dktX6_callsAt_4
def dkwX6_callsAt_2 : List UInt8 := [162, 0, 54, 21, 5, 21, 8, 184, 0, 100, 153, 0, 38, 21, 7, 42, 180, 0, 97, 16, 8, 21, 5, 104]
abbrev dktX6_callsAt_2 : List UInt8 := dkwX6_callsAt_2 ++ dktX6_callsAt_3
def dkwX6_callsAt_1 : List UInt8 := [154, 0, 13, 21, 6, 28, 100, 184, 0, 112, 167, 0, 6, 19, 1, 136, 54, 7, 3, 54, 8, 21, 8, 27]
abbrev dktX6_callsAt_1 : List UInt8 := dkwX6_callsAt_1 ++ dktX6_callsAt_2
def dkwX6_callsAt_0 : List UInt8 := [29, 4, 21, 4, 120, 2, 130, 126, 54, 5, 42, 5, 21, 4, 104, 182, 1, 129, 54, 6, 21, 5]
abbrev dktX6_callsAt_0 : List UInt8 := dkwX6_callsAt_0 ++ dktX6_callsAt_1
theorem dksX6_callsAt_0 : cX6_callsAt.data.toList.drop 0 = dktX6_callsAt_0 := by decide +kernel
theorem dksX6_callsAt_1 : cX6_callsAt.data.toList.drop 22 = dktX6_callsAt_1 := dk_seg dksX6_callsAt_0 22 rfl rfl
theorem dksX6_callsAt_2 : cX6_callsAt.data.toList.drop 46 = dktX6_callsAt_2 := dk_seg dksX6_callsAt_1 24 rfl rfl
theorem dksX6_callsAt_3 : cX6_callsAt.data.toList.drop 70 = dktX6_callsAt_3 := dk_seg dksX6_callsAt_2 24 rfl rfl
theorem dksX6_callsAt_4 : cX6_callsAt.data.toList.drop 94 = dktX6_callsAt_4 := dk_seg dksX6_callsAt_3 24 rfl rfl
theorem dksX6_callsAt_5 : cX6_callsAt.data.toList.drop 118 = dktX6_callsAt_5 := dk_seg dksX6_callsAt_4 24 rfl rfl
theorem dX6_callsAt_0 : decode cX6_callsAt 0 = .ok (.iload_n 3, 1) := dk_29 (dk_at dksX6_callsAt_0 0 rfl rfl)
theorem dX6_callsAt_1 : decode cX6_callsAt 1 = .ok (.iconst 1, 1) := dk_4 (dk_at dksX6_callsAt_0 1 rfl rfl)
theorem dX6_callsAt_2 : decode cX6_callsAt 2 = .ok (.iload 4, 2) := dk_21 4 (dk_at dksX6_callsAt_0 2 rfl rfl)
theorem dX6_callsAt_4 : decode cX6_callsAt 4 = .ok (.ishl, 1) := dk_120 (dk_at dksX6_callsAt_0 4 rfl rfl)
theorem dX6_callsAt_5 : decode cX6_callsAt 5 = .ok (.iconst (-1), 1) := dk_2 (dk_at dksX6_callsAt_0 5 rfl rfl)
theorem dX6_callsAt_6 : decode cX6_callsAt 6 = .ok (.ixor, 1) := dk_130 (dk_at dksX6_callsAt_0 6 rfl rfl)
theorem dX6_callsAt_7 : decode cX6_callsAt 7 = .ok (.iand, 1) := dk_126 (dk_at dksX6_callsAt_0 7 rfl rfl)
theorem dX6_callsAt_8 : decode cX6_callsAt 8 = .ok (.istore 5, 2) := dk_54 5 (dk_at dksX6_callsAt_0 8 rfl rfl)
theorem dX6_callsAt_10 : decode cX6_callsAt 10 = .ok (.aload_n 0, 1) := dk_42 (dk_at dksX6_callsAt_0 10 rfl rfl)
theorem dX6_callsAt_11 : decode cX6_callsAt 11 = .ok (.iconst 2, 1) := dk_5 (dk_at dksX6_callsAt_0 11 rfl rfl)
theorem dX6_callsAt_12 : decode cX6_callsAt 12 = .ok (.iload 4, 2) := dk_21 4 (dk_at dksX6_callsAt_0 12 rfl rfl)
theorem dX6_callsAt_14 : decode cX6_callsAt 14 = .ok (.imul, 1) := dk_104 (dk_at dksX6_callsAt_0 14 rfl rfl)
theorem dX6_callsAt_15 : decode cX6_callsAt 15 = .ok (.invokevirtual 385, 3) := dk_182 1 129 (dk_at dksX6_callsAt_0 15 rfl rfl)
theorem dX6_callsAt_18 : decode cX6_callsAt 18 = .ok (.istore 6, 2) := dk_54 6 (dk_at dksX6_callsAt_0 18 rfl rfl)
theorem dX6_callsAt_20 : decode cX6_callsAt 20 = .ok (.iload 5, 2) := dk_21 5 (dk_at dksX6_callsAt_0 20 rfl rfl)
theorem dX6_callsAt_22 : decode cX6_callsAt 22 = .ok (.ifCond .ne 13, 3) := dk_154 0 13 (dk_at dksX6_callsAt_1 0 rfl rfl)
theorem dX6_callsAt_25 : decode cX6_callsAt 25 = .ok (.iload 6, 2) := dk_21 6 (dk_at dksX6_callsAt_1 3 rfl rfl)
theorem dX6_callsAt_27 : decode cX6_callsAt 27 = .ok (.iload_n 2, 1) := dk_28 (dk_at dksX6_callsAt_1 5 rfl rfl)
theorem dX6_callsAt_28 : decode cX6_callsAt 28 = .ok (.isub, 1) := dk_100 (dk_at dksX6_callsAt_1 6 rfl rfl)
theorem dX6_callsAt_29 : decode cX6_callsAt 29 = .ok (.invokestatic 112, 3) := dk_184 0 112 (dk_at dksX6_callsAt_1 7 rfl rfl)
theorem dX6_callsAt_32 : decode cX6_callsAt 32 = .ok (.goto 6, 3) := dk_167 0 6 (dk_at dksX6_callsAt_1 10 rfl rfl)
theorem dX6_callsAt_35 : decode cX6_callsAt 35 = .ok (.ldc_w 392, 3) := dk_19 1 136 (dk_at dksX6_callsAt_1 13 rfl rfl)
theorem dX6_callsAt_38 : decode cX6_callsAt 38 = .ok (.istore 7, 2) := dk_54 7 (dk_at dksX6_callsAt_1 16 rfl rfl)
theorem dX6_callsAt_40 : decode cX6_callsAt 40 = .ok (.iconst 0, 1) := dk_3 (dk_at dksX6_callsAt_1 18 rfl rfl)
theorem dX6_callsAt_41 : decode cX6_callsAt 41 = .ok (.istore 8, 2) := dk_54 8 (dk_at dksX6_callsAt_1 19 rfl rfl)
theorem dX6_callsAt_43 : decode cX6_callsAt 43 = .ok (.iload 8, 2) := dk_21 8 (dk_at dksX6_callsAt_1 21 rfl rfl)
theorem dX6_callsAt_45 : decode cX6_callsAt 45 = .ok (.iload_n 1, 1) := dk_27 (dk_at dksX6_callsAt_1 23 rfl rfl)
theorem dX6_callsAt_46 : decode cX6_callsAt 46 = .ok (.if_icmp .ge 54, 3) := dk_162 0 54 (dk_at dksX6_callsAt_2 0 rfl rfl)
theorem dX6_callsAt_49 : decode cX6_callsAt 49 = .ok (.iload 5, 2) := dk_21 5 (dk_at dksX6_callsAt_2 3 rfl rfl)
theorem dX6_callsAt_51 : decode cX6_callsAt 51 = .ok (.iload 8, 2) := dk_21 8 (dk_at dksX6_callsAt_2 5 rfl rfl)
theorem dX6_callsAt_53 : decode cX6_callsAt 53 = .ok (.invokestatic 100, 3) := dk_184 0 100 (dk_at dksX6_callsAt_2 7 rfl rfl)
theorem dX6_callsAt_56 : decode cX6_callsAt 56 = .ok (.ifCond .eq 38, 3) := dk_153 0 38 (dk_at dksX6_callsAt_2 10 rfl rfl)
theorem dX6_callsAt_59 : decode cX6_callsAt 59 = .ok (.iload 7, 2) := dk_21 7 (dk_at dksX6_callsAt_2 13 rfl rfl)
theorem dX6_callsAt_61 : decode cX6_callsAt 61 = .ok (.aload_n 0, 1) := dk_42 (dk_at dksX6_callsAt_2 15 rfl rfl)
theorem dX6_callsAt_62 : decode cX6_callsAt 62 = .ok (.getfield 97, 3) := dk_180 0 97 (dk_at dksX6_callsAt_2 16 rfl rfl)
theorem dX6_callsAt_65 : decode cX6_callsAt 65 = .ok (.bipush 8, 2) := dk_16 8 (dk_at dksX6_callsAt_2 19 rfl rfl)
theorem dX6_callsAt_67 : decode cX6_callsAt 67 = .ok (.iload 5, 2) := dk_21 5 (dk_at dksX6_callsAt_2 21 rfl rfl)
theorem dX6_callsAt_69 : decode cX6_callsAt 69 = .ok (.imul, 1) := dk_104 (dk_at dksX6_callsAt_2 23 rfl rfl)
theorem dX6_callsAt_70 : decode cX6_callsAt 70 = .ok (.iload 8, 2) := dk_21 8 (dk_at dksX6_callsAt_3 0 rfl rfl)
theorem dX6_callsAt_72 : decode cX6_callsAt 72 = .ok (.iadd, 1) := dk_96 (dk_at dksX6_callsAt_3 2 rfl rfl)
theorem dX6_callsAt_73 : decode cX6_callsAt 73 = .ok (.iaload, 1) := dk_46 (dk_at dksX6_callsAt_3 3 rfl rfl)
theorem dX6_callsAt_74 : decode cX6_callsAt 74 = .ok (.iload 6, 2) := dk_21 6 (dk_at dksX6_callsAt_3 4 rfl rfl)
theorem dX6_callsAt_76 : decode cX6_callsAt 76 = .ok (.aload_n 0, 1) := dk_42 (dk_at dksX6_callsAt_3 6 rfl rfl)
theorem dX6_callsAt_77 : decode cX6_callsAt 77 = .ok (.iconst 2, 1) := dk_5 (dk_at dksX6_callsAt_3 7 rfl rfl)
theorem dX6_callsAt_78 : decode cX6_callsAt 78 = .ok (.iload 8, 2) := dk_21 8 (dk_at dksX6_callsAt_3 8 rfl rfl)
theorem dX6_callsAt_80 : decode cX6_callsAt 80 = .ok (.imul, 1) := dk_104 (dk_at dksX6_callsAt_3 10 rfl rfl)
theorem dX6_callsAt_81 : decode cX6_callsAt 81 = .ok (.invokevirtual 385, 3) := dk_182 1 129 (dk_at dksX6_callsAt_3 11 rfl rfl)
theorem dX6_callsAt_84 : decode cX6_callsAt 84 = .ok (.isub, 1) := dk_100 (dk_at dksX6_callsAt_3 14 rfl rfl)
theorem dX6_callsAt_85 : decode cX6_callsAt 85 = .ok (.invokestatic 112, 3) := dk_184 0 112 (dk_at dksX6_callsAt_3 15 rfl rfl)
theorem dX6_callsAt_88 : decode cX6_callsAt 88 = .ok (.iadd, 1) := dk_96 (dk_at dksX6_callsAt_3 18 rfl rfl)
theorem dX6_callsAt_89 : decode cX6_callsAt 89 = .ok (.invokestatic 303, 3) := dk_184 1 47 (dk_at dksX6_callsAt_3 19 rfl rfl)
theorem dX6_callsAt_92 : decode cX6_callsAt 92 = .ok (.istore 7, 2) := dk_54 7 (dk_at dksX6_callsAt_3 22 rfl rfl)
theorem dX6_callsAt_94 : decode cX6_callsAt 94 = .ok (.iinc 8 1, 3) := dk_132 8 1 (dk_at dksX6_callsAt_4 0 rfl rfl)
theorem dX6_callsAt_97 : decode cX6_callsAt 97 = .ok (.goto (-54), 3) := dk_167 255 202 (dk_at dksX6_callsAt_4 3 rfl rfl)
theorem dX6_callsAt_100 : decode cX6_callsAt 100 = .ok (.iload 7, 2) := dk_21 7 (dk_at dksX6_callsAt_4 6 rfl rfl)
theorem dX6_callsAt_102 : decode cX6_callsAt 102 = .ok (.aload_n 0, 1) := dk_42 (dk_at dksX6_callsAt_4 8 rfl rfl)
theorem dX6_callsAt_103 : decode cX6_callsAt 103 = .ok (.iconst 2, 1) := dk_5 (dk_at dksX6_callsAt_4 9 rfl rfl)
theorem dX6_callsAt_104 : decode cX6_callsAt 104 = .ok (.iload 4, 2) := dk_21 4 (dk_at dksX6_callsAt_4 10 rfl rfl)
theorem dX6_callsAt_106 : decode cX6_callsAt 106 = .ok (.imul, 1) := dk_104 (dk_at dksX6_callsAt_4 12 rfl rfl)
theorem dX6_callsAt_107 : decode cX6_callsAt 107 = .ok (.iconst 1, 1) := dk_4 (dk_at dksX6_callsAt_4 13 rfl rfl)
theorem dX6_callsAt_108 : decode cX6_callsAt 108 = .ok (.iadd, 1) := dk_96 (dk_at dksX6_callsAt_4 14 rfl rfl)
theorem dX6_callsAt_109 : decode cX6_callsAt 109 = .ok (.invokevirtual 385, 3) := dk_182 1 129 (dk_at dksX6_callsAt_4 15 rfl rfl)
theorem dX6_callsAt_112 : decode cX6_callsAt 112 = .ok (.if_icmp .le 9, 3) := dk_164 0 9 (dk_at dksX6_callsAt_4 18 rfl rfl)
theorem dX6_callsAt_115 : decode cX6_callsAt 115 = .ok (.ldc_w 392, 3) := dk_19 1 136 (dk_at dksX6_callsAt_4 21 rfl rfl)
theorem dX6_callsAt_118 : decode cX6_callsAt 118 = .ok (.goto 5, 3) := dk_167 0 5 (dk_at dksX6_callsAt_5 0 rfl rfl)
theorem dX6_callsAt_121 : decode cX6_callsAt 121 = .ok (.iload 7, 2) := dk_21 7 (dk_at dksX6_callsAt_5 3 rfl rfl)
theorem dX6_callsAt_123 : decode cX6_callsAt 123 = .ok (.ireturn, 1) := dk_172 (dk_at dksX6_callsAt_5 5 rfl rfl)
abbrev cX6_changed : ByteArray := prog_20_method_97_code
def yX6_changed : MethodName := ⟨RX6, "changed", "(II)I"⟩
def dkwX6_changed_4 : List UInt8 := [42, 27, 182, 1, 137, 167, 0, 8, 42, 27, 182, 1, 140, 172]
abbrev dktX6_changed_4 : List UInt8 := dkwX6_changed_4 ++ []
def dkwX6_changed_3 : List UInt8 := [180, 0, 91, 29, 29, 154, 0, 7, 4, 167, 0, 4, 3, 79, 132, 3, 1, 167, 255, 231, 28, 154, 0, 11]
abbrev dktX6_changed_3 : List UInt8 := dkwX6_changed_3 ++ dktX6_changed_4
def dkwX6_changed_2 : List UInt8 := [153, 0, 6, 16, 253, 172, 132, 3, 1, 167, 255, 235, 3, 62, 29, 4, 27, 120, 162, 0, 24, 42]
abbrev dktX6_changed_2 : List UInt8 := dkwX6_changed_2 ++ dktX6_changed_3
def dkwX6_changed_1 : List UInt8 := [164, 0, 5, 2, 172, 42, 3, 181, 0, 116, 3, 62, 29, 27, 162, 0, 22, 42, 29, 182, 1, 129, 27, 122]
abbrev dktX6_changed_1 : List UInt8 := dkwX6_changed_1 ++ dktX6_changed_2
def dkwX6_changed_0 : List UInt8 := [27, 5, 16, 8, 184, 0, 104, 153, 0, 20, 28, 3, 4, 184, 0, 104, 153, 0, 11, 27, 42, 180, 0, 116]
abbrev dktX6_changed_0 : List UInt8 := dkwX6_changed_0 ++ dktX6_changed_1
theorem dksX6_changed_0 : cX6_changed.data.toList.drop 0 = dktX6_changed_0 := by decide +kernel
theorem dksX6_changed_1 : cX6_changed.data.toList.drop 24 = dktX6_changed_1 := dk_seg dksX6_changed_0 24 rfl rfl
theorem dksX6_changed_2 : cX6_changed.data.toList.drop 48 = dktX6_changed_2 := dk_seg dksX6_changed_1 24 rfl rfl
theorem dksX6_changed_3 : cX6_changed.data.toList.drop 70 = dktX6_changed_3 := dk_seg dksX6_changed_2 22 rfl rfl
theorem dksX6_changed_4 : cX6_changed.data.toList.drop 94 = dktX6_changed_4 := dk_seg dksX6_changed_3 24 rfl rfl
theorem dX6_changed_0 : decode cX6_changed 0 = .ok (.iload_n 1, 1) := dk_27 (dk_at dksX6_changed_0 0 rfl rfl)
theorem dX6_changed_1 : decode cX6_changed 1 = .ok (.iconst 2, 1) := dk_5 (dk_at dksX6_changed_0 1 rfl rfl)
theorem dX6_changed_2 : decode cX6_changed 2 = .ok (.bipush 8, 2) := dk_16 8 (dk_at dksX6_changed_0 2 rfl rfl)
theorem dX6_changed_4 : decode cX6_changed 4 = .ok (.invokestatic 104, 3) := dk_184 0 104 (dk_at dksX6_changed_0 4 rfl rfl)
theorem dX6_changed_7 : decode cX6_changed 7 = .ok (.ifCond .eq 20, 3) := dk_153 0 20 (dk_at dksX6_changed_0 7 rfl rfl)
theorem dX6_changed_10 : decode cX6_changed 10 = .ok (.iload_n 2, 1) := dk_28 (dk_at dksX6_changed_0 10 rfl rfl)
theorem dX6_changed_11 : decode cX6_changed 11 = .ok (.iconst 0, 1) := dk_3 (dk_at dksX6_changed_0 11 rfl rfl)
theorem dX6_changed_12 : decode cX6_changed 12 = .ok (.iconst 1, 1) := dk_4 (dk_at dksX6_changed_0 12 rfl rfl)
theorem dX6_changed_13 : decode cX6_changed 13 = .ok (.invokestatic 104, 3) := dk_184 0 104 (dk_at dksX6_changed_0 13 rfl rfl)
theorem dX6_changed_16 : decode cX6_changed 16 = .ok (.ifCond .eq 11, 3) := dk_153 0 11 (dk_at dksX6_changed_0 16 rfl rfl)
theorem dX6_changed_19 : decode cX6_changed 19 = .ok (.iload_n 1, 1) := dk_27 (dk_at dksX6_changed_0 19 rfl rfl)
theorem dX6_changed_20 : decode cX6_changed 20 = .ok (.aload_n 0, 1) := dk_42 (dk_at dksX6_changed_0 20 rfl rfl)
theorem dX6_changed_21 : decode cX6_changed 21 = .ok (.getfield 116, 3) := dk_180 0 116 (dk_at dksX6_changed_0 21 rfl rfl)
theorem dX6_changed_24 : decode cX6_changed 24 = .ok (.if_icmp .le 5, 3) := dk_164 0 5 (dk_at dksX6_changed_1 0 rfl rfl)
theorem dX6_changed_27 : decode cX6_changed 27 = .ok (.iconst (-1), 1) := dk_2 (dk_at dksX6_changed_1 3 rfl rfl)
theorem dX6_changed_28 : decode cX6_changed 28 = .ok (.ireturn, 1) := dk_172 (dk_at dksX6_changed_1 4 rfl rfl)
theorem dX6_changed_29 : decode cX6_changed 29 = .ok (.aload_n 0, 1) := dk_42 (dk_at dksX6_changed_1 5 rfl rfl)
theorem dX6_changed_30 : decode cX6_changed 30 = .ok (.iconst 0, 1) := dk_3 (dk_at dksX6_changed_1 6 rfl rfl)
theorem dX6_changed_31 : decode cX6_changed 31 = .ok (.putfield 116, 3) := dk_181 0 116 (dk_at dksX6_changed_1 7 rfl rfl)
theorem dX6_changed_34 : decode cX6_changed 34 = .ok (.iconst 0, 1) := dk_3 (dk_at dksX6_changed_1 10 rfl rfl)
theorem dX6_changed_35 : decode cX6_changed 35 = .ok (.istore_n 3, 1) := dk_62 (dk_at dksX6_changed_1 11 rfl rfl)
theorem dX6_changed_36 : decode cX6_changed 36 = .ok (.iload_n 3, 1) := dk_29 (dk_at dksX6_changed_1 12 rfl rfl)
theorem dX6_changed_37 : decode cX6_changed 37 = .ok (.iload_n 1, 1) := dk_27 (dk_at dksX6_changed_1 13 rfl rfl)
theorem dX6_changed_38 : decode cX6_changed 38 = .ok (.if_icmp .ge 22, 3) := dk_162 0 22 (dk_at dksX6_changed_1 14 rfl rfl)
theorem dX6_changed_41 : decode cX6_changed 41 = .ok (.aload_n 0, 1) := dk_42 (dk_at dksX6_changed_1 17 rfl rfl)
theorem dX6_changed_42 : decode cX6_changed 42 = .ok (.iload_n 3, 1) := dk_29 (dk_at dksX6_changed_1 18 rfl rfl)
theorem dX6_changed_43 : decode cX6_changed 43 = .ok (.invokevirtual 385, 3) := dk_182 1 129 (dk_at dksX6_changed_1 19 rfl rfl)
theorem dX6_changed_46 : decode cX6_changed 46 = .ok (.iload_n 1, 1) := dk_27 (dk_at dksX6_changed_1 22 rfl rfl)
theorem dX6_changed_47 : decode cX6_changed 47 = .ok (.ishr, 1) := dk_122 (dk_at dksX6_changed_1 23 rfl rfl)
theorem dX6_changed_48 : decode cX6_changed 48 = .ok (.ifCond .eq 6, 3) := dk_153 0 6 (dk_at dksX6_changed_2 0 rfl rfl)
theorem dX6_changed_51 : decode cX6_changed 51 = .ok (.bipush (-3), 2) := dk_16 253 (dk_at dksX6_changed_2 3 rfl rfl)
theorem dX6_changed_53 : decode cX6_changed 53 = .ok (.ireturn, 1) := dk_172 (dk_at dksX6_changed_2 5 rfl rfl)
theorem dX6_changed_54 : decode cX6_changed 54 = .ok (.iinc 3 1, 3) := dk_132 3 1 (dk_at dksX6_changed_2 6 rfl rfl)
theorem dX6_changed_57 : decode cX6_changed 57 = .ok (.goto (-21), 3) := dk_167 255 235 (dk_at dksX6_changed_2 9 rfl rfl)
theorem dX6_changed_60 : decode cX6_changed 60 = .ok (.iconst 0, 1) := dk_3 (dk_at dksX6_changed_2 12 rfl rfl)
theorem dX6_changed_61 : decode cX6_changed 61 = .ok (.istore_n 3, 1) := dk_62 (dk_at dksX6_changed_2 13 rfl rfl)
theorem dX6_changed_62 : decode cX6_changed 62 = .ok (.iload_n 3, 1) := dk_29 (dk_at dksX6_changed_2 14 rfl rfl)
theorem dX6_changed_63 : decode cX6_changed 63 = .ok (.iconst 1, 1) := dk_4 (dk_at dksX6_changed_2 15 rfl rfl)
theorem dX6_changed_64 : decode cX6_changed 64 = .ok (.iload_n 1, 1) := dk_27 (dk_at dksX6_changed_2 16 rfl rfl)
theorem dX6_changed_65 : decode cX6_changed 65 = .ok (.ishl, 1) := dk_120 (dk_at dksX6_changed_2 17 rfl rfl)
theorem dX6_changed_66 : decode cX6_changed 66 = .ok (.if_icmp .ge 24, 3) := dk_162 0 24 (dk_at dksX6_changed_2 18 rfl rfl)
theorem dX6_changed_69 : decode cX6_changed 69 = .ok (.aload_n 0, 1) := dk_42 (dk_at dksX6_changed_2 21 rfl rfl)
theorem dX6_changed_70 : decode cX6_changed 70 = .ok (.getfield 91, 3) := dk_180 0 91 (dk_at dksX6_changed_3 0 rfl rfl)
theorem dX6_changed_73 : decode cX6_changed 73 = .ok (.iload_n 3, 1) := dk_29 (dk_at dksX6_changed_3 3 rfl rfl)
theorem dX6_changed_74 : decode cX6_changed 74 = .ok (.iload_n 3, 1) := dk_29 (dk_at dksX6_changed_3 4 rfl rfl)
theorem dX6_changed_75 : decode cX6_changed 75 = .ok (.ifCond .ne 7, 3) := dk_154 0 7 (dk_at dksX6_changed_3 5 rfl rfl)
theorem dX6_changed_78 : decode cX6_changed 78 = .ok (.iconst 1, 1) := dk_4 (dk_at dksX6_changed_3 8 rfl rfl)
theorem dX6_changed_79 : decode cX6_changed 79 = .ok (.goto 4, 3) := dk_167 0 4 (dk_at dksX6_changed_3 9 rfl rfl)
theorem dX6_changed_82 : decode cX6_changed 82 = .ok (.iconst 0, 1) := dk_3 (dk_at dksX6_changed_3 12 rfl rfl)
theorem dX6_changed_83 : decode cX6_changed 83 = .ok (.iastore, 1) := dk_79 (dk_at dksX6_changed_3 13 rfl rfl)
theorem dX6_changed_84 : decode cX6_changed 84 = .ok (.iinc 3 1, 3) := dk_132 3 1 (dk_at dksX6_changed_3 14 rfl rfl)
theorem dX6_changed_87 : decode cX6_changed 87 = .ok (.goto (-25), 3) := dk_167 255 231 (dk_at dksX6_changed_3 17 rfl rfl)
theorem dX6_changed_90 : decode cX6_changed 90 = .ok (.iload_n 2, 1) := dk_28 (dk_at dksX6_changed_3 20 rfl rfl)
theorem dX6_changed_91 : decode cX6_changed 91 = .ok (.ifCond .ne 11, 3) := dk_154 0 11 (dk_at dksX6_changed_3 21 rfl rfl)
theorem dX6_changed_94 : decode cX6_changed 94 = .ok (.aload_n 0, 1) := dk_42 (dk_at dksX6_changed_4 0 rfl rfl)
theorem dX6_changed_95 : decode cX6_changed 95 = .ok (.iload_n 1, 1) := dk_27 (dk_at dksX6_changed_4 1 rfl rfl)
theorem dX6_changed_96 : decode cX6_changed 96 = .ok (.invokevirtual 393, 3) := dk_182 1 137 (dk_at dksX6_changed_4 2 rfl rfl)
theorem dX6_changed_99 : decode cX6_changed 99 = .ok (.goto 8, 3) := dk_167 0 8 (dk_at dksX6_changed_4 5 rfl rfl)
theorem dX6_changed_102 : decode cX6_changed 102 = .ok (.aload_n 0, 1) := dk_42 (dk_at dksX6_changed_4 8 rfl rfl)
theorem dX6_changed_103 : decode cX6_changed 103 = .ok (.iload_n 1, 1) := dk_27 (dk_at dksX6_changed_4 9 rfl rfl)
theorem dX6_changed_104 : decode cX6_changed 104 = .ok (.invokevirtual 396, 3) := dk_182 1 140 (dk_at dksX6_changed_4 10 rfl rfl)
theorem dX6_changed_107 : decode cX6_changed 107 = .ok (.ireturn, 1) := dk_172 (dk_at dksX6_changed_4 13 rfl rfl)
abbrev cX6_mostHoused : ByteArray := prog_20_method_98_code
def yX6_mostHoused : MethodName := ⟨RX6, "mostHoused", "(I)I"⟩
def dkwX6_mostHoused_4 : List UInt8 := [167, 255, 186, 132, 4, 255, 167, 255, 172, 132, 3, 1, 167, 255, 154, 28, 172]
abbrev dktX6_mostHoused_4 : List UInt8 := dkwX6_mostHoused_4 ++ []
def dkwX6_mostHoused_3 : List UInt8 := [21, 4, 4, 21, 5, 120, 128, 4, 79, 28, 21, 4, 184, 1, 20, 4, 96, 184, 1, 112, 61, 132, 5, 1]
abbrev dktX6_mostHoused_3 : List UInt8 := dkwX6_mostHoused_3 ++ dktX6_mostHoused_4
def dkwX6_mostHoused_2 : List UInt8 := [154, 0, 44, 42, 29, 182, 1, 129, 21, 5, 184, 0, 100, 154, 0, 6, 167, 0, 28, 42, 180, 0, 91]
abbrev dktX6_mostHoused_2 : List UInt8 := dkwX6_mostHoused_2 ++ dktX6_mostHoused_3
def dkwX6_mostHoused_1 : List UInt8 := [21, 5, 27, 162, 0, 70, 42, 180, 0, 91, 21, 4, 46, 158, 0, 60, 21, 4, 21, 5, 184, 0, 100]
abbrev dktX6_mostHoused_1 : List UInt8 := dkwX6_mostHoused_1 ++ dktX6_mostHoused_2
def dkwX6_mostHoused_0 : List UInt8 := [3, 61, 3, 62, 29, 27, 162, 0, 103, 4, 27, 120, 4, 100, 54, 4, 21, 4, 155, 0, 85, 3, 54, 5]
abbrev dktX6_mostHoused_0 : List UInt8 := dkwX6_mostHoused_0 ++ dktX6_mostHoused_1
theorem dksX6_mostHoused_0 : cX6_mostHoused.data.toList.drop 0 = dktX6_mostHoused_0 := by decide +kernel
theorem dksX6_mostHoused_1 : cX6_mostHoused.data.toList.drop 24 = dktX6_mostHoused_1 := dk_seg dksX6_mostHoused_0 24 rfl rfl
theorem dksX6_mostHoused_2 : cX6_mostHoused.data.toList.drop 47 = dktX6_mostHoused_2 := dk_seg dksX6_mostHoused_1 23 rfl rfl
theorem dksX6_mostHoused_3 : cX6_mostHoused.data.toList.drop 70 = dktX6_mostHoused_3 := dk_seg dksX6_mostHoused_2 23 rfl rfl
theorem dksX6_mostHoused_4 : cX6_mostHoused.data.toList.drop 94 = dktX6_mostHoused_4 := dk_seg dksX6_mostHoused_3 24 rfl rfl
theorem dX6_mostHoused_0 : decode cX6_mostHoused 0 = .ok (.iconst 0, 1) := dk_3 (dk_at dksX6_mostHoused_0 0 rfl rfl)
theorem dX6_mostHoused_1 : decode cX6_mostHoused 1 = .ok (.istore_n 2, 1) := dk_61 (dk_at dksX6_mostHoused_0 1 rfl rfl)
theorem dX6_mostHoused_2 : decode cX6_mostHoused 2 = .ok (.iconst 0, 1) := dk_3 (dk_at dksX6_mostHoused_0 2 rfl rfl)
theorem dX6_mostHoused_3 : decode cX6_mostHoused 3 = .ok (.istore_n 3, 1) := dk_62 (dk_at dksX6_mostHoused_0 3 rfl rfl)
theorem dX6_mostHoused_4 : decode cX6_mostHoused 4 = .ok (.iload_n 3, 1) := dk_29 (dk_at dksX6_mostHoused_0 4 rfl rfl)
theorem dX6_mostHoused_5 : decode cX6_mostHoused 5 = .ok (.iload_n 1, 1) := dk_27 (dk_at dksX6_mostHoused_0 5 rfl rfl)
theorem dX6_mostHoused_6 : decode cX6_mostHoused 6 = .ok (.if_icmp .ge 103, 3) := dk_162 0 103 (dk_at dksX6_mostHoused_0 6 rfl rfl)
theorem dX6_mostHoused_9 : decode cX6_mostHoused 9 = .ok (.iconst 1, 1) := dk_4 (dk_at dksX6_mostHoused_0 9 rfl rfl)
theorem dX6_mostHoused_10 : decode cX6_mostHoused 10 = .ok (.iload_n 1, 1) := dk_27 (dk_at dksX6_mostHoused_0 10 rfl rfl)
theorem dX6_mostHoused_11 : decode cX6_mostHoused 11 = .ok (.ishl, 1) := dk_120 (dk_at dksX6_mostHoused_0 11 rfl rfl)
theorem dX6_mostHoused_12 : decode cX6_mostHoused 12 = .ok (.iconst 1, 1) := dk_4 (dk_at dksX6_mostHoused_0 12 rfl rfl)
theorem dX6_mostHoused_13 : decode cX6_mostHoused 13 = .ok (.isub, 1) := dk_100 (dk_at dksX6_mostHoused_0 13 rfl rfl)
theorem dX6_mostHoused_14 : decode cX6_mostHoused 14 = .ok (.istore 4, 2) := dk_54 4 (dk_at dksX6_mostHoused_0 14 rfl rfl)
theorem dX6_mostHoused_16 : decode cX6_mostHoused 16 = .ok (.iload 4, 2) := dk_21 4 (dk_at dksX6_mostHoused_0 16 rfl rfl)
theorem dX6_mostHoused_18 : decode cX6_mostHoused 18 = .ok (.ifCond .lt 85, 3) := dk_155 0 85 (dk_at dksX6_mostHoused_0 18 rfl rfl)
theorem dX6_mostHoused_21 : decode cX6_mostHoused 21 = .ok (.iconst 0, 1) := dk_3 (dk_at dksX6_mostHoused_0 21 rfl rfl)
theorem dX6_mostHoused_22 : decode cX6_mostHoused 22 = .ok (.istore 5, 2) := dk_54 5 (dk_at dksX6_mostHoused_0 22 rfl rfl)
theorem dX6_mostHoused_24 : decode cX6_mostHoused 24 = .ok (.iload 5, 2) := dk_21 5 (dk_at dksX6_mostHoused_1 0 rfl rfl)
theorem dX6_mostHoused_26 : decode cX6_mostHoused 26 = .ok (.iload_n 1, 1) := dk_27 (dk_at dksX6_mostHoused_1 2 rfl rfl)
theorem dX6_mostHoused_27 : decode cX6_mostHoused 27 = .ok (.if_icmp .ge 70, 3) := dk_162 0 70 (dk_at dksX6_mostHoused_1 3 rfl rfl)
theorem dX6_mostHoused_30 : decode cX6_mostHoused 30 = .ok (.aload_n 0, 1) := dk_42 (dk_at dksX6_mostHoused_1 6 rfl rfl)
theorem dX6_mostHoused_31 : decode cX6_mostHoused 31 = .ok (.getfield 91, 3) := dk_180 0 91 (dk_at dksX6_mostHoused_1 7 rfl rfl)
theorem dX6_mostHoused_34 : decode cX6_mostHoused 34 = .ok (.iload 4, 2) := dk_21 4 (dk_at dksX6_mostHoused_1 10 rfl rfl)
theorem dX6_mostHoused_36 : decode cX6_mostHoused 36 = .ok (.iaload, 1) := dk_46 (dk_at dksX6_mostHoused_1 12 rfl rfl)
theorem dX6_mostHoused_37 : decode cX6_mostHoused 37 = .ok (.ifCond .le 60, 3) := dk_158 0 60 (dk_at dksX6_mostHoused_1 13 rfl rfl)
theorem dX6_mostHoused_40 : decode cX6_mostHoused 40 = .ok (.iload 4, 2) := dk_21 4 (dk_at dksX6_mostHoused_1 16 rfl rfl)
theorem dX6_mostHoused_42 : decode cX6_mostHoused 42 = .ok (.iload 5, 2) := dk_21 5 (dk_at dksX6_mostHoused_1 18 rfl rfl)
theorem dX6_mostHoused_44 : decode cX6_mostHoused 44 = .ok (.invokestatic 100, 3) := dk_184 0 100 (dk_at dksX6_mostHoused_1 20 rfl rfl)
theorem dX6_mostHoused_47 : decode cX6_mostHoused 47 = .ok (.ifCond .ne 44, 3) := dk_154 0 44 (dk_at dksX6_mostHoused_2 0 rfl rfl)
theorem dX6_mostHoused_50 : decode cX6_mostHoused 50 = .ok (.aload_n 0, 1) := dk_42 (dk_at dksX6_mostHoused_2 3 rfl rfl)
theorem dX6_mostHoused_51 : decode cX6_mostHoused 51 = .ok (.iload_n 3, 1) := dk_29 (dk_at dksX6_mostHoused_2 4 rfl rfl)
theorem dX6_mostHoused_52 : decode cX6_mostHoused 52 = .ok (.invokevirtual 385, 3) := dk_182 1 129 (dk_at dksX6_mostHoused_2 5 rfl rfl)
theorem dX6_mostHoused_55 : decode cX6_mostHoused 55 = .ok (.iload 5, 2) := dk_21 5 (dk_at dksX6_mostHoused_2 8 rfl rfl)
theorem dX6_mostHoused_57 : decode cX6_mostHoused 57 = .ok (.invokestatic 100, 3) := dk_184 0 100 (dk_at dksX6_mostHoused_2 10 rfl rfl)
theorem dX6_mostHoused_60 : decode cX6_mostHoused 60 = .ok (.ifCond .ne 6, 3) := dk_154 0 6 (dk_at dksX6_mostHoused_2 13 rfl rfl)
theorem dX6_mostHoused_63 : decode cX6_mostHoused 63 = .ok (.goto 28, 3) := dk_167 0 28 (dk_at dksX6_mostHoused_2 16 rfl rfl)
theorem dX6_mostHoused_66 : decode cX6_mostHoused 66 = .ok (.aload_n 0, 1) := dk_42 (dk_at dksX6_mostHoused_2 19 rfl rfl)
theorem dX6_mostHoused_67 : decode cX6_mostHoused 67 = .ok (.getfield 91, 3) := dk_180 0 91 (dk_at dksX6_mostHoused_2 20 rfl rfl)
theorem dX6_mostHoused_70 : decode cX6_mostHoused 70 = .ok (.iload 4, 2) := dk_21 4 (dk_at dksX6_mostHoused_3 0 rfl rfl)
theorem dX6_mostHoused_72 : decode cX6_mostHoused 72 = .ok (.iconst 1, 1) := dk_4 (dk_at dksX6_mostHoused_3 2 rfl rfl)
theorem dX6_mostHoused_73 : decode cX6_mostHoused 73 = .ok (.iload 5, 2) := dk_21 5 (dk_at dksX6_mostHoused_3 3 rfl rfl)
theorem dX6_mostHoused_75 : decode cX6_mostHoused 75 = .ok (.ishl, 1) := dk_120 (dk_at dksX6_mostHoused_3 5 rfl rfl)
theorem dX6_mostHoused_76 : decode cX6_mostHoused 76 = .ok (.ior, 1) := dk_128 (dk_at dksX6_mostHoused_3 6 rfl rfl)
theorem dX6_mostHoused_77 : decode cX6_mostHoused 77 = .ok (.iconst 1, 1) := dk_4 (dk_at dksX6_mostHoused_3 7 rfl rfl)
theorem dX6_mostHoused_78 : decode cX6_mostHoused 78 = .ok (.iastore, 1) := dk_79 (dk_at dksX6_mostHoused_3 8 rfl rfl)
theorem dX6_mostHoused_79 : decode cX6_mostHoused 79 = .ok (.iload_n 2, 1) := dk_28 (dk_at dksX6_mostHoused_3 9 rfl rfl)
theorem dX6_mostHoused_80 : decode cX6_mostHoused 80 = .ok (.iload 4, 2) := dk_21 4 (dk_at dksX6_mostHoused_3 10 rfl rfl)
theorem dX6_mostHoused_82 : decode cX6_mostHoused 82 = .ok (.invokestatic 276, 3) := dk_184 1 20 (dk_at dksX6_mostHoused_3 12 rfl rfl)
theorem dX6_mostHoused_85 : decode cX6_mostHoused 85 = .ok (.iconst 1, 1) := dk_4 (dk_at dksX6_mostHoused_3 15 rfl rfl)
theorem dX6_mostHoused_86 : decode cX6_mostHoused 86 = .ok (.iadd, 1) := dk_96 (dk_at dksX6_mostHoused_3 16 rfl rfl)
theorem dX6_mostHoused_87 : decode cX6_mostHoused 87 = .ok (.invokestatic 368, 3) := dk_184 1 112 (dk_at dksX6_mostHoused_3 17 rfl rfl)
theorem dX6_mostHoused_90 : decode cX6_mostHoused 90 = .ok (.istore_n 2, 1) := dk_61 (dk_at dksX6_mostHoused_3 20 rfl rfl)
theorem dX6_mostHoused_91 : decode cX6_mostHoused 91 = .ok (.iinc 5 1, 3) := dk_132 5 1 (dk_at dksX6_mostHoused_3 21 rfl rfl)
theorem dX6_mostHoused_94 : decode cX6_mostHoused 94 = .ok (.goto (-70), 3) := dk_167 255 186 (dk_at dksX6_mostHoused_4 0 rfl rfl)
theorem dX6_mostHoused_97 : decode cX6_mostHoused 97 = .ok (.iinc 4 (-1), 3) := dk_132 4 255 (dk_at dksX6_mostHoused_4 3 rfl rfl)
theorem dX6_mostHoused_100 : decode cX6_mostHoused 100 = .ok (.goto (-84), 3) := dk_167 255 172 (dk_at dksX6_mostHoused_4 6 rfl rfl)
theorem dX6_mostHoused_103 : decode cX6_mostHoused 103 = .ok (.iinc 3 1, 3) := dk_132 3 1 (dk_at dksX6_mostHoused_4 9 rfl rfl)
theorem dX6_mostHoused_106 : decode cX6_mostHoused 106 = .ok (.goto (-102), 3) := dk_167 255 154 (dk_at dksX6_mostHoused_4 12 rfl rfl)
theorem dX6_mostHoused_109 : decode cX6_mostHoused 109 = .ok (.iload_n 2, 1) := dk_28 (dk_at dksX6_mostHoused_4 15 rfl rfl)
theorem dX6_mostHoused_110 : decode cX6_mostHoused 110 = .ok (.ireturn, 1) := dk_172 (dk_at dksX6_mostHoused_4 16 rfl rfl)
abbrev cX6_allHoused : ByteArray := prog_20_method_99_code
def yX6_allHoused : MethodName := ⟨RX6, "allHoused", "(I)I"⟩
def dkwX6_allHoused_4 : List UInt8 := [4, 100, 46, 172]
abbrev dktX6_allHoused_4 : List UInt8 := dkwX6_allHoused_4 ++ []
def dkwX6_allHoused_3 : List UInt8 := [130, 126, 46, 96, 79, 132, 4, 1, 167, 255, 199, 132, 2, 1, 167, 255, 176, 42, 180, 0, 91, 4, 27, 120]
abbrev dktX6_allHoused_3 : List UInt8 := dkwX6_allHoused_3 ++ dktX6_allHoused_4
def dkwX6_allHoused_2 : List UInt8 := [153, 0, 29, 42, 180, 0, 91, 28, 42, 180, 0, 91, 28, 46, 42, 180, 0, 91, 28, 4, 21, 4, 120, 2]
abbrev dktX6_allHoused_2 : List UInt8 := dkwX6_allHoused_2 ++ dktX6_allHoused_3
def dkwX6_allHoused_1 : List UInt8 := [162, 0, 57, 28, 21, 4, 184, 0, 100, 153, 0, 42, 42, 29, 182, 1, 129, 21, 4, 184, 0, 100]
abbrev dktX6_allHoused_1 : List UInt8 := dkwX6_allHoused_1 ++ dktX6_allHoused_2
def dkwX6_allHoused_0 : List UInt8 := [4, 61, 28, 4, 27, 120, 162, 0, 79, 28, 184, 1, 20, 4, 100, 62, 3, 54, 4, 21, 4, 27]
abbrev dktX6_allHoused_0 : List UInt8 := dkwX6_allHoused_0 ++ dktX6_allHoused_1
theorem dksX6_allHoused_0 : cX6_allHoused.data.toList.drop 0 = dktX6_allHoused_0 := by decide +kernel
theorem dksX6_allHoused_1 : cX6_allHoused.data.toList.drop 22 = dktX6_allHoused_1 := dk_seg dksX6_allHoused_0 22 rfl rfl
theorem dksX6_allHoused_2 : cX6_allHoused.data.toList.drop 44 = dktX6_allHoused_2 := dk_seg dksX6_allHoused_1 22 rfl rfl
theorem dksX6_allHoused_3 : cX6_allHoused.data.toList.drop 68 = dktX6_allHoused_3 := dk_seg dksX6_allHoused_2 24 rfl rfl
theorem dksX6_allHoused_4 : cX6_allHoused.data.toList.drop 92 = dktX6_allHoused_4 := dk_seg dksX6_allHoused_3 24 rfl rfl
theorem dX6_allHoused_0 : decode cX6_allHoused 0 = .ok (.iconst 1, 1) := dk_4 (dk_at dksX6_allHoused_0 0 rfl rfl)
theorem dX6_allHoused_1 : decode cX6_allHoused 1 = .ok (.istore_n 2, 1) := dk_61 (dk_at dksX6_allHoused_0 1 rfl rfl)
theorem dX6_allHoused_2 : decode cX6_allHoused 2 = .ok (.iload_n 2, 1) := dk_28 (dk_at dksX6_allHoused_0 2 rfl rfl)
theorem dX6_allHoused_3 : decode cX6_allHoused 3 = .ok (.iconst 1, 1) := dk_4 (dk_at dksX6_allHoused_0 3 rfl rfl)
theorem dX6_allHoused_4 : decode cX6_allHoused 4 = .ok (.iload_n 1, 1) := dk_27 (dk_at dksX6_allHoused_0 4 rfl rfl)
theorem dX6_allHoused_5 : decode cX6_allHoused 5 = .ok (.ishl, 1) := dk_120 (dk_at dksX6_allHoused_0 5 rfl rfl)
theorem dX6_allHoused_6 : decode cX6_allHoused 6 = .ok (.if_icmp .ge 79, 3) := dk_162 0 79 (dk_at dksX6_allHoused_0 6 rfl rfl)
theorem dX6_allHoused_9 : decode cX6_allHoused 9 = .ok (.iload_n 2, 1) := dk_28 (dk_at dksX6_allHoused_0 9 rfl rfl)
theorem dX6_allHoused_10 : decode cX6_allHoused 10 = .ok (.invokestatic 276, 3) := dk_184 1 20 (dk_at dksX6_allHoused_0 10 rfl rfl)
theorem dX6_allHoused_13 : decode cX6_allHoused 13 = .ok (.iconst 1, 1) := dk_4 (dk_at dksX6_allHoused_0 13 rfl rfl)
theorem dX6_allHoused_14 : decode cX6_allHoused 14 = .ok (.isub, 1) := dk_100 (dk_at dksX6_allHoused_0 14 rfl rfl)
theorem dX6_allHoused_15 : decode cX6_allHoused 15 = .ok (.istore_n 3, 1) := dk_62 (dk_at dksX6_allHoused_0 15 rfl rfl)
theorem dX6_allHoused_16 : decode cX6_allHoused 16 = .ok (.iconst 0, 1) := dk_3 (dk_at dksX6_allHoused_0 16 rfl rfl)
theorem dX6_allHoused_17 : decode cX6_allHoused 17 = .ok (.istore 4, 2) := dk_54 4 (dk_at dksX6_allHoused_0 17 rfl rfl)
theorem dX6_allHoused_19 : decode cX6_allHoused 19 = .ok (.iload 4, 2) := dk_21 4 (dk_at dksX6_allHoused_0 19 rfl rfl)
theorem dX6_allHoused_21 : decode cX6_allHoused 21 = .ok (.iload_n 1, 1) := dk_27 (dk_at dksX6_allHoused_0 21 rfl rfl)
theorem dX6_allHoused_22 : decode cX6_allHoused 22 = .ok (.if_icmp .ge 57, 3) := dk_162 0 57 (dk_at dksX6_allHoused_1 0 rfl rfl)
theorem dX6_allHoused_25 : decode cX6_allHoused 25 = .ok (.iload_n 2, 1) := dk_28 (dk_at dksX6_allHoused_1 3 rfl rfl)
theorem dX6_allHoused_26 : decode cX6_allHoused 26 = .ok (.iload 4, 2) := dk_21 4 (dk_at dksX6_allHoused_1 4 rfl rfl)
theorem dX6_allHoused_28 : decode cX6_allHoused 28 = .ok (.invokestatic 100, 3) := dk_184 0 100 (dk_at dksX6_allHoused_1 6 rfl rfl)
theorem dX6_allHoused_31 : decode cX6_allHoused 31 = .ok (.ifCond .eq 42, 3) := dk_153 0 42 (dk_at dksX6_allHoused_1 9 rfl rfl)
theorem dX6_allHoused_34 : decode cX6_allHoused 34 = .ok (.aload_n 0, 1) := dk_42 (dk_at dksX6_allHoused_1 12 rfl rfl)
theorem dX6_allHoused_35 : decode cX6_allHoused 35 = .ok (.iload_n 3, 1) := dk_29 (dk_at dksX6_allHoused_1 13 rfl rfl)
theorem dX6_allHoused_36 : decode cX6_allHoused 36 = .ok (.invokevirtual 385, 3) := dk_182 1 129 (dk_at dksX6_allHoused_1 14 rfl rfl)
theorem dX6_allHoused_39 : decode cX6_allHoused 39 = .ok (.iload 4, 2) := dk_21 4 (dk_at dksX6_allHoused_1 17 rfl rfl)
theorem dX6_allHoused_41 : decode cX6_allHoused 41 = .ok (.invokestatic 100, 3) := dk_184 0 100 (dk_at dksX6_allHoused_1 19 rfl rfl)
theorem dX6_allHoused_44 : decode cX6_allHoused 44 = .ok (.ifCond .eq 29, 3) := dk_153 0 29 (dk_at dksX6_allHoused_2 0 rfl rfl)
theorem dX6_allHoused_47 : decode cX6_allHoused 47 = .ok (.aload_n 0, 1) := dk_42 (dk_at dksX6_allHoused_2 3 rfl rfl)
theorem dX6_allHoused_48 : decode cX6_allHoused 48 = .ok (.getfield 91, 3) := dk_180 0 91 (dk_at dksX6_allHoused_2 4 rfl rfl)
theorem dX6_allHoused_51 : decode cX6_allHoused 51 = .ok (.iload_n 2, 1) := dk_28 (dk_at dksX6_allHoused_2 7 rfl rfl)
theorem dX6_allHoused_52 : decode cX6_allHoused 52 = .ok (.aload_n 0, 1) := dk_42 (dk_at dksX6_allHoused_2 8 rfl rfl)
theorem dX6_allHoused_53 : decode cX6_allHoused 53 = .ok (.getfield 91, 3) := dk_180 0 91 (dk_at dksX6_allHoused_2 9 rfl rfl)
theorem dX6_allHoused_56 : decode cX6_allHoused 56 = .ok (.iload_n 2, 1) := dk_28 (dk_at dksX6_allHoused_2 12 rfl rfl)
theorem dX6_allHoused_57 : decode cX6_allHoused 57 = .ok (.iaload, 1) := dk_46 (dk_at dksX6_allHoused_2 13 rfl rfl)
theorem dX6_allHoused_58 : decode cX6_allHoused 58 = .ok (.aload_n 0, 1) := dk_42 (dk_at dksX6_allHoused_2 14 rfl rfl)
theorem dX6_allHoused_59 : decode cX6_allHoused 59 = .ok (.getfield 91, 3) := dk_180 0 91 (dk_at dksX6_allHoused_2 15 rfl rfl)
theorem dX6_allHoused_62 : decode cX6_allHoused 62 = .ok (.iload_n 2, 1) := dk_28 (dk_at dksX6_allHoused_2 18 rfl rfl)
theorem dX6_allHoused_63 : decode cX6_allHoused 63 = .ok (.iconst 1, 1) := dk_4 (dk_at dksX6_allHoused_2 19 rfl rfl)
theorem dX6_allHoused_64 : decode cX6_allHoused 64 = .ok (.iload 4, 2) := dk_21 4 (dk_at dksX6_allHoused_2 20 rfl rfl)
theorem dX6_allHoused_66 : decode cX6_allHoused 66 = .ok (.ishl, 1) := dk_120 (dk_at dksX6_allHoused_2 22 rfl rfl)
theorem dX6_allHoused_67 : decode cX6_allHoused 67 = .ok (.iconst (-1), 1) := dk_2 (dk_at dksX6_allHoused_2 23 rfl rfl)
theorem dX6_allHoused_68 : decode cX6_allHoused 68 = .ok (.ixor, 1) := dk_130 (dk_at dksX6_allHoused_3 0 rfl rfl)
theorem dX6_allHoused_69 : decode cX6_allHoused 69 = .ok (.iand, 1) := dk_126 (dk_at dksX6_allHoused_3 1 rfl rfl)
theorem dX6_allHoused_70 : decode cX6_allHoused 70 = .ok (.iaload, 1) := dk_46 (dk_at dksX6_allHoused_3 2 rfl rfl)
theorem dX6_allHoused_71 : decode cX6_allHoused 71 = .ok (.iadd, 1) := dk_96 (dk_at dksX6_allHoused_3 3 rfl rfl)
theorem dX6_allHoused_72 : decode cX6_allHoused 72 = .ok (.iastore, 1) := dk_79 (dk_at dksX6_allHoused_3 4 rfl rfl)
theorem dX6_allHoused_73 : decode cX6_allHoused 73 = .ok (.iinc 4 1, 3) := dk_132 4 1 (dk_at dksX6_allHoused_3 5 rfl rfl)
theorem dX6_allHoused_76 : decode cX6_allHoused 76 = .ok (.goto (-57), 3) := dk_167 255 199 (dk_at dksX6_allHoused_3 8 rfl rfl)
theorem dX6_allHoused_79 : decode cX6_allHoused 79 = .ok (.iinc 2 1, 3) := dk_132 2 1 (dk_at dksX6_allHoused_3 11 rfl rfl)
theorem dX6_allHoused_82 : decode cX6_allHoused 82 = .ok (.goto (-80), 3) := dk_167 255 176 (dk_at dksX6_allHoused_3 14 rfl rfl)
theorem dX6_allHoused_85 : decode cX6_allHoused 85 = .ok (.aload_n 0, 1) := dk_42 (dk_at dksX6_allHoused_3 17 rfl rfl)
theorem dX6_allHoused_86 : decode cX6_allHoused 86 = .ok (.getfield 91, 3) := dk_180 0 91 (dk_at dksX6_allHoused_3 18 rfl rfl)
theorem dX6_allHoused_89 : decode cX6_allHoused 89 = .ok (.iconst 1, 1) := dk_4 (dk_at dksX6_allHoused_3 21 rfl rfl)
theorem dX6_allHoused_90 : decode cX6_allHoused 90 = .ok (.iload_n 1, 1) := dk_27 (dk_at dksX6_allHoused_3 22 rfl rfl)
theorem dX6_allHoused_91 : decode cX6_allHoused 91 = .ok (.ishl, 1) := dk_120 (dk_at dksX6_allHoused_3 23 rfl rfl)
theorem dX6_allHoused_92 : decode cX6_allHoused 92 = .ok (.iconst 1, 1) := dk_4 (dk_at dksX6_allHoused_4 0 rfl rfl)
theorem dX6_allHoused_93 : decode cX6_allHoused 93 = .ok (.isub, 1) := dk_100 (dk_at dksX6_allHoused_4 1 rfl rfl)
theorem dX6_allHoused_94 : decode cX6_allHoused 94 = .ok (.iaload, 1) := dk_46 (dk_at dksX6_allHoused_4 2 rfl rfl)
theorem dX6_allHoused_95 : decode cX6_allHoused 95 = .ok (.ireturn, 1) := dk_172 (dk_at dksX6_allHoused_4 3 rfl rfl)
abbrev cX6_between : ByteArray := prog_20_method_100_code
def yX6_between : MethodName := ⟨RX6, "between", "(II)I"⟩
def dkwX6_between_3 : List UInt8 := [128, 62, 132, 4, 1, 167, 255, 207, 29, 172]
abbrev dktX6_between_3 : List UInt8 := dkwX6_between_3 ++ []
def dkwX6_between_2 : List UInt8 := [21, 4, 46, 27, 28, 184, 1, 47, 27, 28, 184, 1, 112, 184, 0, 104, 153, 0, 10, 29, 4, 21, 4, 120]
abbrev dktX6_between_2 : List UInt8 := dkwX6_between_2 ++ dktX6_between_3
def dkwX6_between_1 : List UInt8 := [3, 54, 4, 21, 4, 16, 16, 162, 0, 48, 42, 21, 4, 182, 0, 233, 153, 0, 33, 42, 180, 0, 19]
abbrev dktX6_between_1 : List UInt8 := dkwX6_between_1 ++ dktX6_between_2
def dkwX6_between_0 : List UInt8 := [27, 3, 16, 99, 184, 0, 104, 153, 0, 13, 28, 3, 16, 99, 184, 0, 104, 154, 0, 5, 2, 172, 3, 62]
abbrev dktX6_between_0 : List UInt8 := dkwX6_between_0 ++ dktX6_between_1
theorem dksX6_between_0 : cX6_between.data.toList.drop 0 = dktX6_between_0 := by decide +kernel
theorem dksX6_between_1 : cX6_between.data.toList.drop 24 = dktX6_between_1 := dk_seg dksX6_between_0 24 rfl rfl
theorem dksX6_between_2 : cX6_between.data.toList.drop 47 = dktX6_between_2 := dk_seg dksX6_between_1 23 rfl rfl
theorem dksX6_between_3 : cX6_between.data.toList.drop 71 = dktX6_between_3 := dk_seg dksX6_between_2 24 rfl rfl
theorem dX6_between_0 : decode cX6_between 0 = .ok (.iload_n 1, 1) := dk_27 (dk_at dksX6_between_0 0 rfl rfl)
theorem dX6_between_1 : decode cX6_between 1 = .ok (.iconst 0, 1) := dk_3 (dk_at dksX6_between_0 1 rfl rfl)
theorem dX6_between_2 : decode cX6_between 2 = .ok (.bipush 99, 2) := dk_16 99 (dk_at dksX6_between_0 2 rfl rfl)
theorem dX6_between_4 : decode cX6_between 4 = .ok (.invokestatic 104, 3) := dk_184 0 104 (dk_at dksX6_between_0 4 rfl rfl)
theorem dX6_between_7 : decode cX6_between 7 = .ok (.ifCond .eq 13, 3) := dk_153 0 13 (dk_at dksX6_between_0 7 rfl rfl)
theorem dX6_between_10 : decode cX6_between 10 = .ok (.iload_n 2, 1) := dk_28 (dk_at dksX6_between_0 10 rfl rfl)
theorem dX6_between_11 : decode cX6_between 11 = .ok (.iconst 0, 1) := dk_3 (dk_at dksX6_between_0 11 rfl rfl)
theorem dX6_between_12 : decode cX6_between 12 = .ok (.bipush 99, 2) := dk_16 99 (dk_at dksX6_between_0 12 rfl rfl)
theorem dX6_between_14 : decode cX6_between 14 = .ok (.invokestatic 104, 3) := dk_184 0 104 (dk_at dksX6_between_0 14 rfl rfl)
theorem dX6_between_17 : decode cX6_between 17 = .ok (.ifCond .ne 5, 3) := dk_154 0 5 (dk_at dksX6_between_0 17 rfl rfl)
theorem dX6_between_20 : decode cX6_between 20 = .ok (.iconst (-1), 1) := dk_2 (dk_at dksX6_between_0 20 rfl rfl)
theorem dX6_between_21 : decode cX6_between 21 = .ok (.ireturn, 1) := dk_172 (dk_at dksX6_between_0 21 rfl rfl)
theorem dX6_between_22 : decode cX6_between 22 = .ok (.iconst 0, 1) := dk_3 (dk_at dksX6_between_0 22 rfl rfl)
theorem dX6_between_23 : decode cX6_between 23 = .ok (.istore_n 3, 1) := dk_62 (dk_at dksX6_between_0 23 rfl rfl)
theorem dX6_between_24 : decode cX6_between 24 = .ok (.iconst 0, 1) := dk_3 (dk_at dksX6_between_1 0 rfl rfl)
theorem dX6_between_25 : decode cX6_between 25 = .ok (.istore 4, 2) := dk_54 4 (dk_at dksX6_between_1 1 rfl rfl)
theorem dX6_between_27 : decode cX6_between 27 = .ok (.iload 4, 2) := dk_21 4 (dk_at dksX6_between_1 3 rfl rfl)
theorem dX6_between_29 : decode cX6_between 29 = .ok (.bipush 16, 2) := dk_16 16 (dk_at dksX6_between_1 5 rfl rfl)
theorem dX6_between_31 : decode cX6_between 31 = .ok (.if_icmp .ge 48, 3) := dk_162 0 48 (dk_at dksX6_between_1 7 rfl rfl)
theorem dX6_between_34 : decode cX6_between 34 = .ok (.aload_n 0, 1) := dk_42 (dk_at dksX6_between_1 10 rfl rfl)
theorem dX6_between_35 : decode cX6_between 35 = .ok (.iload 4, 2) := dk_21 4 (dk_at dksX6_between_1 11 rfl rfl)
theorem dX6_between_37 : decode cX6_between 37 = .ok (.invokevirtual 233, 3) := dk_182 0 233 (dk_at dksX6_between_1 13 rfl rfl)
theorem dX6_between_40 : decode cX6_between 40 = .ok (.ifCond .eq 33, 3) := dk_153 0 33 (dk_at dksX6_between_1 16 rfl rfl)
theorem dX6_between_43 : decode cX6_between 43 = .ok (.aload_n 0, 1) := dk_42 (dk_at dksX6_between_1 19 rfl rfl)
theorem dX6_between_44 : decode cX6_between 44 = .ok (.getfield 19, 3) := dk_180 0 19 (dk_at dksX6_between_1 20 rfl rfl)
theorem dX6_between_47 : decode cX6_between 47 = .ok (.iload 4, 2) := dk_21 4 (dk_at dksX6_between_2 0 rfl rfl)
theorem dX6_between_49 : decode cX6_between 49 = .ok (.iaload, 1) := dk_46 (dk_at dksX6_between_2 2 rfl rfl)
theorem dX6_between_50 : decode cX6_between 50 = .ok (.iload_n 1, 1) := dk_27 (dk_at dksX6_between_2 3 rfl rfl)
theorem dX6_between_51 : decode cX6_between 51 = .ok (.iload_n 2, 1) := dk_28 (dk_at dksX6_between_2 4 rfl rfl)
theorem dX6_between_52 : decode cX6_between 52 = .ok (.invokestatic 303, 3) := dk_184 1 47 (dk_at dksX6_between_2 5 rfl rfl)
theorem dX6_between_55 : decode cX6_between 55 = .ok (.iload_n 1, 1) := dk_27 (dk_at dksX6_between_2 8 rfl rfl)
theorem dX6_between_56 : decode cX6_between 56 = .ok (.iload_n 2, 1) := dk_28 (dk_at dksX6_between_2 9 rfl rfl)
theorem dX6_between_57 : decode cX6_between 57 = .ok (.invokestatic 368, 3) := dk_184 1 112 (dk_at dksX6_between_2 10 rfl rfl)
theorem dX6_between_60 : decode cX6_between 60 = .ok (.invokestatic 104, 3) := dk_184 0 104 (dk_at dksX6_between_2 13 rfl rfl)
theorem dX6_between_63 : decode cX6_between 63 = .ok (.ifCond .eq 10, 3) := dk_153 0 10 (dk_at dksX6_between_2 16 rfl rfl)
theorem dX6_between_66 : decode cX6_between 66 = .ok (.iload_n 3, 1) := dk_29 (dk_at dksX6_between_2 19 rfl rfl)
theorem dX6_between_67 : decode cX6_between 67 = .ok (.iconst 1, 1) := dk_4 (dk_at dksX6_between_2 20 rfl rfl)
theorem dX6_between_68 : decode cX6_between 68 = .ok (.iload 4, 2) := dk_21 4 (dk_at dksX6_between_2 21 rfl rfl)
theorem dX6_between_70 : decode cX6_between 70 = .ok (.ishl, 1) := dk_120 (dk_at dksX6_between_2 23 rfl rfl)
theorem dX6_between_71 : decode cX6_between 71 = .ok (.ior, 1) := dk_128 (dk_at dksX6_between_3 0 rfl rfl)
theorem dX6_between_72 : decode cX6_between 72 = .ok (.istore_n 3, 1) := dk_62 (dk_at dksX6_between_3 1 rfl rfl)
theorem dX6_between_73 : decode cX6_between 73 = .ok (.iinc 4 1, 3) := dk_132 4 1 (dk_at dksX6_between_3 2 rfl rfl)
theorem dX6_between_76 : decode cX6_between 76 = .ok (.goto (-49), 3) := dk_167 255 207 (dk_at dksX6_between_3 5 rfl rfl)
theorem dX6_between_79 : decode cX6_between 79 = .ok (.iload_n 3, 1) := dk_29 (dk_at dksX6_between_3 8 rfl rfl)
theorem dX6_between_80 : decode cX6_between 80 = .ok (.ireturn, 1) := dk_172 (dk_at dksX6_between_3 9 rfl rfl)
abbrev cX6_seed : ByteArray := prog_20_method_101_code
def yX6_seed : MethodName := ⟨RX6, "seed", "(I)Z"⟩
def dkwX6_seed_0 : List UInt8 := [27, 3, 19, 1, 93, 184, 0, 104, 154, 0, 5, 3, 172, 42, 180, 0, 7, 17, 1, 17, 27, 79, 4, 172]
abbrev dktX6_seed_0 : List UInt8 := dkwX6_seed_0 ++ []
theorem dksX6_seed_0 : cX6_seed.data.toList.drop 0 = dktX6_seed_0 := by decide +kernel
theorem dX6_seed_0 : decode cX6_seed 0 = .ok (.iload_n 1, 1) := dk_27 (dk_at dksX6_seed_0 0 rfl rfl)
theorem dX6_seed_1 : decode cX6_seed 1 = .ok (.iconst 0, 1) := dk_3 (dk_at dksX6_seed_0 1 rfl rfl)
theorem dX6_seed_2 : decode cX6_seed 2 = .ok (.ldc_w 349, 3) := dk_19 1 93 (dk_at dksX6_seed_0 2 rfl rfl)
theorem dX6_seed_5 : decode cX6_seed 5 = .ok (.invokestatic 104, 3) := dk_184 0 104 (dk_at dksX6_seed_0 5 rfl rfl)
theorem dX6_seed_8 : decode cX6_seed 8 = .ok (.ifCond .ne 5, 3) := dk_154 0 5 (dk_at dksX6_seed_0 8 rfl rfl)
theorem dX6_seed_11 : decode cX6_seed 11 = .ok (.iconst 0, 1) := dk_3 (dk_at dksX6_seed_0 11 rfl rfl)
theorem dX6_seed_12 : decode cX6_seed 12 = .ok (.ireturn, 1) := dk_172 (dk_at dksX6_seed_0 12 rfl rfl)
theorem dX6_seed_13 : decode cX6_seed 13 = .ok (.aload_n 0, 1) := dk_42 (dk_at dksX6_seed_0 13 rfl rfl)
theorem dX6_seed_14 : decode cX6_seed 14 = .ok (.getfield 7, 3) := dk_180 0 7 (dk_at dksX6_seed_0 14 rfl rfl)
theorem dX6_seed_17 : decode cX6_seed 17 = .ok (.sipush 273, 3) := dk_17 1 17 (dk_at dksX6_seed_0 17 rfl rfl)
theorem dX6_seed_20 : decode cX6_seed 20 = .ok (.iload_n 1, 1) := dk_27 (dk_at dksX6_seed_0 20 rfl rfl)
theorem dX6_seed_21 : decode cX6_seed 21 = .ok (.iastore, 1) := dk_79 (dk_at dksX6_seed_0 21 rfl rfl)
theorem dX6_seed_22 : decode cX6_seed 22 = .ok (.iconst 1, 1) := dk_4 (dk_at dksX6_seed_0 22 rfl rfl)
theorem dX6_seed_23 : decode cX6_seed 23 = .ok (.ireturn, 1) := dk_172 (dk_at dksX6_seed_0 23 rfl rfl)
abbrev cX6_keep : ByteArray := prog_20_method_102_code
def yX6_keep : MethodName := ⟨RX6, "keep", "()I"⟩
def dkwX6_keep_1 : List UInt8 := [172]
abbrev dktX6_keep_1 : List UInt8 := dkwX6_keep_1 ++ []
def dkwX6_keep_0 : List UInt8 := [42, 4, 181, 1, 143, 42, 180, 0, 7, 42, 180, 0, 16, 184, 1, 68, 42, 180, 0, 7, 17, 1, 16, 46]
abbrev dktX6_keep_0 : List UInt8 := dkwX6_keep_0 ++ dktX6_keep_1
theorem dksX6_keep_0 : cX6_keep.data.toList.drop 0 = dktX6_keep_0 := by decide +kernel
theorem dksX6_keep_1 : cX6_keep.data.toList.drop 24 = dktX6_keep_1 := dk_seg dksX6_keep_0 24 rfl rfl
theorem dX6_keep_0 : decode cX6_keep 0 = .ok (.aload_n 0, 1) := dk_42 (dk_at dksX6_keep_0 0 rfl rfl)
theorem dX6_keep_1 : decode cX6_keep 1 = .ok (.iconst 1, 1) := dk_4 (dk_at dksX6_keep_0 1 rfl rfl)
theorem dX6_keep_2 : decode cX6_keep 2 = .ok (.putfield 399, 3) := dk_181 1 143 (dk_at dksX6_keep_0 2 rfl rfl)
theorem dX6_keep_5 : decode cX6_keep 5 = .ok (.aload_n 0, 1) := dk_42 (dk_at dksX6_keep_0 5 rfl rfl)
theorem dX6_keep_6 : decode cX6_keep 6 = .ok (.getfield 7, 3) := dk_180 0 7 (dk_at dksX6_keep_0 6 rfl rfl)
theorem dX6_keep_9 : decode cX6_keep 9 = .ok (.aload_n 0, 1) := dk_42 (dk_at dksX6_keep_0 9 rfl rfl)
theorem dX6_keep_10 : decode cX6_keep 10 = .ok (.getfield 16, 3) := dk_180 0 16 (dk_at dksX6_keep_0 10 rfl rfl)
theorem dX6_keep_13 : decode cX6_keep 13 = .ok (.invokestatic 324, 3) := dk_184 1 68 (dk_at dksX6_keep_0 13 rfl rfl)
theorem dX6_keep_16 : decode cX6_keep 16 = .ok (.aload_n 0, 1) := dk_42 (dk_at dksX6_keep_0 16 rfl rfl)
theorem dX6_keep_17 : decode cX6_keep 17 = .ok (.getfield 7, 3) := dk_180 0 7 (dk_at dksX6_keep_0 17 rfl rfl)
theorem dX6_keep_20 : decode cX6_keep 20 = .ok (.sipush 272, 3) := dk_17 1 16 (dk_at dksX6_keep_0 20 rfl rfl)
theorem dX6_keep_23 : decode cX6_keep 23 = .ok (.iaload, 1) := dk_46 (dk_at dksX6_keep_0 23 rfl rfl)
theorem dX6_keep_24 : decode cX6_keep 24 = .ok (.ireturn, 1) := dk_172 (dk_at dksX6_keep_1 0 rfl rfl)
abbrev cX6_undo : ByteArray := prog_20_method_103_code
def yX6_undo : MethodName := ⟨RX6, "undo", "()Z"⟩
def dkwX6_undo_0 : List UInt8 := [42, 180, 1, 143, 154, 0, 5, 3, 172, 42, 180, 0, 16, 42, 180, 0, 7, 184, 1, 68, 4, 172]
abbrev dktX6_undo_0 : List UInt8 := dkwX6_undo_0 ++ []
theorem dksX6_undo_0 : cX6_undo.data.toList.drop 0 = dktX6_undo_0 := by decide +kernel
theorem dX6_undo_0 : decode cX6_undo 0 = .ok (.aload_n 0, 1) := dk_42 (dk_at dksX6_undo_0 0 rfl rfl)
theorem dX6_undo_1 : decode cX6_undo 1 = .ok (.getfield 399, 3) := dk_180 1 143 (dk_at dksX6_undo_0 1 rfl rfl)
theorem dX6_undo_4 : decode cX6_undo 4 = .ok (.ifCond .ne 5, 3) := dk_154 0 5 (dk_at dksX6_undo_0 4 rfl rfl)
theorem dX6_undo_7 : decode cX6_undo 7 = .ok (.iconst 0, 1) := dk_3 (dk_at dksX6_undo_0 7 rfl rfl)
theorem dX6_undo_8 : decode cX6_undo 8 = .ok (.ireturn, 1) := dk_172 (dk_at dksX6_undo_0 8 rfl rfl)
theorem dX6_undo_9 : decode cX6_undo 9 = .ok (.aload_n 0, 1) := dk_42 (dk_at dksX6_undo_0 9 rfl rfl)
theorem dX6_undo_10 : decode cX6_undo 10 = .ok (.getfield 16, 3) := dk_180 0 16 (dk_at dksX6_undo_0 10 rfl rfl)
theorem dX6_undo_13 : decode cX6_undo 13 = .ok (.aload_n 0, 1) := dk_42 (dk_at dksX6_undo_0 13 rfl rfl)
theorem dX6_undo_14 : decode cX6_undo 14 = .ok (.getfield 7, 3) := dk_180 0 7 (dk_at dksX6_undo_0 14 rfl rfl)
theorem dX6_undo_17 : decode cX6_undo 17 = .ok (.invokestatic 324, 3) := dk_184 1 68 (dk_at dksX6_undo_0 17 rfl rfl)
theorem dX6_undo_20 : decode cX6_undo 20 = .ok (.iconst 1, 1) := dk_4 (dk_at dksX6_undo_0 20 rfl rfl)
theorem dX6_undo_21 : decode cX6_undo 21 = .ok (.ireturn, 1) := dk_172 (dk_at dksX6_undo_0 21 rfl rfl)
abbrev cX6_check : ByteArray := prog_20_method_104_code
def yX6_check : MethodName := ⟨RX6, "check", "(I)I"⟩
def dkwX6_check_2 : List UInt8 := [180, 0, 19, 28, 46, 167, 0, 6, 17, 0, 255, 159, 0, 5, 28, 172, 132, 2, 1, 167, 255, 218, 2, 172]
abbrev dktX6_check_2 : List UInt8 := dkwX6_check_2 ++ []
def dkwX6_check_1 : List UInt8 := [181, 0, 116, 3, 61, 28, 27, 162, 0, 39, 42, 28, 182, 1, 129, 42, 28, 182, 0, 233, 153, 0, 12, 42]
abbrev dktX6_check_1 : List UInt8 := dkwX6_check_1 ++ dktX6_check_2
def dkwX6_check_0 : List UInt8 := [27, 3, 16, 16, 184, 0, 104, 153, 0, 11, 27, 42, 180, 0, 116, 164, 0, 6, 16, 254, 172, 42, 3]
abbrev dktX6_check_0 : List UInt8 := dkwX6_check_0 ++ dktX6_check_1
theorem dksX6_check_0 : cX6_check.data.toList.drop 0 = dktX6_check_0 := by decide +kernel
theorem dksX6_check_1 : cX6_check.data.toList.drop 23 = dktX6_check_1 := dk_seg dksX6_check_0 23 rfl rfl
theorem dksX6_check_2 : cX6_check.data.toList.drop 47 = dktX6_check_2 := dk_seg dksX6_check_1 24 rfl rfl
theorem dX6_check_0 : decode cX6_check 0 = .ok (.iload_n 1, 1) := dk_27 (dk_at dksX6_check_0 0 rfl rfl)
theorem dX6_check_1 : decode cX6_check 1 = .ok (.iconst 0, 1) := dk_3 (dk_at dksX6_check_0 1 rfl rfl)
theorem dX6_check_2 : decode cX6_check 2 = .ok (.bipush 16, 2) := dk_16 16 (dk_at dksX6_check_0 2 rfl rfl)
theorem dX6_check_4 : decode cX6_check 4 = .ok (.invokestatic 104, 3) := dk_184 0 104 (dk_at dksX6_check_0 4 rfl rfl)
theorem dX6_check_7 : decode cX6_check 7 = .ok (.ifCond .eq 11, 3) := dk_153 0 11 (dk_at dksX6_check_0 7 rfl rfl)
theorem dX6_check_10 : decode cX6_check 10 = .ok (.iload_n 1, 1) := dk_27 (dk_at dksX6_check_0 10 rfl rfl)
theorem dX6_check_11 : decode cX6_check 11 = .ok (.aload_n 0, 1) := dk_42 (dk_at dksX6_check_0 11 rfl rfl)
theorem dX6_check_12 : decode cX6_check 12 = .ok (.getfield 116, 3) := dk_180 0 116 (dk_at dksX6_check_0 12 rfl rfl)
theorem dX6_check_15 : decode cX6_check 15 = .ok (.if_icmp .le 6, 3) := dk_164 0 6 (dk_at dksX6_check_0 15 rfl rfl)
theorem dX6_check_18 : decode cX6_check 18 = .ok (.bipush (-2), 2) := dk_16 254 (dk_at dksX6_check_0 18 rfl rfl)
theorem dX6_check_20 : decode cX6_check 20 = .ok (.ireturn, 1) := dk_172 (dk_at dksX6_check_0 20 rfl rfl)
theorem dX6_check_21 : decode cX6_check 21 = .ok (.aload_n 0, 1) := dk_42 (dk_at dksX6_check_0 21 rfl rfl)
theorem dX6_check_22 : decode cX6_check 22 = .ok (.iconst 0, 1) := dk_3 (dk_at dksX6_check_0 22 rfl rfl)
theorem dX6_check_23 : decode cX6_check 23 = .ok (.putfield 116, 3) := dk_181 0 116 (dk_at dksX6_check_1 0 rfl rfl)
theorem dX6_check_26 : decode cX6_check 26 = .ok (.iconst 0, 1) := dk_3 (dk_at dksX6_check_1 3 rfl rfl)
theorem dX6_check_27 : decode cX6_check 27 = .ok (.istore_n 2, 1) := dk_61 (dk_at dksX6_check_1 4 rfl rfl)
theorem dX6_check_28 : decode cX6_check 28 = .ok (.iload_n 2, 1) := dk_28 (dk_at dksX6_check_1 5 rfl rfl)
theorem dX6_check_29 : decode cX6_check 29 = .ok (.iload_n 1, 1) := dk_27 (dk_at dksX6_check_1 6 rfl rfl)
theorem dX6_check_30 : decode cX6_check 30 = .ok (.if_icmp .ge 39, 3) := dk_162 0 39 (dk_at dksX6_check_1 7 rfl rfl)
theorem dX6_check_33 : decode cX6_check 33 = .ok (.aload_n 0, 1) := dk_42 (dk_at dksX6_check_1 10 rfl rfl)
theorem dX6_check_34 : decode cX6_check 34 = .ok (.iload_n 2, 1) := dk_28 (dk_at dksX6_check_1 11 rfl rfl)
theorem dX6_check_35 : decode cX6_check 35 = .ok (.invokevirtual 385, 3) := dk_182 1 129 (dk_at dksX6_check_1 12 rfl rfl)
theorem dX6_check_38 : decode cX6_check 38 = .ok (.aload_n 0, 1) := dk_42 (dk_at dksX6_check_1 15 rfl rfl)
theorem dX6_check_39 : decode cX6_check 39 = .ok (.iload_n 2, 1) := dk_28 (dk_at dksX6_check_1 16 rfl rfl)
theorem dX6_check_40 : decode cX6_check 40 = .ok (.invokevirtual 233, 3) := dk_182 0 233 (dk_at dksX6_check_1 17 rfl rfl)
theorem dX6_check_43 : decode cX6_check 43 = .ok (.ifCond .eq 12, 3) := dk_153 0 12 (dk_at dksX6_check_1 20 rfl rfl)
theorem dX6_check_46 : decode cX6_check 46 = .ok (.aload_n 0, 1) := dk_42 (dk_at dksX6_check_1 23 rfl rfl)
theorem dX6_check_47 : decode cX6_check 47 = .ok (.getfield 19, 3) := dk_180 0 19 (dk_at dksX6_check_2 0 rfl rfl)
theorem dX6_check_50 : decode cX6_check 50 = .ok (.iload_n 2, 1) := dk_28 (dk_at dksX6_check_2 3 rfl rfl)
theorem dX6_check_51 : decode cX6_check 51 = .ok (.iaload, 1) := dk_46 (dk_at dksX6_check_2 4 rfl rfl)
theorem dX6_check_52 : decode cX6_check 52 = .ok (.goto 6, 3) := dk_167 0 6 (dk_at dksX6_check_2 5 rfl rfl)
theorem dX6_check_55 : decode cX6_check 55 = .ok (.sipush 255, 3) := dk_17 0 255 (dk_at dksX6_check_2 8 rfl rfl)
theorem dX6_check_58 : decode cX6_check 58 = .ok (.if_icmp .eq 5, 3) := dk_159 0 5 (dk_at dksX6_check_2 11 rfl rfl)
theorem dX6_check_61 : decode cX6_check 61 = .ok (.iload_n 2, 1) := dk_28 (dk_at dksX6_check_2 14 rfl rfl)
theorem dX6_check_62 : decode cX6_check 62 = .ok (.ireturn, 1) := dk_172 (dk_at dksX6_check_2 15 rfl rfl)
theorem dX6_check_63 : decode cX6_check 63 = .ok (.iinc 2 1, 3) := dk_132 2 1 (dk_at dksX6_check_2 16 rfl rfl)
theorem dX6_check_66 : decode cX6_check 66 = .ok (.goto (-38), 3) := dk_167 255 218 (dk_at dksX6_check_2 19 rfl rfl)
theorem dX6_check_69 : decode cX6_check 69 = .ok (.iconst (-1), 1) := dk_2 (dk_at dksX6_check_2 22 rfl rfl)
theorem dX6_check_70 : decode cX6_check 70 = .ok (.ireturn, 1) := dk_172 (dk_at dksX6_check_2 23 rfl rfl)
abbrev cX6_count : ByteArray := prog_20_method_107_code
def yX6_count : MethodName := ⟨RX6, "count", "(I)I"⟩
def dkwX6_count_4 : List UInt8 := [42, 182, 1, 72, 172, 2, 172]
abbrev dktX6_count_4 : List UInt8 := dkwX6_count_4 ++ []
def dkwX6_count_3 : List UInt8 := [42, 182, 1, 150, 172, 42, 180, 0, 216, 172, 42, 180, 0, 116, 172, 42, 180, 0, 7, 17, 1, 17, 46, 172]
abbrev dktX6_count_3 : List UInt8 := dkwX6_count_3 ++ dktX6_count_4
def dkwX6_count_2 : List UInt8 := [42, 180, 0, 7, 17, 1, 16, 46, 172, 42, 180, 0, 108, 172, 42, 180, 0, 227, 172, 42, 182, 1, 147, 172]
abbrev dktX6_count_2 : List UInt8 := dkwX6_count_2 ++ dktX6_count_3
def dkwX6_count_1 : List UInt8 := [170, 0, 0, 0, 0, 0, 104, 0, 0, 0, 0, 0, 0, 0, 8, 0, 0, 0, 51, 0, 0, 0, 60, 0, 0, 0, 65, 0, 0, 0, 70, 0, 0, 0, 75, 0, 0, 0, 80, 0, 0, 0, 85, 0, 0, 0, 90, 0, 0, 0, 99]
abbrev dktX6_count_1 : List UInt8 := dkwX6_count_1 ++ dktX6_count_2
def dkwX6_count_0 : List UInt8 := [27]
abbrev dktX6_count_0 : List UInt8 := dkwX6_count_0 ++ dktX6_count_1
theorem dksX6_count_0 : cX6_count.data.toList.drop 0 = dktX6_count_0 := by decide +kernel
theorem dksX6_count_1 : cX6_count.data.toList.drop 1 = dktX6_count_1 := dk_seg dksX6_count_0 1 rfl rfl
theorem dksX6_count_2 : cX6_count.data.toList.drop 52 = dktX6_count_2 := dk_seg dksX6_count_1 51 rfl rfl
theorem dksX6_count_3 : cX6_count.data.toList.drop 76 = dktX6_count_3 := dk_seg dksX6_count_2 24 rfl rfl
theorem dksX6_count_4 : cX6_count.data.toList.drop 100 = dktX6_count_4 := dk_seg dksX6_count_3 24 rfl rfl
theorem dX6_count_0 : decode cX6_count 0 = .ok (.iload_n 1, 1) := dk_27 (dk_at dksX6_count_0 0 rfl rfl)
theorem dX6_count_1 : decode cX6_count 1 = .ok (.tableswitch 104 0 8 #[51, 60, 65, 70, 75, 80, 85, 90, 99], 51) := by decide +kernel
theorem dX6_count_52 : decode cX6_count 52 = .ok (.aload_n 0, 1) := dk_42 (dk_at dksX6_count_2 0 rfl rfl)
theorem dX6_count_53 : decode cX6_count 53 = .ok (.getfield 7, 3) := dk_180 0 7 (dk_at dksX6_count_2 1 rfl rfl)
theorem dX6_count_56 : decode cX6_count 56 = .ok (.sipush 272, 3) := dk_17 1 16 (dk_at dksX6_count_2 4 rfl rfl)
theorem dX6_count_59 : decode cX6_count 59 = .ok (.iaload, 1) := dk_46 (dk_at dksX6_count_2 7 rfl rfl)
theorem dX6_count_60 : decode cX6_count 60 = .ok (.ireturn, 1) := dk_172 (dk_at dksX6_count_2 8 rfl rfl)
theorem dX6_count_61 : decode cX6_count 61 = .ok (.aload_n 0, 1) := dk_42 (dk_at dksX6_count_2 9 rfl rfl)
theorem dX6_count_62 : decode cX6_count 62 = .ok (.getfield 108, 3) := dk_180 0 108 (dk_at dksX6_count_2 10 rfl rfl)
theorem dX6_count_65 : decode cX6_count 65 = .ok (.ireturn, 1) := dk_172 (dk_at dksX6_count_2 13 rfl rfl)
theorem dX6_count_66 : decode cX6_count 66 = .ok (.aload_n 0, 1) := dk_42 (dk_at dksX6_count_2 14 rfl rfl)
theorem dX6_count_67 : decode cX6_count 67 = .ok (.getfield 227, 3) := dk_180 0 227 (dk_at dksX6_count_2 15 rfl rfl)
theorem dX6_count_70 : decode cX6_count 70 = .ok (.ireturn, 1) := dk_172 (dk_at dksX6_count_2 18 rfl rfl)
theorem dX6_count_71 : decode cX6_count 71 = .ok (.aload_n 0, 1) := dk_42 (dk_at dksX6_count_2 19 rfl rfl)
theorem dX6_count_72 : decode cX6_count 72 = .ok (.invokevirtual 403, 3) := dk_182 1 147 (dk_at dksX6_count_2 20 rfl rfl)
theorem dX6_count_75 : decode cX6_count 75 = .ok (.ireturn, 1) := dk_172 (dk_at dksX6_count_2 23 rfl rfl)
theorem dX6_count_76 : decode cX6_count 76 = .ok (.aload_n 0, 1) := dk_42 (dk_at dksX6_count_3 0 rfl rfl)
theorem dX6_count_77 : decode cX6_count 77 = .ok (.invokevirtual 406, 3) := dk_182 1 150 (dk_at dksX6_count_3 1 rfl rfl)
theorem dX6_count_80 : decode cX6_count 80 = .ok (.ireturn, 1) := dk_172 (dk_at dksX6_count_3 4 rfl rfl)
theorem dX6_count_81 : decode cX6_count 81 = .ok (.aload_n 0, 1) := dk_42 (dk_at dksX6_count_3 5 rfl rfl)
theorem dX6_count_82 : decode cX6_count 82 = .ok (.getfield 216, 3) := dk_180 0 216 (dk_at dksX6_count_3 6 rfl rfl)
theorem dX6_count_85 : decode cX6_count 85 = .ok (.ireturn, 1) := dk_172 (dk_at dksX6_count_3 9 rfl rfl)
theorem dX6_count_86 : decode cX6_count 86 = .ok (.aload_n 0, 1) := dk_42 (dk_at dksX6_count_3 10 rfl rfl)
theorem dX6_count_87 : decode cX6_count 87 = .ok (.getfield 116, 3) := dk_180 0 116 (dk_at dksX6_count_3 11 rfl rfl)
theorem dX6_count_90 : decode cX6_count 90 = .ok (.ireturn, 1) := dk_172 (dk_at dksX6_count_3 14 rfl rfl)
theorem dX6_count_91 : decode cX6_count 91 = .ok (.aload_n 0, 1) := dk_42 (dk_at dksX6_count_3 15 rfl rfl)
theorem dX6_count_92 : decode cX6_count 92 = .ok (.getfield 7, 3) := dk_180 0 7 (dk_at dksX6_count_3 16 rfl rfl)
theorem dX6_count_95 : decode cX6_count 95 = .ok (.sipush 273, 3) := dk_17 1 17 (dk_at dksX6_count_3 19 rfl rfl)
theorem dX6_count_98 : decode cX6_count 98 = .ok (.iaload, 1) := dk_46 (dk_at dksX6_count_3 22 rfl rfl)
theorem dX6_count_99 : decode cX6_count 99 = .ok (.ireturn, 1) := dk_172 (dk_at dksX6_count_3 23 rfl rfl)
theorem dX6_count_100 : decode cX6_count 100 = .ok (.aload_n 0, 1) := dk_42 (dk_at dksX6_count_4 0 rfl rfl)
theorem dX6_count_101 : decode cX6_count 101 = .ok (.invokevirtual 328, 3) := dk_182 1 72 (dk_at dksX6_count_4 1 rfl rfl)
theorem dX6_count_104 : decode cX6_count 104 = .ok (.ireturn, 1) := dk_172 (dk_at dksX6_count_4 4 rfl rfl)
theorem dX6_count_105 : decode cX6_count 105 = .ok (.iconst (-1), 1) := dk_2 (dk_at dksX6_count_4 5 rfl rfl)
theorem dX6_count_106 : decode cX6_count 106 = .ok (.ireturn, 1) := dk_172 (dk_at dksX6_count_4 6 rfl rfl)
abbrev cX6_twos : ByteArray := prog_20_method_105_code
def yX6_twos : MethodName := ⟨RX6, "twos", "()I"⟩
def dkwX6_twos_1 : List UInt8 := [132, 2, 1, 167, 255, 235, 27, 5, 108, 172]
abbrev dktX6_twos_1 : List UInt8 := dkwX6_twos_1 ++ []
def dkwX6_twos_0 : List UInt8 := [3, 60, 3, 61, 28, 16, 16, 162, 0, 21, 27, 42, 180, 0, 22, 28, 46, 184, 1, 20, 96, 60]
abbrev dktX6_twos_0 : List UInt8 := dkwX6_twos_0 ++ dktX6_twos_1
theorem dksX6_twos_0 : cX6_twos.data.toList.drop 0 = dktX6_twos_0 := by decide +kernel
theorem dksX6_twos_1 : cX6_twos.data.toList.drop 22 = dktX6_twos_1 := dk_seg dksX6_twos_0 22 rfl rfl
theorem dX6_twos_0 : decode cX6_twos 0 = .ok (.iconst 0, 1) := dk_3 (dk_at dksX6_twos_0 0 rfl rfl)
theorem dX6_twos_1 : decode cX6_twos 1 = .ok (.istore_n 1, 1) := dk_60 (dk_at dksX6_twos_0 1 rfl rfl)
theorem dX6_twos_2 : decode cX6_twos 2 = .ok (.iconst 0, 1) := dk_3 (dk_at dksX6_twos_0 2 rfl rfl)
theorem dX6_twos_3 : decode cX6_twos 3 = .ok (.istore_n 2, 1) := dk_61 (dk_at dksX6_twos_0 3 rfl rfl)
theorem dX6_twos_4 : decode cX6_twos 4 = .ok (.iload_n 2, 1) := dk_28 (dk_at dksX6_twos_0 4 rfl rfl)
theorem dX6_twos_5 : decode cX6_twos 5 = .ok (.bipush 16, 2) := dk_16 16 (dk_at dksX6_twos_0 5 rfl rfl)
theorem dX6_twos_7 : decode cX6_twos 7 = .ok (.if_icmp .ge 21, 3) := dk_162 0 21 (dk_at dksX6_twos_0 7 rfl rfl)
theorem dX6_twos_10 : decode cX6_twos 10 = .ok (.iload_n 1, 1) := dk_27 (dk_at dksX6_twos_0 10 rfl rfl)
theorem dX6_twos_11 : decode cX6_twos 11 = .ok (.aload_n 0, 1) := dk_42 (dk_at dksX6_twos_0 11 rfl rfl)
theorem dX6_twos_12 : decode cX6_twos 12 = .ok (.getfield 22, 3) := dk_180 0 22 (dk_at dksX6_twos_0 12 rfl rfl)
theorem dX6_twos_15 : decode cX6_twos 15 = .ok (.iload_n 2, 1) := dk_28 (dk_at dksX6_twos_0 15 rfl rfl)
theorem dX6_twos_16 : decode cX6_twos 16 = .ok (.iaload, 1) := dk_46 (dk_at dksX6_twos_0 16 rfl rfl)
theorem dX6_twos_17 : decode cX6_twos 17 = .ok (.invokestatic 276, 3) := dk_184 1 20 (dk_at dksX6_twos_0 17 rfl rfl)
theorem dX6_twos_20 : decode cX6_twos 20 = .ok (.iadd, 1) := dk_96 (dk_at dksX6_twos_0 20 rfl rfl)
theorem dX6_twos_21 : decode cX6_twos 21 = .ok (.istore_n 1, 1) := dk_60 (dk_at dksX6_twos_0 21 rfl rfl)
theorem dX6_twos_22 : decode cX6_twos 22 = .ok (.iinc 2 1, 3) := dk_132 2 1 (dk_at dksX6_twos_1 0 rfl rfl)
theorem dX6_twos_25 : decode cX6_twos 25 = .ok (.goto (-21), 3) := dk_167 255 235 (dk_at dksX6_twos_1 3 rfl rfl)
theorem dX6_twos_28 : decode cX6_twos 28 = .ok (.iload_n 1, 1) := dk_27 (dk_at dksX6_twos_1 6 rfl rfl)
theorem dX6_twos_29 : decode cX6_twos 29 = .ok (.iconst 2, 1) := dk_5 (dk_at dksX6_twos_1 7 rfl rfl)
theorem dX6_twos_30 : decode cX6_twos 30 = .ok (.idiv, 1) := dk_108 (dk_at dksX6_twos_1 8 rfl rfl)
theorem dX6_twos_31 : decode cX6_twos 31 = .ok (.ireturn, 1) := dk_172 (dk_at dksX6_twos_1 9 rfl rfl)
abbrev cX6_favoursOfAll : ByteArray := prog_20_method_106_code
def yX6_favoursOfAll : MethodName := ⟨RX6, "favoursOfAll", "()I"⟩
def dkwX6_favoursOfAll_1 : List UInt8 := [27, 172]
abbrev dktX6_favoursOfAll_1 : List UInt8 := dkwX6_favoursOfAll_1 ++ []
def dkwX6_favoursOfAll_0 : List UInt8 := [3, 60, 3, 61, 28, 16, 16, 162, 0, 17, 27, 42, 28, 182, 1, 75, 96, 60, 132, 2, 1, 167, 255, 239]
abbrev dktX6_favoursOfAll_0 : List UInt8 := dkwX6_favoursOfAll_0 ++ dktX6_favoursOfAll_1
theorem dksX6_favoursOfAll_0 : cX6_favoursOfAll.data.toList.drop 0 = dktX6_favoursOfAll_0 := by decide +kernel
theorem dksX6_favoursOfAll_1 : cX6_favoursOfAll.data.toList.drop 24 = dktX6_favoursOfAll_1 := dk_seg dksX6_favoursOfAll_0 24 rfl rfl
theorem dX6_favoursOfAll_0 : decode cX6_favoursOfAll 0 = .ok (.iconst 0, 1) := dk_3 (dk_at dksX6_favoursOfAll_0 0 rfl rfl)
theorem dX6_favoursOfAll_1 : decode cX6_favoursOfAll 1 = .ok (.istore_n 1, 1) := dk_60 (dk_at dksX6_favoursOfAll_0 1 rfl rfl)
theorem dX6_favoursOfAll_2 : decode cX6_favoursOfAll 2 = .ok (.iconst 0, 1) := dk_3 (dk_at dksX6_favoursOfAll_0 2 rfl rfl)
theorem dX6_favoursOfAll_3 : decode cX6_favoursOfAll 3 = .ok (.istore_n 2, 1) := dk_61 (dk_at dksX6_favoursOfAll_0 3 rfl rfl)
theorem dX6_favoursOfAll_4 : decode cX6_favoursOfAll 4 = .ok (.iload_n 2, 1) := dk_28 (dk_at dksX6_favoursOfAll_0 4 rfl rfl)
theorem dX6_favoursOfAll_5 : decode cX6_favoursOfAll 5 = .ok (.bipush 16, 2) := dk_16 16 (dk_at dksX6_favoursOfAll_0 5 rfl rfl)
theorem dX6_favoursOfAll_7 : decode cX6_favoursOfAll 7 = .ok (.if_icmp .ge 17, 3) := dk_162 0 17 (dk_at dksX6_favoursOfAll_0 7 rfl rfl)
theorem dX6_favoursOfAll_10 : decode cX6_favoursOfAll 10 = .ok (.iload_n 1, 1) := dk_27 (dk_at dksX6_favoursOfAll_0 10 rfl rfl)
theorem dX6_favoursOfAll_11 : decode cX6_favoursOfAll 11 = .ok (.aload_n 0, 1) := dk_42 (dk_at dksX6_favoursOfAll_0 11 rfl rfl)
theorem dX6_favoursOfAll_12 : decode cX6_favoursOfAll 12 = .ok (.iload_n 2, 1) := dk_28 (dk_at dksX6_favoursOfAll_0 12 rfl rfl)
theorem dX6_favoursOfAll_13 : decode cX6_favoursOfAll 13 = .ok (.invokevirtual 331, 3) := dk_182 1 75 (dk_at dksX6_favoursOfAll_0 13 rfl rfl)
theorem dX6_favoursOfAll_16 : decode cX6_favoursOfAll 16 = .ok (.iadd, 1) := dk_96 (dk_at dksX6_favoursOfAll_0 16 rfl rfl)
theorem dX6_favoursOfAll_17 : decode cX6_favoursOfAll 17 = .ok (.istore_n 1, 1) := dk_60 (dk_at dksX6_favoursOfAll_0 17 rfl rfl)
theorem dX6_favoursOfAll_18 : decode cX6_favoursOfAll 18 = .ok (.iinc 2 1, 3) := dk_132 2 1 (dk_at dksX6_favoursOfAll_0 18 rfl rfl)
theorem dX6_favoursOfAll_21 : decode cX6_favoursOfAll 21 = .ok (.goto (-17), 3) := dk_167 255 239 (dk_at dksX6_favoursOfAll_0 21 rfl rfl)
theorem dX6_favoursOfAll_24 : decode cX6_favoursOfAll 24 = .ok (.iload_n 1, 1) := dk_27 (dk_at dksX6_favoursOfAll_1 0 rfl rfl)
theorem dX6_favoursOfAll_25 : decode cX6_favoursOfAll 25 = .ok (.ireturn, 1) := dk_172 (dk_at dksX6_favoursOfAll_1 1 rfl rfl)
theorem q107 : (Jvm.Cond.initialized "AnyKeyTownModel") ∈ lw_all := lw_g (lw_at lw_m1 7 rfl) rfl
theorem q1167 : (Jvm.Cond.instantiable "AnyKeyTownModel" (52 : Nat)) ∈ lw_all := lw_g (lw_at lw_m5 107 rfl) rfl
theorem q1169 : (Jvm.Cond.instanceMethod ({ cls := "AnyKeyTownModel", name := "<init>", desc := "()V" } : Jvm.MethodName)) ∈ lw_all := lw_g (lw_at lw_m5 109 rfl) rfl
theorem q1170 : (Jvm.Cond.code ({ cls := "AnyKeyTownModel", name := "<init>", desc := "()V" } : Jvm.MethodName) prog_20_method_1_code (1 : Nat) (Option.none : Option Jvm.ClassFile.FieldType)) ∈ lw_all := lw_g (lw_at lw_m5 110 rfl) rfl
theorem q1171 : (Jvm.Cond.methodLink "AnyKeyTownModel" (1 : Nat) ({ cls := "java/lang/Object", name := "<init>", desc := "()V" } : Jvm.MethodName)) ∈ lw_all := lw_g (lw_at lw_m5 111 rfl) rfl
theorem q1172 : (Jvm.Cond.constant "AnyKeyTownModel" (80 : Nat) (65536 : Int32)) ∈ lw_all := lw_g (lw_at lw_m5 112 rfl) rfl
theorem q1173 : (Jvm.Cond.fieldLink "AnyKeyTownModel" (7 : Nat) "AnyKeyTownModel" "now" "[I") ∈ lw_all := lw_g (lw_at lw_m5 113 rfl) rfl
theorem q1174 : (Jvm.Cond.fieldLink "AnyKeyTownModel" (13 : Nat) "AnyKeyTownModel" "aside" "[I") ∈ lw_all := lw_g (lw_at lw_m5 114 rfl) rfl
theorem q1175 : (Jvm.Cond.fieldLink "AnyKeyTownModel" (16 : Nat) "AnyKeyTownModel" "kept" "[I") ∈ lw_all := lw_g (lw_at lw_m5 115 rfl) rfl
theorem q1176 : (Jvm.Cond.fieldLink "AnyKeyTownModel" (19 : Nat) "AnyKeyTownModel" "houseOf" "[I") ∈ lw_all := lw_g (lw_at lw_m5 116 rfl) rfl
theorem q1177 : (Jvm.Cond.fieldLink "AnyKeyTownModel" (22 : Nat) "AnyKeyTownModel" "foesOf" "[I") ∈ lw_all := lw_g (lw_at lw_m5 117 rfl) rfl
theorem q1178 : (Jvm.Cond.fieldLink "AnyKeyTownModel" (25 : Nat) "AnyKeyTownModel" "wasHouse" "[I") ∈ lw_all := lw_g (lw_at lw_m5 118 rfl) rfl
theorem q1179 : (Jvm.Cond.fieldLink "AnyKeyTownModel" (28 : Nat) "AnyKeyTownModel" "wasFoes" "[I") ∈ lw_all := lw_g (lw_at lw_m5 119 rfl) rfl
theorem q1180 : (Jvm.Cond.fieldLink "AnyKeyTownModel" (108 : Nat) "AnyKeyTownModel" "toldSet" "I") ∈ lw_all := lw_g (lw_at lw_m5 120 rfl) rfl
theorem q1181 : (Jvm.Cond.fieldLink "AnyKeyTownModel" (227 : Nat) "AnyKeyTownModel" "lockSet" "I") ∈ lw_all := lw_g (lw_at lw_m5 121 rfl) rfl
theorem q1182 : (Jvm.Cond.fieldLink "AnyKeyTownModel" (246 : Nat) "AnyKeyTownModel" "wasTold" "I") ∈ lw_all := lw_g (lw_at lw_m5 122 rfl) rfl
theorem q1183 : (Jvm.Cond.fieldLink "AnyKeyTownModel" (249 : Nat) "AnyKeyTownModel" "wasLock" "I") ∈ lw_all := lw_g (lw_at lw_m5 123 rfl) rfl
theorem q1184 : (Jvm.Cond.fieldLink "AnyKeyTownModel" (31 : Nat) "AnyKeyTownModel" "tape" "[B") ∈ lw_all := lw_g (lw_at lw_m5 124 rfl) rfl
theorem q1185 : (Jvm.Cond.fieldLink "AnyKeyTownModel" (116 : Nat) "AnyKeyTownModel" "taped" "I") ∈ lw_all := lw_g (lw_at lw_m5 125 rfl) rfl
theorem q1186 : (Jvm.Cond.fieldLink "AnyKeyTownModel" (123 : Nat) "AnyKeyTownModel" "place0" "I") ∈ lw_all := lw_g (lw_at lw_m5 126 rfl) rfl
theorem q1187 : (Jvm.Cond.fieldLink "AnyKeyTownModel" (126 : Nat) "AnyKeyTownModel" "length0" "I") ∈ lw_all := lw_g (lw_at lw_m5 127 rfl) rfl
theorem q1188 : (Jvm.Cond.fieldLink "AnyKeyTownModel" (133 : Nat) "AnyKeyTownModel" "fault" "I") ∈ lw_all := lw_g (lw_at lw_m5 128 rfl) rfl
theorem q1189 : (Jvm.Cond.fieldLink "AnyKeyTownModel" (139 : Nat) "AnyKeyTownModel" "number0" "I") ∈ lw_all := lw_g (lw_at lw_m5 129 rfl) rfl
theorem q1190 : (Jvm.Cond.fieldLink "AnyKeyTownModel" (150 : Nat) "AnyKeyTownModel" "open" "I") ∈ lw_all := lw_g (lw_at lw_m5 130 rfl) rfl
theorem q1191 : (Jvm.Cond.fieldLink "AnyKeyTownModel" (146 : Nat) "AnyKeyTownModel" "codeMany" "I") ∈ lw_all := lw_g (lw_at lw_m5 131 rfl) rfl
theorem q1192 : (Jvm.Cond.fieldLink "AnyKeyTownModel" (153 : Nat) "AnyKeyTownModel" "waiting" "I") ∈ lw_all := lw_g (lw_at lw_m5 132 rfl) rfl
theorem q1193 : (Jvm.Cond.fieldLink "AnyKeyTownModel" (201 : Nat) "AnyKeyTownModel" "saidMany" "I") ∈ lw_all := lw_g (lw_at lw_m5 133 rfl) rfl
theorem q1194 : (Jvm.Cond.fieldLink "AnyKeyTownModel" (216 : Nat) "AnyKeyTownModel" "clauses" "I") ∈ lw_all := lw_g (lw_at lw_m5 134 rfl) rfl
theorem q1195 : (Jvm.Cond.fieldLink "AnyKeyTownModel" (35 : Nat) "AnyKeyTownModel" "said" "[I") ∈ lw_all := lw_g (lw_at lw_m5 135 rfl) rfl
theorem q1196 : (Jvm.Cond.fieldLink "AnyKeyTownModel" (38 : Nat) "AnyKeyTownModel" "waitsAt" "[I") ∈ lw_all := lw_g (lw_at lw_m5 136 rfl) rfl
theorem q1197 : (Jvm.Cond.fieldLink "AnyKeyTownModel" (41 : Nat) "AnyKeyTownModel" "saidLetter" "[I") ∈ lw_all := lw_g (lw_at lw_m5 137 rfl) rfl
theorem q1198 : (Jvm.Cond.fieldLink "AnyKeyTownModel" (44 : Nat) "AnyKeyTownModel" "saidFrom" "[I") ∈ lw_all := lw_g (lw_at lw_m5 138 rfl) rfl
theorem q1199 : (Jvm.Cond.fieldLink "AnyKeyTownModel" (47 : Nat) "AnyKeyTownModel" "saidHalf" "[I") ∈ lw_all := lw_g (lw_at lw_m5 139 rfl) rfl
theorem q1200 : (Jvm.Cond.fieldLink "AnyKeyTownModel" (50 : Nat) "AnyKeyTownModel" "saidTo" "[I") ∈ lw_all := lw_g (lw_at lw_m5 140 rfl) rfl
theorem q1201 : (Jvm.Cond.fieldLink "AnyKeyTownModel" (53 : Nat) "AnyKeyTownModel" "codes" "[I") ∈ lw_all := lw_g (lw_at lw_m5 141 rfl) rfl
theorem q1202 : (Jvm.Cond.fieldLink "AnyKeyTownModel" (56 : Nat) "AnyKeyTownModel" "clauseOf" "[I") ∈ lw_all := lw_g (lw_at lw_m5 142 rfl) rfl
theorem q1203 : (Jvm.Cond.fieldLink "AnyKeyTownModel" (59 : Nat) "AnyKeyTownModel" "codeFrom" "[I") ∈ lw_all := lw_g (lw_at lw_m5 143 rfl) rfl
theorem q1204 : (Jvm.Cond.fieldLink "AnyKeyTownModel" (62 : Nat) "AnyKeyTownModel" "codeHalf" "[I") ∈ lw_all := lw_g (lw_at lw_m5 144 rfl) rfl
theorem q1205 : (Jvm.Cond.fieldLink "AnyKeyTownModel" (65 : Nat) "AnyKeyTownModel" "codeTo" "[I") ∈ lw_all := lw_g (lw_at lw_m5 145 rfl) rfl
theorem q1206 : (Jvm.Cond.fieldLink "AnyKeyTownModel" (68 : Nat) "AnyKeyTownModel" "stack" "[I") ∈ lw_all := lw_g (lw_at lw_m5 146 rfl) rfl
theorem q1207 : (Jvm.Cond.fieldLink "AnyKeyTownModel" (71 : Nat) "AnyKeyTownModel" "facts" "[I") ∈ lw_all := lw_g (lw_at lw_m5 147 rfl) rfl
theorem q1208 : (Jvm.Cond.fieldLink "AnyKeyTownModel" (236 : Nat) "AnyKeyTownModel" "lines" "I") ∈ lw_all := lw_g (lw_at lw_m5 148 rfl) rfl
theorem q1209 : (Jvm.Cond.fieldLink "AnyKeyTownModel" (74 : Nat) "AnyKeyTownModel" "standsAt" "[I") ∈ lw_all := lw_g (lw_at lw_m5 149 rfl) rfl
theorem q1210 : (Jvm.Cond.fieldLink "AnyKeyTownModel" (261 : Nat) "AnyKeyTownModel" "inNow" "I") ∈ lw_all := lw_g (lw_at lw_m5 150 rfl) rfl
theorem q1211 : (Jvm.Cond.fieldLink "AnyKeyTownModel" (267 : Nat) "AnyKeyTownModel" "dancesNow" "I") ∈ lw_all := lw_g (lw_at lw_m5 151 rfl) rfl
theorem q1212 : (Jvm.Cond.fieldLink "AnyKeyTownModel" (264 : Nat) "AnyKeyTownModel" "stepsNow" "I") ∈ lw_all := lw_g (lw_at lw_m5 152 rfl) rfl
theorem q1213 : (Jvm.Cond.fieldLink "AnyKeyTownModel" (77 : Nat) "AnyKeyTownModel" "drawnBy" "[I") ∈ lw_all := lw_g (lw_at lw_m5 153 rfl) rfl
theorem q1214 : (Jvm.Cond.fieldLink "AnyKeyTownModel" (273 : Nat) "AnyKeyTownModel" "outNow" "I") ∈ lw_all := lw_g (lw_at lw_m5 154 rfl) rfl
theorem q1215 : (Jvm.Cond.fieldLink "AnyKeyTownModel" (288 : Nat) "AnyKeyTownModel" "opensNow" "I") ∈ lw_all := lw_g (lw_at lw_m5 155 rfl) rfl
theorem q1216 : (Jvm.Cond.fieldLink "AnyKeyTownModel" (312 : Nat) "AnyKeyTownModel" "letsNow" "I") ∈ lw_all := lw_g (lw_at lw_m5 156 rfl) rfl
theorem q1217 : (Jvm.Cond.fieldLink "AnyKeyTownModel" (300 : Nat) "AnyKeyTownModel" "bedNow" "I") ∈ lw_all := lw_g (lw_at lw_m5 157 rfl) rfl
theorem q1218 : (Jvm.Cond.fieldLink "AnyKeyTownModel" (81 : Nat) "AnyKeyTownModel" "waysOf" "[J") ∈ lw_all := lw_g (lw_at lw_m5 158 rfl) rfl
theorem q1219 : (Jvm.Cond.fieldLink "AnyKeyTownModel" (85 : Nat) "AnyKeyTownModel" "partyOf" "[I") ∈ lw_all := lw_g (lw_at lw_m5 159 rfl) rfl
theorem q1220 : (Jvm.Cond.fieldLink "AnyKeyTownModel" (88 : Nat) "AnyKeyTownModel" "endsOf" "[I") ∈ lw_all := lw_g (lw_at lw_m5 160 rfl) rfl
theorem q1221 : (Jvm.Cond.fieldLink "AnyKeyTownModel" (91 : Nat) "AnyKeyTownModel" "pairedBy" "[I") ∈ lw_all := lw_g (lw_at lw_m5 161 rfl) rfl
theorem q1222 : (Jvm.Cond.fieldLink "AnyKeyTownModel" (94 : Nat) "AnyKeyTownModel" "memberOf" "[I") ∈ lw_all := lw_g (lw_at lw_m5 162 rfl) rfl
theorem q1223 : (Jvm.Cond.fieldLink "AnyKeyTownModel" (97 : Nat) "AnyKeyTownModel" "minuteOf" "[I") ∈ lw_all := lw_g (lw_at lw_m5 163 rfl) rfl
theorem q1224 : (Jvm.Cond.fieldLink "AnyKeyTownModel" (399 : Nat) "AnyKeyTownModel" "isKept" "Z") ∈ lw_all := lw_g (lw_at lw_m5 164 rfl) rfl
theorem q1225 : (Jvm.Cond.laysFinal "AnyKeyTownModel" "AnyKeyTownModel" "now" "[I") ∈ lw_all := lw_g (lw_at lw_m5 165 rfl) rfl
theorem q1226 : (Jvm.Cond.soleField "AnyKeyTownModel" "now") ∈ lw_all := lw_g (lw_at lw_m5 166 rfl) rfl
theorem q1227 : (Jvm.Cond.laysFinal "AnyKeyTownModel" "AnyKeyTownModel" "aside" "[I") ∈ lw_all := lw_g (lw_at lw_m5 167 rfl) rfl
theorem q1228 : (Jvm.Cond.soleField "AnyKeyTownModel" "aside") ∈ lw_all := lw_g (lw_at lw_m5 168 rfl) rfl
theorem q1229 : (Jvm.Cond.laysFinal "AnyKeyTownModel" "AnyKeyTownModel" "kept" "[I") ∈ lw_all := lw_g (lw_at lw_m5 169 rfl) rfl
theorem q1230 : (Jvm.Cond.soleField "AnyKeyTownModel" "kept") ∈ lw_all := lw_g (lw_at lw_m5 170 rfl) rfl
theorem q1231 : (Jvm.Cond.laysFinal "AnyKeyTownModel" "AnyKeyTownModel" "houseOf" "[I") ∈ lw_all := lw_g (lw_at lw_m5 171 rfl) rfl
theorem q1232 : (Jvm.Cond.soleField "AnyKeyTownModel" "houseOf") ∈ lw_all := lw_g (lw_at lw_m5 172 rfl) rfl
theorem q1233 : (Jvm.Cond.laysFinal "AnyKeyTownModel" "AnyKeyTownModel" "foesOf" "[I") ∈ lw_all := lw_g (lw_at lw_m5 173 rfl) rfl
theorem q1234 : (Jvm.Cond.soleField "AnyKeyTownModel" "foesOf") ∈ lw_all := lw_g (lw_at lw_m5 174 rfl) rfl
theorem q1235 : (Jvm.Cond.laysFinal "AnyKeyTownModel" "AnyKeyTownModel" "wasHouse" "[I") ∈ lw_all := lw_g (lw_at lw_m5 175 rfl) rfl
theorem q1236 : (Jvm.Cond.soleField "AnyKeyTownModel" "wasHouse") ∈ lw_all := lw_g (lw_at lw_m5 176 rfl) rfl
theorem q1237 : (Jvm.Cond.laysFinal "AnyKeyTownModel" "AnyKeyTownModel" "wasFoes" "[I") ∈ lw_all := lw_g (lw_at lw_m5 177 rfl) rfl
theorem q1238 : (Jvm.Cond.soleField "AnyKeyTownModel" "wasFoes") ∈ lw_all := lw_g (lw_at lw_m5 178 rfl) rfl
theorem q1239 : (Jvm.Cond.lays "AnyKeyTownModel" "AnyKeyTownModel" "toldSet" "I") ∈ lw_all := lw_g (lw_at lw_m5 179 rfl) rfl
theorem q1240 : (Jvm.Cond.soleField "AnyKeyTownModel" "toldSet") ∈ lw_all := lw_g (lw_at lw_m5 180 rfl) rfl
theorem q1241 : (Jvm.Cond.lays "AnyKeyTownModel" "AnyKeyTownModel" "lockSet" "I") ∈ lw_all := lw_g (lw_at lw_m5 181 rfl) rfl
theorem q1242 : (Jvm.Cond.soleField "AnyKeyTownModel" "lockSet") ∈ lw_all := lw_g (lw_at lw_m5 182 rfl) rfl
theorem q1243 : (Jvm.Cond.lays "AnyKeyTownModel" "AnyKeyTownModel" "wasTold" "I") ∈ lw_all := lw_g (lw_at lw_m5 183 rfl) rfl
theorem q1244 : (Jvm.Cond.soleField "AnyKeyTownModel" "wasTold") ∈ lw_all := lw_g (lw_at lw_m5 184 rfl) rfl
theorem q1245 : (Jvm.Cond.lays "AnyKeyTownModel" "AnyKeyTownModel" "wasLock" "I") ∈ lw_all := lw_g (lw_at lw_m5 185 rfl) rfl
theorem q1246 : (Jvm.Cond.soleField "AnyKeyTownModel" "wasLock") ∈ lw_all := lw_g (lw_at lw_m5 186 rfl) rfl
theorem q1247 : (Jvm.Cond.laysFinal "AnyKeyTownModel" "AnyKeyTownModel" "tape" "[B") ∈ lw_all := lw_g (lw_at lw_m5 187 rfl) rfl
theorem q1248 : (Jvm.Cond.soleField "AnyKeyTownModel" "tape") ∈ lw_all := lw_g (lw_at lw_m5 188 rfl) rfl
theorem q1249 : (Jvm.Cond.lays "AnyKeyTownModel" "AnyKeyTownModel" "taped" "I") ∈ lw_all := lw_g (lw_at lw_m5 189 rfl) rfl
theorem q1250 : (Jvm.Cond.soleField "AnyKeyTownModel" "taped") ∈ lw_all := lw_g (lw_at lw_m5 190 rfl) rfl
theorem q1251 : (Jvm.Cond.lays "AnyKeyTownModel" "AnyKeyTownModel" "place0" "I") ∈ lw_all := lw_g (lw_at lw_m5 191 rfl) rfl
theorem q1252 : (Jvm.Cond.soleField "AnyKeyTownModel" "place0") ∈ lw_all := lw_g (lw_at lw_m5 192 rfl) rfl
theorem q1253 : (Jvm.Cond.lays "AnyKeyTownModel" "AnyKeyTownModel" "length0" "I") ∈ lw_all := lw_g (lw_at lw_m5 193 rfl) rfl
theorem q1254 : (Jvm.Cond.soleField "AnyKeyTownModel" "length0") ∈ lw_all := lw_g (lw_at lw_m5 194 rfl) rfl
theorem q1255 : (Jvm.Cond.lays "AnyKeyTownModel" "AnyKeyTownModel" "fault" "I") ∈ lw_all := lw_g (lw_at lw_m5 195 rfl) rfl
theorem q1256 : (Jvm.Cond.soleField "AnyKeyTownModel" "fault") ∈ lw_all := lw_g (lw_at lw_m5 196 rfl) rfl
theorem q1257 : (Jvm.Cond.lays "AnyKeyTownModel" "AnyKeyTownModel" "number0" "I") ∈ lw_all := lw_g (lw_at lw_m5 197 rfl) rfl
theorem q1258 : (Jvm.Cond.soleField "AnyKeyTownModel" "number0") ∈ lw_all := lw_g (lw_at lw_m5 198 rfl) rfl
theorem q1259 : (Jvm.Cond.lays "AnyKeyTownModel" "AnyKeyTownModel" "open" "I") ∈ lw_all := lw_g (lw_at lw_m5 199 rfl) rfl
theorem q1260 : (Jvm.Cond.soleField "AnyKeyTownModel" "open") ∈ lw_all := lw_g (lw_at lw_m5 200 rfl) rfl
theorem q1261 : (Jvm.Cond.lays "AnyKeyTownModel" "AnyKeyTownModel" "codeMany" "I") ∈ lw_all := lw_g (lw_at lw_m5 201 rfl) rfl
theorem q1262 : (Jvm.Cond.soleField "AnyKeyTownModel" "codeMany") ∈ lw_all := lw_g (lw_at lw_m5 202 rfl) rfl
theorem q1263 : (Jvm.Cond.lays "AnyKeyTownModel" "AnyKeyTownModel" "waiting" "I") ∈ lw_all := lw_g (lw_at lw_m5 203 rfl) rfl
theorem q1264 : (Jvm.Cond.soleField "AnyKeyTownModel" "waiting") ∈ lw_all := lw_g (lw_at lw_m5 204 rfl) rfl
theorem q1265 : (Jvm.Cond.lays "AnyKeyTownModel" "AnyKeyTownModel" "saidMany" "I") ∈ lw_all := lw_g (lw_at lw_m5 205 rfl) rfl
theorem q1266 : (Jvm.Cond.soleField "AnyKeyTownModel" "saidMany") ∈ lw_all := lw_g (lw_at lw_m5 206 rfl) rfl
theorem q1267 : (Jvm.Cond.lays "AnyKeyTownModel" "AnyKeyTownModel" "clauses" "I") ∈ lw_all := lw_g (lw_at lw_m5 207 rfl) rfl
theorem q1268 : (Jvm.Cond.soleField "AnyKeyTownModel" "clauses") ∈ lw_all := lw_g (lw_at lw_m5 208 rfl) rfl
theorem q1269 : (Jvm.Cond.laysFinal "AnyKeyTownModel" "AnyKeyTownModel" "said" "[I") ∈ lw_all := lw_g (lw_at lw_m5 209 rfl) rfl
theorem q1270 : (Jvm.Cond.soleField "AnyKeyTownModel" "said") ∈ lw_all := lw_g (lw_at lw_m5 210 rfl) rfl
theorem q1271 : (Jvm.Cond.laysFinal "AnyKeyTownModel" "AnyKeyTownModel" "waitsAt" "[I") ∈ lw_all := lw_g (lw_at lw_m5 211 rfl) rfl
theorem q1272 : (Jvm.Cond.soleField "AnyKeyTownModel" "waitsAt") ∈ lw_all := lw_g (lw_at lw_m5 212 rfl) rfl
theorem q1273 : (Jvm.Cond.laysFinal "AnyKeyTownModel" "AnyKeyTownModel" "saidLetter" "[I") ∈ lw_all := lw_g (lw_at lw_m5 213 rfl) rfl
theorem q1274 : (Jvm.Cond.soleField "AnyKeyTownModel" "saidLetter") ∈ lw_all := lw_g (lw_at lw_m5 214 rfl) rfl
theorem q1275 : (Jvm.Cond.laysFinal "AnyKeyTownModel" "AnyKeyTownModel" "saidFrom" "[I") ∈ lw_all := lw_g (lw_at lw_m5 215 rfl) rfl
theorem q1276 : (Jvm.Cond.soleField "AnyKeyTownModel" "saidFrom") ∈ lw_all := lw_g (lw_at lw_m5 216 rfl) rfl
theorem q1277 : (Jvm.Cond.laysFinal "AnyKeyTownModel" "AnyKeyTownModel" "saidHalf" "[I") ∈ lw_all := lw_g (lw_at lw_m5 217 rfl) rfl
theorem q1278 : (Jvm.Cond.soleField "AnyKeyTownModel" "saidHalf") ∈ lw_all := lw_g (lw_at lw_m5 218 rfl) rfl
theorem q1279 : (Jvm.Cond.laysFinal "AnyKeyTownModel" "AnyKeyTownModel" "saidTo" "[I") ∈ lw_all := lw_g (lw_at lw_m5 219 rfl) rfl
theorem q1280 : (Jvm.Cond.soleField "AnyKeyTownModel" "saidTo") ∈ lw_all := lw_g (lw_at lw_m5 220 rfl) rfl
theorem q1281 : (Jvm.Cond.laysFinal "AnyKeyTownModel" "AnyKeyTownModel" "codes" "[I") ∈ lw_all := lw_g (lw_at lw_m5 221 rfl) rfl
theorem q1282 : (Jvm.Cond.soleField "AnyKeyTownModel" "codes") ∈ lw_all := lw_g (lw_at lw_m5 222 rfl) rfl
theorem q1283 : (Jvm.Cond.laysFinal "AnyKeyTownModel" "AnyKeyTownModel" "clauseOf" "[I") ∈ lw_all := lw_g (lw_at lw_m5 223 rfl) rfl
theorem q1284 : (Jvm.Cond.soleField "AnyKeyTownModel" "clauseOf") ∈ lw_all := lw_g (lw_at lw_m5 224 rfl) rfl
theorem q1285 : (Jvm.Cond.laysFinal "AnyKeyTownModel" "AnyKeyTownModel" "codeFrom" "[I") ∈ lw_all := lw_g (lw_at lw_m5 225 rfl) rfl
theorem q1286 : (Jvm.Cond.soleField "AnyKeyTownModel" "codeFrom") ∈ lw_all := lw_g (lw_at lw_m5 226 rfl) rfl
theorem q1287 : (Jvm.Cond.laysFinal "AnyKeyTownModel" "AnyKeyTownModel" "codeHalf" "[I") ∈ lw_all := lw_g (lw_at lw_m5 227 rfl) rfl
theorem q1288 : (Jvm.Cond.soleField "AnyKeyTownModel" "codeHalf") ∈ lw_all := lw_g (lw_at lw_m5 228 rfl) rfl
theorem q1289 : (Jvm.Cond.laysFinal "AnyKeyTownModel" "AnyKeyTownModel" "codeTo" "[I") ∈ lw_all := lw_g (lw_at lw_m5 229 rfl) rfl
theorem q1290 : (Jvm.Cond.soleField "AnyKeyTownModel" "codeTo") ∈ lw_all := lw_g (lw_at lw_m5 230 rfl) rfl
theorem q1291 : (Jvm.Cond.laysFinal "AnyKeyTownModel" "AnyKeyTownModel" "stack" "[I") ∈ lw_all := lw_g (lw_at lw_m5 231 rfl) rfl
theorem q1292 : (Jvm.Cond.soleField "AnyKeyTownModel" "stack") ∈ lw_all := lw_g (lw_at lw_m5 232 rfl) rfl
theorem q1293 : (Jvm.Cond.laysFinal "AnyKeyTownModel" "AnyKeyTownModel" "facts" "[I") ∈ lw_all := lw_g (lw_at lw_m5 233 rfl) rfl
theorem q1294 : (Jvm.Cond.soleField "AnyKeyTownModel" "facts") ∈ lw_all := lw_g (lw_at lw_m5 234 rfl) rfl
theorem q1295 : (Jvm.Cond.lays "AnyKeyTownModel" "AnyKeyTownModel" "lines" "I") ∈ lw_all := lw_g (lw_at lw_m5 235 rfl) rfl
theorem q1296 : (Jvm.Cond.soleField "AnyKeyTownModel" "lines") ∈ lw_all := lw_g (lw_at lw_m5 236 rfl) rfl
theorem q1297 : (Jvm.Cond.laysFinal "AnyKeyTownModel" "AnyKeyTownModel" "standsAt" "[I") ∈ lw_all := lw_g (lw_at lw_m5 237 rfl) rfl
theorem q1298 : (Jvm.Cond.soleField "AnyKeyTownModel" "standsAt") ∈ lw_all := lw_g (lw_at lw_m5 238 rfl) rfl
theorem q1299 : (Jvm.Cond.lays "AnyKeyTownModel" "AnyKeyTownModel" "inNow" "I") ∈ lw_all := lw_g (lw_at lw_m5 239 rfl) rfl
theorem q1300 : (Jvm.Cond.soleField "AnyKeyTownModel" "inNow") ∈ lw_all := lw_g (lw_at lw_m6 0 rfl) rfl
theorem q1301 : (Jvm.Cond.lays "AnyKeyTownModel" "AnyKeyTownModel" "dancesNow" "I") ∈ lw_all := lw_g (lw_at lw_m6 1 rfl) rfl
theorem q1302 : (Jvm.Cond.soleField "AnyKeyTownModel" "dancesNow") ∈ lw_all := lw_g (lw_at lw_m6 2 rfl) rfl
theorem q1303 : (Jvm.Cond.lays "AnyKeyTownModel" "AnyKeyTownModel" "stepsNow" "I") ∈ lw_all := lw_g (lw_at lw_m6 3 rfl) rfl
theorem q1304 : (Jvm.Cond.soleField "AnyKeyTownModel" "stepsNow") ∈ lw_all := lw_g (lw_at lw_m6 4 rfl) rfl
theorem q1305 : (Jvm.Cond.laysFinal "AnyKeyTownModel" "AnyKeyTownModel" "drawnBy" "[I") ∈ lw_all := lw_g (lw_at lw_m6 5 rfl) rfl
theorem q1306 : (Jvm.Cond.soleField "AnyKeyTownModel" "drawnBy") ∈ lw_all := lw_g (lw_at lw_m6 6 rfl) rfl
theorem q1307 : (Jvm.Cond.lays "AnyKeyTownModel" "AnyKeyTownModel" "outNow" "I") ∈ lw_all := lw_g (lw_at lw_m6 7 rfl) rfl
theorem q1308 : (Jvm.Cond.soleField "AnyKeyTownModel" "outNow") ∈ lw_all := lw_g (lw_at lw_m6 8 rfl) rfl
theorem q1309 : (Jvm.Cond.lays "AnyKeyTownModel" "AnyKeyTownModel" "opensNow" "I") ∈ lw_all := lw_g (lw_at lw_m6 9 rfl) rfl
theorem q1310 : (Jvm.Cond.soleField "AnyKeyTownModel" "opensNow") ∈ lw_all := lw_g (lw_at lw_m6 10 rfl) rfl
theorem q1311 : (Jvm.Cond.lays "AnyKeyTownModel" "AnyKeyTownModel" "letsNow" "I") ∈ lw_all := lw_g (lw_at lw_m6 11 rfl) rfl
theorem q1312 : (Jvm.Cond.soleField "AnyKeyTownModel" "letsNow") ∈ lw_all := lw_g (lw_at lw_m6 12 rfl) rfl
theorem q1313 : (Jvm.Cond.lays "AnyKeyTownModel" "AnyKeyTownModel" "bedNow" "I") ∈ lw_all := lw_g (lw_at lw_m6 13 rfl) rfl
theorem q1314 : (Jvm.Cond.soleField "AnyKeyTownModel" "bedNow") ∈ lw_all := lw_g (lw_at lw_m6 14 rfl) rfl
theorem q1315 : (Jvm.Cond.laysFinal "AnyKeyTownModel" "AnyKeyTownModel" "waysOf" "[J") ∈ lw_all := lw_g (lw_at lw_m6 15 rfl) rfl
theorem q1316 : (Jvm.Cond.soleField "AnyKeyTownModel" "waysOf") ∈ lw_all := lw_g (lw_at lw_m6 16 rfl) rfl
theorem q1317 : (Jvm.Cond.laysFinal "AnyKeyTownModel" "AnyKeyTownModel" "partyOf" "[I") ∈ lw_all := lw_g (lw_at lw_m6 17 rfl) rfl
theorem q1318 : (Jvm.Cond.soleField "AnyKeyTownModel" "partyOf") ∈ lw_all := lw_g (lw_at lw_m6 18 rfl) rfl
theorem q1319 : (Jvm.Cond.laysFinal "AnyKeyTownModel" "AnyKeyTownModel" "endsOf" "[I") ∈ lw_all := lw_g (lw_at lw_m6 19 rfl) rfl
theorem q1320 : (Jvm.Cond.soleField "AnyKeyTownModel" "endsOf") ∈ lw_all := lw_g (lw_at lw_m6 20 rfl) rfl
theorem q1321 : (Jvm.Cond.laysFinal "AnyKeyTownModel" "AnyKeyTownModel" "pairedBy" "[I") ∈ lw_all := lw_g (lw_at lw_m6 21 rfl) rfl
theorem q1322 : (Jvm.Cond.soleField "AnyKeyTownModel" "pairedBy") ∈ lw_all := lw_g (lw_at lw_m6 22 rfl) rfl
theorem q1323 : (Jvm.Cond.laysFinal "AnyKeyTownModel" "AnyKeyTownModel" "memberOf" "[I") ∈ lw_all := lw_g (lw_at lw_m6 23 rfl) rfl
theorem q1324 : (Jvm.Cond.soleField "AnyKeyTownModel" "memberOf") ∈ lw_all := lw_g (lw_at lw_m6 24 rfl) rfl
theorem q1325 : (Jvm.Cond.laysFinal "AnyKeyTownModel" "AnyKeyTownModel" "minuteOf" "[I") ∈ lw_all := lw_g (lw_at lw_m6 25 rfl) rfl
theorem q1326 : (Jvm.Cond.soleField "AnyKeyTownModel" "minuteOf") ∈ lw_all := lw_g (lw_at lw_m6 26 rfl) rfl
theorem q1327 : (Jvm.Cond.lays "AnyKeyTownModel" "AnyKeyTownModel" "isKept" "Z") ∈ lw_all := lw_g (lw_at lw_m6 27 rfl) rfl
theorem q1328 : (Jvm.Cond.soleField "AnyKeyTownModel" "isKept") ∈ lw_all := lw_g (lw_at lw_m6 28 rfl) rfl
theorem q1329 : (Jvm.Cond.superclass "AnyKeyTownModel" "java/lang/Object") ∈ lw_all := lw_g (lw_at lw_m6 29 rfl) rfl
theorem q1331 : (Jvm.Cond.instanceMethod ({ cls := "AnyKeyTownModel", name := "feed", desc := "(IIIII)I" } : Jvm.MethodName)) ∈ lw_all := lw_g (lw_at lw_m6 31 rfl) rfl
theorem q1332 : (Jvm.Cond.selects "AnyKeyTownModel" ({ cls := "AnyKeyTownModel", name := "feed", desc := "(IIIII)I" } : Jvm.MethodName) ({ cls := "AnyKeyTownModel", name := "feed", desc := "(IIIII)I" } : Jvm.MethodName)) ∈ lw_all := lw_g (lw_at lw_m6 32 rfl) rfl
theorem q1333 : (Jvm.Cond.code ({ cls := "AnyKeyTownModel", name := "feed", desc := "(IIIII)I" } : Jvm.MethodName) prog_20_method_15_code (6 : Nat) (Option.some Jvm.ClassFile.FieldType.int)) ∈ lw_all := lw_g (lw_at lw_m6 33 rfl) rfl
theorem q1334 : (Jvm.Cond.methodLink "AnyKeyTownModel" (119 : Nat) ({ cls := "AnyKeyTownModel", name := "types", desc := "(I)V" } : Jvm.MethodName)) ∈ lw_all := lw_g (lw_at lw_m6 34 rfl) rfl
theorem q1335 : (Jvm.Cond.privateMethod ({ cls := "AnyKeyTownModel", name := "types", desc := "(I)V" } : Jvm.MethodName)) ∈ lw_tbl := lw_at lw_m6 35 rfl
theorem q1336 : (Jvm.Cond.instanceMethod ({ cls := "AnyKeyTownModel", name := "types", desc := "(I)V" } : Jvm.MethodName)) ∈ lw_all := lw_g (lw_at lw_m6 36 rfl) rfl
theorem q1337 : (Jvm.Cond.code ({ cls := "AnyKeyTownModel", name := "types", desc := "(I)V" } : Jvm.MethodName) prog_20_method_14_code (3 : Nat) (Option.none : Option Jvm.ClassFile.FieldType)) ∈ lw_all := lw_g (lw_at lw_m6 37 rfl) rfl
theorem q1339 : (Jvm.Cond.instanceMethod ({ cls := "AnyKeyTownModel", name := "law", desc := "(I)I" } : Jvm.MethodName)) ∈ lw_all := lw_g (lw_at lw_m6 39 rfl) rfl
theorem q1340 : (Jvm.Cond.selects "AnyKeyTownModel" ({ cls := "AnyKeyTownModel", name := "law", desc := "(I)I" } : Jvm.MethodName) ({ cls := "AnyKeyTownModel", name := "law", desc := "(I)I" } : Jvm.MethodName)) ∈ lw_all := lw_g (lw_at lw_m6 40 rfl) rfl
theorem q1341 : (Jvm.Cond.code ({ cls := "AnyKeyTownModel", name := "law", desc := "(I)I" } : Jvm.MethodName) prog_20_method_38_code (4 : Nat) (Option.some Jvm.ClassFile.FieldType.int)) ∈ lw_all := lw_g (lw_at lw_m6 41 rfl) rfl
theorem q1342 : (Jvm.Cond.methodLink "AnyKeyTownModel" (104 : Nat) ({ cls := "AnyKeyTownModel", name := "in", desc := "(III)Z" } : Jvm.MethodName)) ∈ lw_all := lw_g (lw_at lw_m6 42 rfl) rfl
theorem q1343 : (Jvm.Cond.static ({ cls := "AnyKeyTownModel", name := "in", desc := "(III)Z" } : Jvm.MethodName)) ∈ lw_all := lw_g (lw_at lw_m6 43 rfl) rfl
theorem q1344 : (Jvm.Cond.code ({ cls := "AnyKeyTownModel", name := "in", desc := "(III)Z" } : Jvm.MethodName) prog_20_method_2_code (3 : Nat) (Option.some Jvm.ClassFile.FieldType.boolean)) ∈ lw_all := lw_g (lw_at lw_m6 44 rfl) rfl
theorem q1345 : (Jvm.Cond.methodLink "AnyKeyTownModel" (207 : Nat) ({ cls := "AnyKeyTownModel", name := "beginsText", desc := "(I)V" } : Jvm.MethodName)) ∈ lw_all := lw_g (lw_at lw_m6 45 rfl) rfl
theorem q1346 : (Jvm.Cond.privateMethod ({ cls := "AnyKeyTownModel", name := "beginsText", desc := "(I)V" } : Jvm.MethodName)) ∈ lw_tbl := lw_at lw_m6 46 rfl
theorem q1347 : (Jvm.Cond.instanceMethod ({ cls := "AnyKeyTownModel", name := "beginsText", desc := "(I)V" } : Jvm.MethodName)) ∈ lw_all := lw_g (lw_at lw_m6 47 rfl) rfl
theorem q1348 : (Jvm.Cond.code ({ cls := "AnyKeyTownModel", name := "beginsText", desc := "(I)V" } : Jvm.MethodName) prog_20_method_37_code (2 : Nat) (Option.none : Option Jvm.ClassFile.FieldType)) ∈ lw_all := lw_g (lw_at lw_m6 48 rfl) rfl
theorem q1349 : (Jvm.Cond.methodLink "AnyKeyTownModel" (210 : Nat) ({ cls := "AnyKeyTownModel", name := "readsRule", desc := "()Z" } : Jvm.MethodName)) ∈ lw_all := lw_g (lw_at lw_m6 49 rfl) rfl
theorem q1350 : (Jvm.Cond.privateMethod ({ cls := "AnyKeyTownModel", name := "readsRule", desc := "()Z" } : Jvm.MethodName)) ∈ lw_tbl := lw_at lw_m6 50 rfl
theorem q1351 : (Jvm.Cond.instanceMethod ({ cls := "AnyKeyTownModel", name := "readsRule", desc := "()Z" } : Jvm.MethodName)) ∈ lw_all := lw_g (lw_at lw_m6 51 rfl) rfl
theorem q1352 : (Jvm.Cond.code ({ cls := "AnyKeyTownModel", name := "readsRule", desc := "()Z" } : Jvm.MethodName) prog_20_method_36_code (2 : Nat) (Option.some Jvm.ClassFile.FieldType.boolean)) ∈ lw_all := lw_g (lw_at lw_m6 52 rfl) rfl
theorem q1353 : (Jvm.Cond.methodLink "AnyKeyTownModel" (129 : Nat) ({ cls := "AnyKeyTownModel", name := "here", desc := "()I" } : Jvm.MethodName)) ∈ lw_all := lw_g (lw_at lw_m6 53 rfl) rfl
theorem q1354 : (Jvm.Cond.privateMethod ({ cls := "AnyKeyTownModel", name := "here", desc := "()I" } : Jvm.MethodName)) ∈ lw_tbl := lw_at lw_m6 54 rfl
theorem q1355 : (Jvm.Cond.instanceMethod ({ cls := "AnyKeyTownModel", name := "here", desc := "()I" } : Jvm.MethodName)) ∈ lw_all := lw_g (lw_at lw_m6 55 rfl) rfl
theorem q1356 : (Jvm.Cond.code ({ cls := "AnyKeyTownModel", name := "here", desc := "()I" } : Jvm.MethodName) prog_20_method_17_code (1 : Nat) (Option.some Jvm.ClassFile.FieldType.int)) ∈ lw_all := lw_g (lw_at lw_m6 56 rfl) rfl
theorem q1357 : (Jvm.Cond.methodLink "AnyKeyTownModel" (136 : Nat) ({ cls := "AnyKeyTownModel", name := "wrongAt", desc := "(II)Z" } : Jvm.MethodName)) ∈ lw_all := lw_g (lw_at lw_m6 57 rfl) rfl
theorem q1358 : (Jvm.Cond.privateMethod ({ cls := "AnyKeyTownModel", name := "wrongAt", desc := "(II)Z" } : Jvm.MethodName)) ∈ lw_tbl := lw_at lw_m6 58 rfl
theorem q1359 : (Jvm.Cond.instanceMethod ({ cls := "AnyKeyTownModel", name := "wrongAt", desc := "(II)Z" } : Jvm.MethodName)) ∈ lw_all := lw_g (lw_at lw_m6 59 rfl) rfl
theorem q1360 : (Jvm.Cond.code ({ cls := "AnyKeyTownModel", name := "wrongAt", desc := "(II)Z" } : Jvm.MethodName) prog_20_method_19_code (3 : Nat) (Option.some Jvm.ClassFile.FieldType.boolean)) ∈ lw_all := lw_g (lw_at lw_m6 60 rfl) rfl
theorem q1361 : (Jvm.Cond.methodLink "AnyKeyTownModel" (186 : Nat) ({ cls := "AnyKeyTownModel", name := "readsSum", desc := "()Z" } : Jvm.MethodName)) ∈ lw_all := lw_g (lw_at lw_m6 61 rfl) rfl
theorem q1362 : (Jvm.Cond.privateMethod ({ cls := "AnyKeyTownModel", name := "readsSum", desc := "()Z" } : Jvm.MethodName)) ∈ lw_tbl := lw_at lw_m6 62 rfl
theorem q1363 : (Jvm.Cond.instanceMethod ({ cls := "AnyKeyTownModel", name := "readsSum", desc := "()Z" } : Jvm.MethodName)) ∈ lw_all := lw_g (lw_at lw_m6 63 rfl) rfl
theorem q1364 : (Jvm.Cond.code ({ cls := "AnyKeyTownModel", name := "readsSum", desc := "()Z" } : Jvm.MethodName) prog_20_method_30_code (3 : Nat) (Option.some Jvm.ClassFile.FieldType.boolean)) ∈ lw_all := lw_g (lw_at lw_m6 64 rfl) rfl
theorem q1365 : (Jvm.Cond.methodLink "AnyKeyTownModel" (173 : Nat) ({ cls := "AnyKeyTownModel", name := "readsFactor", desc := "()Z" } : Jvm.MethodName)) ∈ lw_all := lw_g (lw_at lw_m6 65 rfl) rfl
theorem q1366 : (Jvm.Cond.privateMethod ({ cls := "AnyKeyTownModel", name := "readsFactor", desc := "()Z" } : Jvm.MethodName)) ∈ lw_tbl := lw_at lw_m6 66 rfl
theorem q1367 : (Jvm.Cond.instanceMethod ({ cls := "AnyKeyTownModel", name := "readsFactor", desc := "()Z" } : Jvm.MethodName)) ∈ lw_all := lw_g (lw_at lw_m6 67 rfl) rfl
theorem q1368 : (Jvm.Cond.code ({ cls := "AnyKeyTownModel", name := "readsFactor", desc := "()Z" } : Jvm.MethodName) prog_20_method_28_code (2 : Nat) (Option.some Jvm.ClassFile.FieldType.boolean)) ∈ lw_all := lw_g (lw_at lw_m6 68 rfl) rfl
theorem q1369 : (Jvm.Cond.methodLink "AnyKeyTownModel" (163 : Nat) ({ cls := "AnyKeyTownModel", name := "opens", desc := "(I)Z" } : Jvm.MethodName)) ∈ lw_all := lw_g (lw_at lw_m6 69 rfl) rfl
theorem q1370 : (Jvm.Cond.privateMethod ({ cls := "AnyKeyTownModel", name := "opens", desc := "(I)Z" } : Jvm.MethodName)) ∈ lw_tbl := lw_at lw_m6 70 rfl
theorem q1371 : (Jvm.Cond.instanceMethod ({ cls := "AnyKeyTownModel", name := "opens", desc := "(I)Z" } : Jvm.MethodName)) ∈ lw_all := lw_g (lw_at lw_m6 71 rfl) rfl
theorem q1372 : (Jvm.Cond.code ({ cls := "AnyKeyTownModel", name := "opens", desc := "(I)Z" } : Jvm.MethodName) prog_20_method_23_code (2 : Nat) (Option.some Jvm.ClassFile.FieldType.boolean)) ∈ lw_all := lw_g (lw_at lw_m6 72 rfl) rfl
theorem q1373 : (Jvm.Cond.constant "AnyKeyTownModel" (149 : Nat) (1048576 : Int32)) ∈ lw_all := lw_g (lw_at lw_m6 73 rfl) rfl
theorem q1374 : (Jvm.Cond.methodLink "AnyKeyTownModel" (142 : Nat) ({ cls := "AnyKeyTownModel", name := "isDigit", desc := "()Z" } : Jvm.MethodName)) ∈ lw_all := lw_g (lw_at lw_m6 74 rfl) rfl
theorem q1375 : (Jvm.Cond.privateMethod ({ cls := "AnyKeyTownModel", name := "isDigit", desc := "()Z" } : Jvm.MethodName)) ∈ lw_tbl := lw_at lw_m6 75 rfl
theorem q1376 : (Jvm.Cond.instanceMethod ({ cls := "AnyKeyTownModel", name := "isDigit", desc := "()Z" } : Jvm.MethodName)) ∈ lw_all := lw_g (lw_at lw_m6 76 rfl) rfl
theorem q1377 : (Jvm.Cond.code ({ cls := "AnyKeyTownModel", name := "isDigit", desc := "()Z" } : Jvm.MethodName) prog_20_method_18_code (1 : Nat) (Option.some Jvm.ClassFile.FieldType.boolean)) ∈ lw_all := lw_g (lw_at lw_m6 77 rfl) rfl
theorem q1378 : (Jvm.Cond.methodLink "AnyKeyTownModel" (167 : Nat) ({ cls := "AnyKeyTownModel", name := "readsNumber", desc := "()Z" } : Jvm.MethodName)) ∈ lw_all := lw_g (lw_at lw_m6 78 rfl) rfl
theorem q1379 : (Jvm.Cond.privateMethod ({ cls := "AnyKeyTownModel", name := "readsNumber", desc := "()Z" } : Jvm.MethodName)) ∈ lw_tbl := lw_at lw_m6 79 rfl
theorem q1380 : (Jvm.Cond.instanceMethod ({ cls := "AnyKeyTownModel", name := "readsNumber", desc := "()Z" } : Jvm.MethodName)) ∈ lw_all := lw_g (lw_at lw_m6 80 rfl) rfl
theorem q1381 : (Jvm.Cond.code ({ cls := "AnyKeyTownModel", name := "readsNumber", desc := "()Z" } : Jvm.MethodName) prog_20_method_21_code (2 : Nat) (Option.some Jvm.ClassFile.FieldType.boolean)) ∈ lw_all := lw_g (lw_at lw_m6 81 rfl) rfl
theorem q1382 : (Jvm.Cond.methodLink "AnyKeyTownModel" (159 : Nat) ({ cls := "AnyKeyTownModel", name := "notes", desc := "(II)V" } : Jvm.MethodName)) ∈ lw_all := lw_g (lw_at lw_m6 82 rfl) rfl
theorem q1383 : (Jvm.Cond.privateMethod ({ cls := "AnyKeyTownModel", name := "notes", desc := "(II)V" } : Jvm.MethodName)) ∈ lw_tbl := lw_at lw_m6 83 rfl
theorem q1384 : (Jvm.Cond.instanceMethod ({ cls := "AnyKeyTownModel", name := "notes", desc := "(II)V" } : Jvm.MethodName)) ∈ lw_all := lw_g (lw_at lw_m6 84 rfl) rfl
theorem q1385 : (Jvm.Cond.code ({ cls := "AnyKeyTownModel", name := "notes", desc := "(II)V" } : Jvm.MethodName) prog_20_method_22_code (3 : Nat) (Option.none : Option Jvm.ClassFile.FieldType)) ∈ lw_all := lw_g (lw_at lw_m6 85 rfl) rfl
theorem q1386 : (Jvm.Cond.methodLink "AnyKeyTownModel" (170 : Nat) ({ cls := "AnyKeyTownModel", name := "factOf", desc := "(I)I" } : Jvm.MethodName)) ∈ lw_all := lw_g (lw_at lw_m6 86 rfl) rfl
theorem q1387 : (Jvm.Cond.static ({ cls := "AnyKeyTownModel", name := "factOf", desc := "(I)I" } : Jvm.MethodName)) ∈ lw_all := lw_g (lw_at lw_m6 87 rfl) rfl
theorem q1388 : (Jvm.Cond.code ({ cls := "AnyKeyTownModel", name := "factOf", desc := "(I)I" } : Jvm.MethodName) prog_20_method_25_code (1 : Nat) (Option.some Jvm.ClassFile.FieldType.int)) ∈ lw_all := lw_g (lw_at lw_m6 88 rfl) rfl
theorem q1389 : (Jvm.Cond.methodLink "AnyKeyTownModel" (176 : Nat) ({ cls := "AnyKeyTownModel", name := "sumSign", desc := "(I)I" } : Jvm.MethodName)) ∈ lw_all := lw_g (lw_at lw_m6 89 rfl) rfl
theorem q1390 : (Jvm.Cond.static ({ cls := "AnyKeyTownModel", name := "sumSign", desc := "(I)I" } : Jvm.MethodName)) ∈ lw_all := lw_g (lw_at lw_m6 90 rfl) rfl
theorem q1391 : (Jvm.Cond.code ({ cls := "AnyKeyTownModel", name := "sumSign", desc := "(I)I" } : Jvm.MethodName) prog_20_method_26_code (1 : Nat) (Option.some Jvm.ClassFile.FieldType.int)) ∈ lw_all := lw_g (lw_at lw_m6 91 rfl) rfl
theorem q1392 : (Jvm.Cond.methodLink "AnyKeyTownModel" (179 : Nat) ({ cls := "AnyKeyTownModel", name := "closesSums", desc := "(Z)V" } : Jvm.MethodName)) ∈ lw_all := lw_g (lw_at lw_m6 92 rfl) rfl
theorem q1393 : (Jvm.Cond.privateMethod ({ cls := "AnyKeyTownModel", name := "closesSums", desc := "(Z)V" } : Jvm.MethodName)) ∈ lw_tbl := lw_at lw_m6 93 rfl
theorem q1394 : (Jvm.Cond.instanceMethod ({ cls := "AnyKeyTownModel", name := "closesSums", desc := "(Z)V" } : Jvm.MethodName)) ∈ lw_all := lw_g (lw_at lw_m6 94 rfl) rfl
theorem q1395 : (Jvm.Cond.code ({ cls := "AnyKeyTownModel", name := "closesSums", desc := "(Z)V" } : Jvm.MethodName) prog_20_method_27_code (2 : Nat) (Option.none : Option Jvm.ClassFile.FieldType)) ∈ lw_all := lw_g (lw_at lw_m6 95 rfl) rfl
theorem q1396 : (Jvm.Cond.methodLink "AnyKeyTownModel" (156 : Nat) ({ cls := "AnyKeyTownModel", name := "waitTop", desc := "()I" } : Jvm.MethodName)) ∈ lw_all := lw_g (lw_at lw_m6 96 rfl) rfl
theorem q1397 : (Jvm.Cond.privateMethod ({ cls := "AnyKeyTownModel", name := "waitTop", desc := "()I" } : Jvm.MethodName)) ∈ lw_tbl := lw_at lw_m6 97 rfl
theorem q1398 : (Jvm.Cond.instanceMethod ({ cls := "AnyKeyTownModel", name := "waitTop", desc := "()I" } : Jvm.MethodName)) ∈ lw_all := lw_g (lw_at lw_m6 98 rfl) rfl
theorem q1399 : (Jvm.Cond.code ({ cls := "AnyKeyTownModel", name := "waitTop", desc := "()I" } : Jvm.MethodName) prog_20_method_24_code (1 : Nat) (Option.some Jvm.ClassFile.FieldType.int)) ∈ lw_all := lw_g (lw_at lw_m6 99 rfl) rfl
theorem q1400 : (Jvm.Cond.methodLink "AnyKeyTownModel" (183 : Nat) ({ cls := "AnyKeyTownModel", name := "hasOpenSum", desc := "(I)Z" } : Jvm.MethodName)) ∈ lw_all := lw_g (lw_at lw_m6 100 rfl) rfl
theorem q1401 : (Jvm.Cond.privateMethod ({ cls := "AnyKeyTownModel", name := "hasOpenSum", desc := "(I)Z" } : Jvm.MethodName)) ∈ lw_tbl := lw_at lw_m6 101 rfl
theorem q1402 : (Jvm.Cond.instanceMethod ({ cls := "AnyKeyTownModel", name := "hasOpenSum", desc := "(I)Z" } : Jvm.MethodName)) ∈ lw_all := lw_g (lw_at lw_m6 102 rfl) rfl
theorem q1403 : (Jvm.Cond.code ({ cls := "AnyKeyTownModel", name := "hasOpenSum", desc := "(I)Z" } : Jvm.MethodName) prog_20_method_29_code (3 : Nat) (Option.some Jvm.ClassFile.FieldType.boolean)) ∈ lw_all := lw_g (lw_at lw_m6 103 rfl) rfl
theorem q1404 : (Jvm.Cond.methodLink "AnyKeyTownModel" (204 : Nat) ({ cls := "AnyKeyTownModel", name := "readsCondition", desc := "()Z" } : Jvm.MethodName)) ∈ lw_all := lw_g (lw_at lw_m6 104 rfl) rfl
theorem q1405 : (Jvm.Cond.privateMethod ({ cls := "AnyKeyTownModel", name := "readsCondition", desc := "()Z" } : Jvm.MethodName)) ∈ lw_tbl := lw_at lw_m6 105 rfl
theorem q1406 : (Jvm.Cond.instanceMethod ({ cls := "AnyKeyTownModel", name := "readsCondition", desc := "()Z" } : Jvm.MethodName)) ∈ lw_all := lw_g (lw_at lw_m6 106 rfl) rfl
theorem q1407 : (Jvm.Cond.code ({ cls := "AnyKeyTownModel", name := "readsCondition", desc := "()Z" } : Jvm.MethodName) prog_20_method_35_code (1 : Nat) (Option.some Jvm.ClassFile.FieldType.boolean)) ∈ lw_all := lw_g (lw_at lw_m6 107 rfl) rfl
theorem q1408 : (Jvm.Cond.methodLink "AnyKeyTownModel" (192 : Nat) ({ cls := "AnyKeyTownModel", name := "readsCompared", desc := "()Z" } : Jvm.MethodName)) ∈ lw_all := lw_g (lw_at lw_m6 108 rfl) rfl
theorem q1409 : (Jvm.Cond.privateMethod ({ cls := "AnyKeyTownModel", name := "readsCompared", desc := "()Z" } : Jvm.MethodName)) ∈ lw_tbl := lw_at lw_m6 109 rfl
theorem q1410 : (Jvm.Cond.instanceMethod ({ cls := "AnyKeyTownModel", name := "readsCompared", desc := "()Z" } : Jvm.MethodName)) ∈ lw_all := lw_g (lw_at lw_m6 110 rfl) rfl
theorem q1411 : (Jvm.Cond.code ({ cls := "AnyKeyTownModel", name := "readsCompared", desc := "()Z" } : Jvm.MethodName) prog_20_method_34_code (2 : Nat) (Option.some Jvm.ClassFile.FieldType.boolean)) ∈ lw_all := lw_g (lw_at lw_m6 111 rfl) rfl
theorem q1412 : (Jvm.Cond.methodLink "AnyKeyTownModel" (189 : Nat) ({ cls := "AnyKeyTownModel", name := "endsPiece", desc := "()V" } : Jvm.MethodName)) ∈ lw_all := lw_g (lw_at lw_m6 112 rfl) rfl
theorem q1413 : (Jvm.Cond.privateMethod ({ cls := "AnyKeyTownModel", name := "endsPiece", desc := "()V" } : Jvm.MethodName)) ∈ lw_tbl := lw_at lw_m6 113 rfl
theorem q1414 : (Jvm.Cond.instanceMethod ({ cls := "AnyKeyTownModel", name := "endsPiece", desc := "()V" } : Jvm.MethodName)) ∈ lw_all := lw_g (lw_at lw_m6 114 rfl) rfl
theorem q1415 : (Jvm.Cond.code ({ cls := "AnyKeyTownModel", name := "endsPiece", desc := "()V" } : Jvm.MethodName) prog_20_method_31_code (1 : Nat) (Option.none : Option Jvm.ClassFile.FieldType)) ∈ lw_all := lw_g (lw_at lw_m6 115 rfl) rfl
theorem q1416 : (Jvm.Cond.methodLink "AnyKeyTownModel" (195 : Nat) ({ cls := "AnyKeyTownModel", name := "lands", desc := "(Z)V" } : Jvm.MethodName)) ∈ lw_all := lw_g (lw_at lw_m6 116 rfl) rfl
theorem q1417 : (Jvm.Cond.privateMethod ({ cls := "AnyKeyTownModel", name := "lands", desc := "(Z)V" } : Jvm.MethodName)) ∈ lw_tbl := lw_at lw_m6 117 rfl
theorem q1418 : (Jvm.Cond.instanceMethod ({ cls := "AnyKeyTownModel", name := "lands", desc := "(Z)V" } : Jvm.MethodName)) ∈ lw_all := lw_g (lw_at lw_m6 118 rfl) rfl
theorem q1419 : (Jvm.Cond.code ({ cls := "AnyKeyTownModel", name := "lands", desc := "(Z)V" } : Jvm.MethodName) prog_20_method_32_code (3 : Nat) (Option.none : Option Jvm.ClassFile.FieldType)) ∈ lw_all := lw_g (lw_at lw_m6 119 rfl) rfl
theorem q1420 : (Jvm.Cond.methodLink "AnyKeyTownModel" (198 : Nat) ({ cls := "AnyKeyTownModel", name := "jumps", desc := "(I)V" } : Jvm.MethodName)) ∈ lw_all := lw_g (lw_at lw_m6 120 rfl) rfl
theorem q1421 : (Jvm.Cond.privateMethod ({ cls := "AnyKeyTownModel", name := "jumps", desc := "(I)V" } : Jvm.MethodName)) ∈ lw_tbl := lw_at lw_m6 121 rfl
theorem q1422 : (Jvm.Cond.instanceMethod ({ cls := "AnyKeyTownModel", name := "jumps", desc := "(I)V" } : Jvm.MethodName)) ∈ lw_all := lw_g (lw_at lw_m6 122 rfl) rfl
theorem q1423 : (Jvm.Cond.code ({ cls := "AnyKeyTownModel", name := "jumps", desc := "(I)V" } : Jvm.MethodName) prog_20_method_33_code (2 : Nat) (Option.none : Option Jvm.ClassFile.FieldType)) ∈ lw_all := lw_g (lw_at lw_m6 123 rfl) rfl
theorem q1424 : (Jvm.Cond.methodLink "AnyKeyTownModel" (213 : Nat) ({ cls := "AnyKeyTownModel", name := "takes", desc := "(I)Z" } : Jvm.MethodName)) ∈ lw_all := lw_g (lw_at lw_m6 124 rfl) rfl
theorem q1425 : (Jvm.Cond.privateMethod ({ cls := "AnyKeyTownModel", name := "takes", desc := "(I)Z" } : Jvm.MethodName)) ∈ lw_tbl := lw_at lw_m6 125 rfl
theorem q1426 : (Jvm.Cond.instanceMethod ({ cls := "AnyKeyTownModel", name := "takes", desc := "(I)Z" } : Jvm.MethodName)) ∈ lw_all := lw_g (lw_at lw_m6 126 rfl) rfl
theorem q1427 : (Jvm.Cond.code ({ cls := "AnyKeyTownModel", name := "takes", desc := "(I)Z" } : Jvm.MethodName) prog_20_method_20_code (2 : Nat) (Option.some Jvm.ClassFile.FieldType.boolean)) ∈ lw_all := lw_g (lw_at lw_m6 127 rfl) rfl
theorem q1429 : (Jvm.Cond.instanceMethod ({ cls := "AnyKeyTownModel", name := "orders", desc := "(I)I" } : Jvm.MethodName)) ∈ lw_all := lw_g (lw_at lw_m6 129 rfl) rfl
theorem q1430 : (Jvm.Cond.selects "AnyKeyTownModel" ({ cls := "AnyKeyTownModel", name := "orders", desc := "(I)I" } : Jvm.MethodName) ({ cls := "AnyKeyTownModel", name := "orders", desc := "(I)I" } : Jvm.MethodName)) ∈ lw_all := lw_g (lw_at lw_m6 130 rfl) rfl
theorem q1431 : (Jvm.Cond.code ({ cls := "AnyKeyTownModel", name := "orders", desc := "(I)I" } : Jvm.MethodName) prog_20_method_49_code (3 : Nat) (Option.some Jvm.ClassFile.FieldType.int)) ∈ lw_all := lw_g (lw_at lw_m6 131 rfl) rfl
theorem q1432 : (Jvm.Cond.methodLink "AnyKeyTownModel" (252 : Nat) ({ cls := "AnyKeyTownModel", name := "laysAside", desc := "()V" } : Jvm.MethodName)) ∈ lw_all := lw_g (lw_at lw_m6 132 rfl) rfl
theorem q1433 : (Jvm.Cond.privateMethod ({ cls := "AnyKeyTownModel", name := "laysAside", desc := "()V" } : Jvm.MethodName)) ∈ lw_tbl := lw_at lw_m6 133 rfl
theorem q1434 : (Jvm.Cond.instanceMethod ({ cls := "AnyKeyTownModel", name := "laysAside", desc := "()V" } : Jvm.MethodName)) ∈ lw_all := lw_g (lw_at lw_m6 134 rfl) rfl
theorem q1435 : (Jvm.Cond.code ({ cls := "AnyKeyTownModel", name := "laysAside", desc := "()V" } : Jvm.MethodName) prog_20_method_47_code (2 : Nat) (Option.none : Option Jvm.ClassFile.FieldType)) ∈ lw_all := lw_g (lw_at lw_m6 135 rfl) rfl
theorem q1436 : (Jvm.Cond.methodLink "AnyKeyTownModel" (255 : Nat) ({ cls := "AnyKeyTownModel", name := "readsOrder", desc := "()Z" } : Jvm.MethodName)) ∈ lw_all := lw_g (lw_at lw_m6 136 rfl) rfl
theorem q1437 : (Jvm.Cond.privateMethod ({ cls := "AnyKeyTownModel", name := "readsOrder", desc := "()Z" } : Jvm.MethodName)) ∈ lw_tbl := lw_at lw_m6 137 rfl
theorem q1438 : (Jvm.Cond.instanceMethod ({ cls := "AnyKeyTownModel", name := "readsOrder", desc := "()Z" } : Jvm.MethodName)) ∈ lw_all := lw_g (lw_at lw_m6 138 rfl) rfl
theorem q1439 : (Jvm.Cond.code ({ cls := "AnyKeyTownModel", name := "readsOrder", desc := "()Z" } : Jvm.MethodName) prog_20_method_46_code (4 : Nat) (Option.some Jvm.ClassFile.FieldType.boolean)) ∈ lw_all := lw_g (lw_at lw_m6 139 rfl) rfl
theorem q1440 : (Jvm.Cond.methodLink "AnyKeyTownModel" (230 : Nat) ({ cls := "AnyKeyTownModel", name := "isLetter", desc := "()Z" } : Jvm.MethodName)) ∈ lw_all := lw_g (lw_at lw_m6 140 rfl) rfl
theorem q1441 : (Jvm.Cond.privateMethod ({ cls := "AnyKeyTownModel", name := "isLetter", desc := "()Z" } : Jvm.MethodName)) ∈ lw_tbl := lw_at lw_m6 141 rfl
theorem q1442 : (Jvm.Cond.instanceMethod ({ cls := "AnyKeyTownModel", name := "isLetter", desc := "()Z" } : Jvm.MethodName)) ∈ lw_all := lw_g (lw_at lw_m6 142 rfl) rfl
theorem q1443 : (Jvm.Cond.code ({ cls := "AnyKeyTownModel", name := "isLetter", desc := "()Z" } : Jvm.MethodName) prog_20_method_43_code (1 : Nat) (Option.some Jvm.ClassFile.FieldType.boolean)) ∈ lw_all := lw_g (lw_at lw_m6 143 rfl) rfl
theorem q1444 : (Jvm.Cond.methodLink "AnyKeyTownModel" (239 : Nat) ({ cls := "AnyKeyTownModel", name := "readsHouse", desc := "(I)Z" } : Jvm.MethodName)) ∈ lw_all := lw_g (lw_at lw_m6 144 rfl) rfl
theorem q1445 : (Jvm.Cond.privateMethod ({ cls := "AnyKeyTownModel", name := "readsHouse", desc := "(I)Z" } : Jvm.MethodName)) ∈ lw_tbl := lw_at lw_m6 145 rfl
theorem q1446 : (Jvm.Cond.instanceMethod ({ cls := "AnyKeyTownModel", name := "readsHouse", desc := "(I)Z" } : Jvm.MethodName)) ∈ lw_all := lw_g (lw_at lw_m6 146 rfl) rfl
theorem q1447 : (Jvm.Cond.code ({ cls := "AnyKeyTownModel", name := "readsHouse", desc := "(I)Z" } : Jvm.MethodName) prog_20_method_44_code (3 : Nat) (Option.some Jvm.ClassFile.FieldType.boolean)) ∈ lw_all := lw_g (lw_at lw_m6 147 rfl) rfl
theorem q1448 : (Jvm.Cond.methodLink "AnyKeyTownModel" (100 : Nat) ({ cls := "AnyKeyTownModel", name := "has", desc := "(II)Z" } : Jvm.MethodName)) ∈ lw_all := lw_g (lw_at lw_m6 148 rfl) rfl
theorem q1449 : (Jvm.Cond.static ({ cls := "AnyKeyTownModel", name := "has", desc := "(II)Z" } : Jvm.MethodName)) ∈ lw_all := lw_g (lw_at lw_m6 149 rfl) rfl
theorem q1450 : (Jvm.Cond.code ({ cls := "AnyKeyTownModel", name := "has", desc := "(II)Z" } : Jvm.MethodName) prog_20_method_6_code (2 : Nat) (Option.some Jvm.ClassFile.FieldType.boolean)) ∈ lw_all := lw_g (lw_at lw_m6 150 rfl) rfl
theorem q1451 : (Jvm.Cond.methodLink "AnyKeyTownModel" (233 : Nat) ({ cls := "AnyKeyTownModel", name := "isTold", desc := "(I)Z" } : Jvm.MethodName)) ∈ lw_all := lw_g (lw_at lw_m6 151 rfl) rfl
theorem q1452 : (Jvm.Cond.privateMethod ({ cls := "AnyKeyTownModel", name := "isTold", desc := "(I)Z" } : Jvm.MethodName)) ∈ lw_tbl := lw_at lw_m6 152 rfl
theorem q1453 : (Jvm.Cond.instanceMethod ({ cls := "AnyKeyTownModel", name := "isTold", desc := "(I)Z" } : Jvm.MethodName)) ∈ lw_all := lw_g (lw_at lw_m6 153 rfl) rfl
theorem q1454 : (Jvm.Cond.code ({ cls := "AnyKeyTownModel", name := "isTold", desc := "(I)Z" } : Jvm.MethodName) prog_20_method_10_code (2 : Nat) (Option.some Jvm.ClassFile.FieldType.boolean)) ∈ lw_all := lw_g (lw_at lw_m6 154 rfl) rfl
theorem q1455 : (Jvm.Cond.methodLink "AnyKeyTownModel" (242 : Nat) ({ cls := "AnyKeyTownModel", name := "readsOther", desc := "(IZ)Z" } : Jvm.MethodName)) ∈ lw_all := lw_g (lw_at lw_m6 155 rfl) rfl
theorem q1456 : (Jvm.Cond.privateMethod ({ cls := "AnyKeyTownModel", name := "readsOther", desc := "(IZ)Z" } : Jvm.MethodName)) ∈ lw_tbl := lw_at lw_m6 156 rfl
theorem q1457 : (Jvm.Cond.instanceMethod ({ cls := "AnyKeyTownModel", name := "readsOther", desc := "(IZ)Z" } : Jvm.MethodName)) ∈ lw_all := lw_g (lw_at lw_m6 157 rfl) rfl
theorem q1458 : (Jvm.Cond.code ({ cls := "AnyKeyTownModel", name := "readsOther", desc := "(IZ)Z" } : Jvm.MethodName) prog_20_method_45_code (4 : Nat) (Option.some Jvm.ClassFile.FieldType.boolean)) ∈ lw_all := lw_g (lw_at lw_m6 158 rfl) rfl
theorem q1459 : (Jvm.Cond.methodLink "AnyKeyTownModel" (258 : Nat) ({ cls := "AnyKeyTownModel", name := "putsBack", desc := "()V" } : Jvm.MethodName)) ∈ lw_all := lw_g (lw_at lw_m6 159 rfl) rfl
theorem q1460 : (Jvm.Cond.privateMethod ({ cls := "AnyKeyTownModel", name := "putsBack", desc := "()V" } : Jvm.MethodName)) ∈ lw_tbl := lw_at lw_m6 160 rfl
theorem q1461 : (Jvm.Cond.instanceMethod ({ cls := "AnyKeyTownModel", name := "putsBack", desc := "()V" } : Jvm.MethodName)) ∈ lw_all := lw_g (lw_at lw_m6 161 rfl) rfl
theorem q1462 : (Jvm.Cond.code ({ cls := "AnyKeyTownModel", name := "putsBack", desc := "()V" } : Jvm.MethodName) prog_20_method_48_code (2 : Nat) (Option.none : Option Jvm.ClassFile.FieldType)) ∈ lw_all := lw_g (lw_at lw_m6 162 rfl) rfl
theorem q1464 : (Jvm.Cond.instanceMethod ({ cls := "AnyKeyTownModel", name := "dance", desc := "(II)I" } : Jvm.MethodName)) ∈ lw_all := lw_g (lw_at lw_m6 164 rfl) rfl
theorem q1465 : (Jvm.Cond.selects "AnyKeyTownModel" ({ cls := "AnyKeyTownModel", name := "dance", desc := "(II)I" } : Jvm.MethodName) ({ cls := "AnyKeyTownModel", name := "dance", desc := "(II)I" } : Jvm.MethodName)) ∈ lw_all := lw_g (lw_at lw_m6 165 rfl) rfl
theorem q1466 : (Jvm.Cond.code ({ cls := "AnyKeyTownModel", name := "dance", desc := "(II)I" } : Jvm.MethodName) prog_20_method_51_code (4 : Nat) (Option.some Jvm.ClassFile.FieldType.int)) ∈ lw_all := lw_g (lw_at lw_m6 166 rfl) rfl
theorem q1467 : (Jvm.Cond.methodLink "AnyKeyTownModel" (270 : Nat) ({ cls := "AnyKeyTownModel", name := "readsDance", desc := "()Z" } : Jvm.MethodName)) ∈ lw_all := lw_g (lw_at lw_m6 167 rfl) rfl
theorem q1468 : (Jvm.Cond.privateMethod ({ cls := "AnyKeyTownModel", name := "readsDance", desc := "()Z" } : Jvm.MethodName)) ∈ lw_tbl := lw_at lw_m6 168 rfl
theorem q1469 : (Jvm.Cond.instanceMethod ({ cls := "AnyKeyTownModel", name := "readsDance", desc := "()Z" } : Jvm.MethodName)) ∈ lw_all := lw_g (lw_at lw_m6 169 rfl) rfl
theorem q1470 : (Jvm.Cond.code ({ cls := "AnyKeyTownModel", name := "readsDance", desc := "()Z" } : Jvm.MethodName) prog_20_method_50_code (3 : Nat) (Option.some Jvm.ClassFile.FieldType.boolean)) ∈ lw_all := lw_g (lw_at lw_m6 170 rfl) rfl
theorem q1471 : (Jvm.Cond.methodLink "AnyKeyTownModel" (112 : Nat) ({ cls := "AnyKeyTownModel", name := "size", desc := "(I)I" } : Jvm.MethodName)) ∈ lw_all := lw_g (lw_at lw_m6 171 rfl) rfl
theorem q1472 : (Jvm.Cond.static ({ cls := "AnyKeyTownModel", name := "size", desc := "(I)I" } : Jvm.MethodName)) ∈ lw_all := lw_g (lw_at lw_m6 172 rfl) rfl
theorem q1473 : (Jvm.Cond.code ({ cls := "AnyKeyTownModel", name := "size", desc := "(I)I" } : Jvm.MethodName) prog_20_method_5_code (1 : Nat) (Option.some Jvm.ClassFile.FieldType.int)) ∈ lw_all := lw_g (lw_at lw_m6 173 rfl) rfl
theorem q1475 : (Jvm.Cond.instanceMethod ({ cls := "AnyKeyTownModel", name := "evenings", desc := "(I)I" } : Jvm.MethodName)) ∈ lw_all := lw_g (lw_at lw_m6 175 rfl) rfl
theorem q1476 : (Jvm.Cond.selects "AnyKeyTownModel" ({ cls := "AnyKeyTownModel", name := "evenings", desc := "(I)I" } : Jvm.MethodName) ({ cls := "AnyKeyTownModel", name := "evenings", desc := "(I)I" } : Jvm.MethodName)) ∈ lw_all := lw_g (lw_at lw_m6 176 rfl) rfl
theorem q1477 : (Jvm.Cond.code ({ cls := "AnyKeyTownModel", name := "evenings", desc := "(I)I" } : Jvm.MethodName) prog_20_method_58_code (2 : Nat) (Option.some Jvm.ClassFile.FieldType.int)) ∈ lw_all := lw_g (lw_at lw_m6 177 rfl) rfl
theorem q1478 : (Jvm.Cond.methodLink "AnyKeyTownModel" (321 : Nat) ({ cls := "AnyKeyTownModel", name := "eveningsGo", desc := "(I)V" } : Jvm.MethodName)) ∈ lw_all := lw_g (lw_at lw_m6 178 rfl) rfl
theorem q1479 : (Jvm.Cond.privateMethod ({ cls := "AnyKeyTownModel", name := "eveningsGo", desc := "(I)V" } : Jvm.MethodName)) ∈ lw_tbl := lw_at lw_m6 179 rfl
theorem q1480 : (Jvm.Cond.instanceMethod ({ cls := "AnyKeyTownModel", name := "eveningsGo", desc := "(I)V" } : Jvm.MethodName)) ∈ lw_all := lw_g (lw_at lw_m6 180 rfl) rfl
theorem q1481 : (Jvm.Cond.code ({ cls := "AnyKeyTownModel", name := "eveningsGo", desc := "(I)V" } : Jvm.MethodName) prog_20_method_57_code (3 : Nat) (Option.none : Option Jvm.ClassFile.FieldType)) ∈ lw_all := lw_g (lw_at lw_m6 181 rfl) rfl
theorem q1482 : (Jvm.Cond.methodLink "AnyKeyTownModel" (318 : Nat) ({ cls := "AnyKeyTownModel", name := "eveningGoes", desc := "()V" } : Jvm.MethodName)) ∈ lw_all := lw_g (lw_at lw_m6 182 rfl) rfl
theorem q1483 : (Jvm.Cond.privateMethod ({ cls := "AnyKeyTownModel", name := "eveningGoes", desc := "()V" } : Jvm.MethodName)) ∈ lw_tbl := lw_at lw_m6 183 rfl
theorem q1484 : (Jvm.Cond.instanceMethod ({ cls := "AnyKeyTownModel", name := "eveningGoes", desc := "()V" } : Jvm.MethodName)) ∈ lw_all := lw_g (lw_at lw_m6 184 rfl) rfl
theorem q1485 : (Jvm.Cond.code ({ cls := "AnyKeyTownModel", name := "eveningGoes", desc := "()V" } : Jvm.MethodName) prog_20_method_56_code (4 : Nat) (Option.none : Option Jvm.ClassFile.FieldType)) ∈ lw_all := lw_g (lw_at lw_m6 185 rfl) rfl
theorem q1486 : (Jvm.Cond.methodLink "AnyKeyTownModel" (279 : Nat) ({ cls := "AnyKeyTownModel", name := "feels", desc := "(I)V" } : Jvm.MethodName)) ∈ lw_all := lw_g (lw_at lw_m6 186 rfl) rfl
theorem q1487 : (Jvm.Cond.privateMethod ({ cls := "AnyKeyTownModel", name := "feels", desc := "(I)V" } : Jvm.MethodName)) ∈ lw_tbl := lw_at lw_m6 187 rfl
theorem q1488 : (Jvm.Cond.instanceMethod ({ cls := "AnyKeyTownModel", name := "feels", desc := "(I)V" } : Jvm.MethodName)) ∈ lw_all := lw_g (lw_at lw_m6 188 rfl) rfl
theorem q1489 : (Jvm.Cond.code ({ cls := "AnyKeyTownModel", name := "feels", desc := "(I)V" } : Jvm.MethodName) prog_20_method_52_code (3 : Nat) (Option.none : Option Jvm.ClassFile.FieldType)) ∈ lw_all := lw_g (lw_at lw_m6 189 rfl) rfl
theorem q1490 : (Jvm.Cond.methodLink "AnyKeyTownModel" (276 : Nat) ({ cls := "AnyKeyTownModel", name := "bits", desc := "(I)I" } : Jvm.MethodName)) ∈ lw_all := lw_g (lw_at lw_m6 190 rfl) rfl
theorem q1491 : (Jvm.Cond.static ({ cls := "AnyKeyTownModel", name := "bits", desc := "(I)I" } : Jvm.MethodName)) ∈ lw_all := lw_g (lw_at lw_m6 191 rfl) rfl
theorem q1492 : (Jvm.Cond.code ({ cls := "AnyKeyTownModel", name := "bits", desc := "(I)I" } : Jvm.MethodName) prog_20_method_7_code (3 : Nat) (Option.some Jvm.ClassFile.FieldType.int)) ∈ lw_all := lw_g (lw_at lw_m6 192 rfl) rfl
theorem q1493 : (Jvm.Cond.methodLink "AnyKeyTownModel" (306 : Nat) ({ cls := "AnyKeyTownModel", name := "holdsAny", desc := "(I)Z" } : Jvm.MethodName)) ∈ lw_all := lw_g (lw_at lw_m6 193 rfl) rfl
theorem q1494 : (Jvm.Cond.privateMethod ({ cls := "AnyKeyTownModel", name := "holdsAny", desc := "(I)Z" } : Jvm.MethodName)) ∈ lw_tbl := lw_at lw_m6 194 rfl
theorem q1495 : (Jvm.Cond.instanceMethod ({ cls := "AnyKeyTownModel", name := "holdsAny", desc := "(I)Z" } : Jvm.MethodName)) ∈ lw_all := lw_g (lw_at lw_m6 195 rfl) rfl
theorem q1496 : (Jvm.Cond.code ({ cls := "AnyKeyTownModel", name := "holdsAny", desc := "(I)Z" } : Jvm.MethodName) prog_20_method_42_code (3 : Nat) (Option.some Jvm.ClassFile.FieldType.boolean)) ∈ lw_all := lw_g (lw_at lw_m6 196 rfl) rfl
theorem q1497 : (Jvm.Cond.methodLink "AnyKeyTownModel" (223 : Nat) ({ cls := "AnyKeyTownModel", name := "reckonsTo", desc := "(II)I" } : Jvm.MethodName)) ∈ lw_all := lw_g (lw_at lw_m6 197 rfl) rfl
theorem q1498 : (Jvm.Cond.privateMethod ({ cls := "AnyKeyTownModel", name := "reckonsTo", desc := "(II)I" } : Jvm.MethodName)) ∈ lw_tbl := lw_at lw_m6 198 rfl
theorem q1499 : (Jvm.Cond.instanceMethod ({ cls := "AnyKeyTownModel", name := "reckonsTo", desc := "(II)I" } : Jvm.MethodName)) ∈ lw_all := lw_g (lw_at lw_m6 199 rfl) rfl
theorem q1500 : (Jvm.Cond.code ({ cls := "AnyKeyTownModel", name := "reckonsTo", desc := "(II)I" } : Jvm.MethodName) prog_20_method_40_code (8 : Nat) (Option.some Jvm.ClassFile.FieldType.int)) ∈ lw_all := lw_g (lw_at lw_m6 200 rfl) rfl
theorem q1501 : (Jvm.Cond.methodLink "AnyKeyTownModel" (219 : Nat) ({ cls := "AnyKeyTownModel", name := "reckon", desc := "(III)I" } : Jvm.MethodName)) ∈ lw_all := lw_g (lw_at lw_m6 201 rfl) rfl
theorem q1502 : (Jvm.Cond.static ({ cls := "AnyKeyTownModel", name := "reckon", desc := "(III)I" } : Jvm.MethodName)) ∈ lw_all := lw_g (lw_at lw_m6 202 rfl) rfl
theorem q1503 : (Jvm.Cond.code ({ cls := "AnyKeyTownModel", name := "reckon", desc := "(III)I" } : Jvm.MethodName) prog_20_method_39_code (3 : Nat) (Option.some Jvm.ClassFile.FieldType.int)) ∈ lw_all := lw_g (lw_at lw_m6 203 rfl) rfl
theorem q1504 : (Jvm.Cond.methodLink "AnyKeyTownModel" (309 : Nat) ({ cls := "AnyKeyTownModel", name := "likedMost", desc := "()I" } : Jvm.MethodName)) ∈ lw_all := lw_g (lw_at lw_m6 204 rfl) rfl
theorem q1505 : (Jvm.Cond.privateMethod ({ cls := "AnyKeyTownModel", name := "likedMost", desc := "()I" } : Jvm.MethodName)) ∈ lw_tbl := lw_at lw_m6 205 rfl
theorem q1506 : (Jvm.Cond.instanceMethod ({ cls := "AnyKeyTownModel", name := "likedMost", desc := "()I" } : Jvm.MethodName)) ∈ lw_all := lw_g (lw_at lw_m6 206 rfl) rfl
theorem q1507 : (Jvm.Cond.code ({ cls := "AnyKeyTownModel", name := "likedMost", desc := "()I" } : Jvm.MethodName) prog_20_method_54_code (6 : Nat) (Option.some Jvm.ClassFile.FieldType.int)) ∈ lw_all := lw_g (lw_at lw_m6 207 rfl) rfl
theorem q1508 : (Jvm.Cond.methodLink "AnyKeyTownModel" (291 : Nat) ({ cls := "AnyKeyTownModel", name := "friendsOf", desc := "(I)I" } : Jvm.MethodName)) ∈ lw_all := lw_g (lw_at lw_m6 208 rfl) rfl
theorem q1509 : (Jvm.Cond.privateMethod ({ cls := "AnyKeyTownModel", name := "friendsOf", desc := "(I)I" } : Jvm.MethodName)) ∈ lw_tbl := lw_at lw_m6 209 rfl
theorem q1510 : (Jvm.Cond.instanceMethod ({ cls := "AnyKeyTownModel", name := "friendsOf", desc := "(I)I" } : Jvm.MethodName)) ∈ lw_all := lw_g (lw_at lw_m6 210 rfl) rfl
theorem q1511 : (Jvm.Cond.code ({ cls := "AnyKeyTownModel", name := "friendsOf", desc := "(I)I" } : Jvm.MethodName) prog_20_method_12_code (2 : Nat) (Option.some Jvm.ClassFile.FieldType.int)) ∈ lw_all := lw_g (lw_at lw_m6 211 rfl) rfl
theorem q1512 : (Jvm.Cond.methodLink "AnyKeyTownModel" (294 : Nat) ({ cls := "AnyKeyTownModel", name := "feelsTwo", desc := "(II)V" } : Jvm.MethodName)) ∈ lw_all := lw_g (lw_at lw_m6 212 rfl) rfl
theorem q1513 : (Jvm.Cond.privateMethod ({ cls := "AnyKeyTownModel", name := "feelsTwo", desc := "(II)V" } : Jvm.MethodName)) ∈ lw_tbl := lw_at lw_m6 213 rfl
theorem q1514 : (Jvm.Cond.instanceMethod ({ cls := "AnyKeyTownModel", name := "feelsTwo", desc := "(II)V" } : Jvm.MethodName)) ∈ lw_all := lw_g (lw_at lw_m6 214 rfl) rfl
theorem q1515 : (Jvm.Cond.code ({ cls := "AnyKeyTownModel", name := "feelsTwo", desc := "(II)V" } : Jvm.MethodName) prog_20_method_53_code (3 : Nat) (Option.none : Option Jvm.ClassFile.FieldType)) ∈ lw_all := lw_g (lw_at lw_m6 215 rfl) rfl
theorem q1516 : (Jvm.Cond.methodLink "AnyKeyTownModel" (282 : Nat) ({ cls := "AnyKeyTownModel", name := "apart", desc := "(II)I" } : Jvm.MethodName)) ∈ lw_all := lw_g (lw_at lw_m6 216 rfl) rfl
theorem q1517 : (Jvm.Cond.privateMethod ({ cls := "AnyKeyTownModel", name := "apart", desc := "(II)I" } : Jvm.MethodName)) ∈ lw_tbl := lw_at lw_m6 217 rfl
theorem q1518 : (Jvm.Cond.instanceMethod ({ cls := "AnyKeyTownModel", name := "apart", desc := "(II)I" } : Jvm.MethodName)) ∈ lw_all := lw_g (lw_at lw_m6 218 rfl) rfl
theorem q1519 : (Jvm.Cond.code ({ cls := "AnyKeyTownModel", name := "apart", desc := "(II)I" } : Jvm.MethodName) prog_20_method_13_code (3 : Nat) (Option.some Jvm.ClassFile.FieldType.int)) ∈ lw_all := lw_g (lw_at lw_m6 219 rfl) rfl
theorem q1520 : (Jvm.Cond.methodLink "AnyKeyTownModel" (285 : Nat) ({ cls := "AnyKeyTownModel", name := "favoursOf", desc := "(II)I" } : Jvm.MethodName)) ∈ lw_all := lw_g (lw_at lw_m6 220 rfl) rfl
theorem q1521 : (Jvm.Cond.privateMethod ({ cls := "AnyKeyTownModel", name := "favoursOf", desc := "(II)I" } : Jvm.MethodName)) ∈ lw_tbl := lw_at lw_m6 221 rfl
theorem q1522 : (Jvm.Cond.instanceMethod ({ cls := "AnyKeyTownModel", name := "favoursOf", desc := "(II)I" } : Jvm.MethodName)) ∈ lw_all := lw_g (lw_at lw_m6 222 rfl) rfl
theorem q1523 : (Jvm.Cond.code ({ cls := "AnyKeyTownModel", name := "favoursOf", desc := "(II)I" } : Jvm.MethodName) prog_20_method_11_code (3 : Nat) (Option.some Jvm.ClassFile.FieldType.int)) ∈ lw_all := lw_g (lw_at lw_m6 223 rfl) rfl
theorem q1524 : (Jvm.Cond.methodLink "AnyKeyTownModel" (297 : Nat) ({ cls := "AnyKeyTownModel", name := "byLaw", desc := "(I)I" } : Jvm.MethodName)) ∈ lw_all := lw_g (lw_at lw_m6 224 rfl) rfl
theorem q1525 : (Jvm.Cond.privateMethod ({ cls := "AnyKeyTownModel", name := "byLaw", desc := "(I)I" } : Jvm.MethodName)) ∈ lw_tbl := lw_at lw_m6 225 rfl
theorem q1526 : (Jvm.Cond.instanceMethod ({ cls := "AnyKeyTownModel", name := "byLaw", desc := "(I)I" } : Jvm.MethodName)) ∈ lw_all := lw_g (lw_at lw_m6 226 rfl) rfl
theorem q1527 : (Jvm.Cond.code ({ cls := "AnyKeyTownModel", name := "byLaw", desc := "(I)I" } : Jvm.MethodName) prog_20_method_41_code (4 : Nat) (Option.some Jvm.ClassFile.FieldType.int)) ∈ lw_all := lw_g (lw_at lw_m6 227 rfl) rfl
theorem q1528 : (Jvm.Cond.methodLink "AnyKeyTownModel" (303 : Nat) ({ cls := "AnyKeyTownModel", name := "min", desc := "(II)I" } : Jvm.MethodName)) ∈ lw_all := lw_g (lw_at lw_m6 228 rfl) rfl
theorem q1529 : (Jvm.Cond.static ({ cls := "AnyKeyTownModel", name := "min", desc := "(II)I" } : Jvm.MethodName)) ∈ lw_all := lw_g (lw_at lw_m6 229 rfl) rfl
theorem q1530 : (Jvm.Cond.code ({ cls := "AnyKeyTownModel", name := "min", desc := "(II)I" } : Jvm.MethodName) prog_20_method_3_code (2 : Nat) (Option.some Jvm.ClassFile.FieldType.int)) ∈ lw_all := lw_g (lw_at lw_m6 230 rfl) rfl
theorem q1531 : (Jvm.Cond.methodLink "AnyKeyTownModel" (315 : Nat) ({ cls := "AnyKeyTownModel", name := "goesToBed", desc := "()V" } : Jvm.MethodName)) ∈ lw_all := lw_g (lw_at lw_m6 231 rfl) rfl
theorem q1532 : (Jvm.Cond.privateMethod ({ cls := "AnyKeyTownModel", name := "goesToBed", desc := "()V" } : Jvm.MethodName)) ∈ lw_tbl := lw_at lw_m6 232 rfl
theorem q1533 : (Jvm.Cond.instanceMethod ({ cls := "AnyKeyTownModel", name := "goesToBed", desc := "()V" } : Jvm.MethodName)) ∈ lw_all := lw_g (lw_at lw_m6 233 rfl) rfl
theorem q1534 : (Jvm.Cond.code ({ cls := "AnyKeyTownModel", name := "goesToBed", desc := "()V" } : Jvm.MethodName) prog_20_method_55_code (5 : Nat) (Option.none : Option Jvm.ClassFile.FieldType)) ∈ lw_all := lw_g (lw_at lw_m6 234 rfl) rfl
theorem q1536 : (Jvm.Cond.instanceMethod ({ cls := "AnyKeyTownModel", name := "tried", desc := "(II)I" } : Jvm.MethodName)) ∈ lw_all := lw_g (lw_at lw_m6 236 rfl) rfl
theorem q1537 : (Jvm.Cond.selects "AnyKeyTownModel" ({ cls := "AnyKeyTownModel", name := "tried", desc := "(II)I" } : Jvm.MethodName) ({ cls := "AnyKeyTownModel", name := "tried", desc := "(II)I" } : Jvm.MethodName)) ∈ lw_all := lw_g (lw_at lw_m6 237 rfl) rfl
theorem q1538 : (Jvm.Cond.code ({ cls := "AnyKeyTownModel", name := "tried", desc := "(II)I" } : Jvm.MethodName) prog_20_method_61_code (4 : Nat) (Option.some Jvm.ClassFile.FieldType.int)) ∈ lw_all := lw_g (lw_at lw_m6 238 rfl) rfl
theorem q1539 : (Jvm.Cond.methodLink "AnyKeyTownModel" (324 : Nat) ({ cls := "AnyKeyTownModel", name := "copies", desc := "([I[I)V" } : Jvm.MethodName)) ∈ lw_all := lw_g (lw_at lw_m6 239 rfl) rfl
theorem q1540 : (Jvm.Cond.static ({ cls := "AnyKeyTownModel", name := "copies", desc := "([I[I)V" } : Jvm.MethodName)) ∈ lw_all := lw_g (lw_at lw_m7 0 rfl) rfl
theorem q1541 : (Jvm.Cond.code ({ cls := "AnyKeyTownModel", name := "copies", desc := "([I[I)V" } : Jvm.MethodName) prog_20_method_9_code (3 : Nat) (Option.none : Option Jvm.ClassFile.FieldType)) ∈ lw_all := lw_g (lw_at lw_m7 1 rfl) rfl
theorem q1542 : (Jvm.Cond.methodLink "AnyKeyTownModel" (328 : Nat) ({ cls := "AnyKeyTownModel", name := "nightsOfAll", desc := "()I" } : Jvm.MethodName)) ∈ lw_all := lw_g (lw_at lw_m7 2 rfl) rfl
theorem q1543 : (Jvm.Cond.privateMethod ({ cls := "AnyKeyTownModel", name := "nightsOfAll", desc := "()I" } : Jvm.MethodName)) ∈ lw_tbl := lw_at lw_m7 3 rfl
theorem q1544 : (Jvm.Cond.instanceMethod ({ cls := "AnyKeyTownModel", name := "nightsOfAll", desc := "()I" } : Jvm.MethodName)) ∈ lw_all := lw_g (lw_at lw_m7 4 rfl) rfl
theorem q1545 : (Jvm.Cond.code ({ cls := "AnyKeyTownModel", name := "nightsOfAll", desc := "()I" } : Jvm.MethodName) prog_20_method_60_code (3 : Nat) (Option.some Jvm.ClassFile.FieldType.int)) ∈ lw_all := lw_g (lw_at lw_m7 5 rfl) rfl
theorem q1546 : (Jvm.Cond.methodLink "AnyKeyTownModel" (331 : Nat) ({ cls := "AnyKeyTownModel", name := "favoursToAll", desc := "(I)I" } : Jvm.MethodName)) ∈ lw_all := lw_g (lw_at lw_m7 6 rfl) rfl
theorem q1547 : (Jvm.Cond.privateMethod ({ cls := "AnyKeyTownModel", name := "favoursToAll", desc := "(I)I" } : Jvm.MethodName)) ∈ lw_tbl := lw_at lw_m7 7 rfl
theorem q1548 : (Jvm.Cond.instanceMethod ({ cls := "AnyKeyTownModel", name := "favoursToAll", desc := "(I)I" } : Jvm.MethodName)) ∈ lw_all := lw_g (lw_at lw_m7 8 rfl) rfl
theorem q1549 : (Jvm.Cond.code ({ cls := "AnyKeyTownModel", name := "favoursToAll", desc := "(I)I" } : Jvm.MethodName) prog_20_method_59_code (4 : Nat) (Option.some Jvm.ClassFile.FieldType.int)) ∈ lw_all := lw_g (lw_at lw_m7 9 rfl) rfl
theorem q1551 : (Jvm.Cond.instanceMethod ({ cls := "AnyKeyTownModel", name := "personIs", desc := "(II)I" } : Jvm.MethodName)) ∈ lw_all := lw_g (lw_at lw_m7 11 rfl) rfl
theorem q1552 : (Jvm.Cond.selects "AnyKeyTownModel" ({ cls := "AnyKeyTownModel", name := "personIs", desc := "(II)I" } : Jvm.MethodName) ({ cls := "AnyKeyTownModel", name := "personIs", desc := "(II)I" } : Jvm.MethodName)) ∈ lw_all := lw_g (lw_at lw_m7 12 rfl) rfl
theorem q1553 : (Jvm.Cond.code ({ cls := "AnyKeyTownModel", name := "personIs", desc := "(II)I" } : Jvm.MethodName) prog_20_method_63_code (3 : Nat) (Option.some Jvm.ClassFile.FieldType.int)) ∈ lw_all := lw_g (lw_at lw_m7 13 rfl) rfl
theorem q1554 : (Jvm.Cond.methodLink "AnyKeyTownModel" (334 : Nat) ({ cls := "AnyKeyTownModel", name := "favoursOfAllTo", desc := "(I)I" } : Jvm.MethodName)) ∈ lw_all := lw_g (lw_at lw_m7 14 rfl) rfl
theorem q1555 : (Jvm.Cond.privateMethod ({ cls := "AnyKeyTownModel", name := "favoursOfAllTo", desc := "(I)I" } : Jvm.MethodName)) ∈ lw_tbl := lw_at lw_m7 15 rfl
theorem q1556 : (Jvm.Cond.instanceMethod ({ cls := "AnyKeyTownModel", name := "favoursOfAllTo", desc := "(I)I" } : Jvm.MethodName)) ∈ lw_all := lw_g (lw_at lw_m7 16 rfl) rfl
theorem q1557 : (Jvm.Cond.code ({ cls := "AnyKeyTownModel", name := "favoursOfAllTo", desc := "(I)I" } : Jvm.MethodName) prog_20_method_62_code (4 : Nat) (Option.some Jvm.ClassFile.FieldType.int)) ∈ lw_all := lw_g (lw_at lw_m7 17 rfl) rfl
theorem q1559 : (Jvm.Cond.instanceMethod ({ cls := "AnyKeyTownModel", name := "favours", desc := "(II)I" } : Jvm.MethodName)) ∈ lw_all := lw_g (lw_at lw_m7 19 rfl) rfl
theorem q1560 : (Jvm.Cond.selects "AnyKeyTownModel" ({ cls := "AnyKeyTownModel", name := "favours", desc := "(II)I" } : Jvm.MethodName) ({ cls := "AnyKeyTownModel", name := "favours", desc := "(II)I" } : Jvm.MethodName)) ∈ lw_all := lw_g (lw_at lw_m7 20 rfl) rfl
theorem q1561 : (Jvm.Cond.code ({ cls := "AnyKeyTownModel", name := "favours", desc := "(II)I" } : Jvm.MethodName) prog_20_method_64_code (3 : Nat) (Option.some Jvm.ClassFile.FieldType.int)) ∈ lw_all := lw_g (lw_at lw_m7 21 rfl) rfl
theorem q1563 : (Jvm.Cond.instanceMethod ({ cls := "AnyKeyTownModel", name := "stayOut", desc := "(I)I" } : Jvm.MethodName)) ∈ lw_all := lw_g (lw_at lw_m7 23 rfl) rfl
theorem q1564 : (Jvm.Cond.selects "AnyKeyTownModel" ({ cls := "AnyKeyTownModel", name := "stayOut", desc := "(I)I" } : Jvm.MethodName) ({ cls := "AnyKeyTownModel", name := "stayOut", desc := "(I)I" } : Jvm.MethodName)) ∈ lw_all := lw_g (lw_at lw_m7 24 rfl) rfl
theorem q1565 : (Jvm.Cond.code ({ cls := "AnyKeyTownModel", name := "stayOut", desc := "(I)I" } : Jvm.MethodName) prog_20_method_67_code (2 : Nat) (Option.some Jvm.ClassFile.FieldType.int)) ∈ lw_all := lw_g (lw_at lw_m7 25 rfl) rfl
theorem q1566 : (Jvm.Cond.methodLink "AnyKeyTownModel" (340 : Nat) ({ cls := "AnyKeyTownModel", name := "mustStay", desc := "()I" } : Jvm.MethodName)) ∈ lw_all := lw_g (lw_at lw_m7 26 rfl) rfl
theorem q1567 : (Jvm.Cond.privateMethod ({ cls := "AnyKeyTownModel", name := "mustStay", desc := "()I" } : Jvm.MethodName)) ∈ lw_tbl := lw_at lw_m7 27 rfl
theorem q1568 : (Jvm.Cond.instanceMethod ({ cls := "AnyKeyTownModel", name := "mustStay", desc := "()I" } : Jvm.MethodName)) ∈ lw_all := lw_g (lw_at lw_m7 28 rfl) rfl
theorem q1569 : (Jvm.Cond.code ({ cls := "AnyKeyTownModel", name := "mustStay", desc := "()I" } : Jvm.MethodName) prog_20_method_66_code (5 : Nat) (Option.some Jvm.ClassFile.FieldType.int)) ∈ lw_all := lw_g (lw_at lw_m7 29 rfl) rfl
theorem q1570 : (Jvm.Cond.methodLink "AnyKeyTownModel" (337 : Nat) ({ cls := "AnyKeyTownModel", name := "groupOf", desc := "(II)I" } : Jvm.MethodName)) ∈ lw_all := lw_g (lw_at lw_m7 30 rfl) rfl
theorem q1571 : (Jvm.Cond.privateMethod ({ cls := "AnyKeyTownModel", name := "groupOf", desc := "(II)I" } : Jvm.MethodName)) ∈ lw_tbl := lw_at lw_m7 31 rfl
theorem q1572 : (Jvm.Cond.instanceMethod ({ cls := "AnyKeyTownModel", name := "groupOf", desc := "(II)I" } : Jvm.MethodName)) ∈ lw_all := lw_g (lw_at lw_m7 32 rfl) rfl
theorem q1573 : (Jvm.Cond.code ({ cls := "AnyKeyTownModel", name := "groupOf", desc := "(II)I" } : Jvm.MethodName) prog_20_method_65_code (6 : Nat) (Option.some Jvm.ClassFile.FieldType.int)) ∈ lw_all := lw_g (lw_at lw_m7 33 rfl) rfl
theorem q1575 : (Jvm.Cond.instanceMethod ({ cls := "AnyKeyTownModel", name := "inOrder", desc := "(II)I" } : Jvm.MethodName)) ∈ lw_all := lw_g (lw_at lw_m7 35 rfl) rfl
theorem q1576 : (Jvm.Cond.selects "AnyKeyTownModel" ({ cls := "AnyKeyTownModel", name := "inOrder", desc := "(II)I" } : Jvm.MethodName) ({ cls := "AnyKeyTownModel", name := "inOrder", desc := "(II)I" } : Jvm.MethodName)) ∈ lw_all := lw_g (lw_at lw_m7 36 rfl) rfl
theorem q1577 : (Jvm.Cond.code ({ cls := "AnyKeyTownModel", name := "inOrder", desc := "(II)I" } : Jvm.MethodName) prog_20_method_69_code (8 : Nat) (Option.some Jvm.ClassFile.FieldType.int)) ∈ lw_all := lw_g (lw_at lw_m7 37 rfl) rfl
theorem q1578 : (Jvm.Cond.methodLink "AnyKeyTownModel" (343 : Nat) ({ cls := "AnyKeyTownModel", name := "lowest", desc := "(I)I" } : Jvm.MethodName)) ∈ lw_all := lw_g (lw_at lw_m7 38 rfl) rfl
theorem q1579 : (Jvm.Cond.static ({ cls := "AnyKeyTownModel", name := "lowest", desc := "(I)I" } : Jvm.MethodName)) ∈ lw_all := lw_g (lw_at lw_m7 39 rfl) rfl
theorem q1580 : (Jvm.Cond.code ({ cls := "AnyKeyTownModel", name := "lowest", desc := "(I)I" } : Jvm.MethodName) prog_20_method_8_code (2 : Nat) (Option.some Jvm.ClassFile.FieldType.int)) ∈ lw_all := lw_g (lw_at lw_m7 40 rfl) rfl
theorem q1581 : (Jvm.Cond.methodLink "AnyKeyTownModel" (346 : Nat) ({ cls := "AnyKeyTownModel", name := "canGo", desc := "(III)Z" } : Jvm.MethodName)) ∈ lw_all := lw_g (lw_at lw_m7 41 rfl) rfl
theorem q1582 : (Jvm.Cond.privateMethod ({ cls := "AnyKeyTownModel", name := "canGo", desc := "(III)Z" } : Jvm.MethodName)) ∈ lw_tbl := lw_at lw_m7 42 rfl
theorem q1583 : (Jvm.Cond.instanceMethod ({ cls := "AnyKeyTownModel", name := "canGo", desc := "(III)Z" } : Jvm.MethodName)) ∈ lw_all := lw_g (lw_at lw_m7 43 rfl) rfl
theorem q1584 : (Jvm.Cond.code ({ cls := "AnyKeyTownModel", name := "canGo", desc := "(III)Z" } : Jvm.MethodName) prog_20_method_68_code (6 : Nat) (Option.some Jvm.ClassFile.FieldType.boolean)) ∈ lw_all := lw_g (lw_at lw_m7 44 rfl) rfl
theorem q1586 : (Jvm.Cond.instanceMethod ({ cls := "AnyKeyTownModel", name := "ways", desc := "(I)J" } : Jvm.MethodName)) ∈ lw_all := lw_g (lw_at lw_m7 46 rfl) rfl
theorem q1587 : (Jvm.Cond.selects "AnyKeyTownModel" ({ cls := "AnyKeyTownModel", name := "ways", desc := "(I)J" } : Jvm.MethodName) ({ cls := "AnyKeyTownModel", name := "ways", desc := "(I)J" } : Jvm.MethodName)) ∈ lw_all := lw_g (lw_at lw_m7 47 rfl) rfl
theorem q1588 : (Jvm.Cond.code ({ cls := "AnyKeyTownModel", name := "ways", desc := "(I)J" } : Jvm.MethodName) prog_20_method_70_code (7 : Nat) (Option.some Jvm.ClassFile.FieldType.long)) ∈ lw_all := lw_g (lw_at lw_m7 48 rfl) rfl
theorem q1589 : (Jvm.Cond.constant "AnyKeyTownModel" (349 : Nat) (65535 : Int32)) ∈ lw_all := lw_g (lw_at lw_m7 49 rfl) rfl
theorem q1590 : (Jvm.Cond.constantLong "AnyKeyTownModel" (350 : Nat) (-1 : Int64)) ∈ lw_all := lw_g (lw_at lw_m7 50 rfl) rfl
theorem q1592 : (Jvm.Cond.instanceMethod ({ cls := "AnyKeyTownModel", name := "keepsOut", desc := "(I)I" } : Jvm.MethodName)) ∈ lw_all := lw_g (lw_at lw_m7 52 rfl) rfl
theorem q1593 : (Jvm.Cond.selects "AnyKeyTownModel" ({ cls := "AnyKeyTownModel", name := "keepsOut", desc := "(I)I" } : Jvm.MethodName) ({ cls := "AnyKeyTownModel", name := "keepsOut", desc := "(I)I" } : Jvm.MethodName)) ∈ lw_all := lw_g (lw_at lw_m7 53 rfl) rfl
theorem q1594 : (Jvm.Cond.code ({ cls := "AnyKeyTownModel", name := "keepsOut", desc := "(I)I" } : Jvm.MethodName) prog_20_method_72_code (8 : Nat) (Option.some Jvm.ClassFile.FieldType.int)) ∈ lw_all := lw_g (lw_at lw_m7 54 rfl) rfl
theorem q1595 : (Jvm.Cond.methodLink "AnyKeyTownModel" (352 : Nat) ({ cls := "AnyKeyTownModel", name := "quarrels", desc := "(IIZ)V" } : Jvm.MethodName)) ∈ lw_all := lw_g (lw_at lw_m7 55 rfl) rfl
theorem q1596 : (Jvm.Cond.privateMethod ({ cls := "AnyKeyTownModel", name := "quarrels", desc := "(IIZ)V" } : Jvm.MethodName)) ∈ lw_tbl := lw_at lw_m7 56 rfl
theorem q1597 : (Jvm.Cond.instanceMethod ({ cls := "AnyKeyTownModel", name := "quarrels", desc := "(IIZ)V" } : Jvm.MethodName)) ∈ lw_all := lw_g (lw_at lw_m7 57 rfl) rfl
theorem q1598 : (Jvm.Cond.code ({ cls := "AnyKeyTownModel", name := "quarrels", desc := "(IIZ)V" } : Jvm.MethodName) prog_20_method_71_code (4 : Nat) (Option.none : Option Jvm.ClassFile.FieldType)) ∈ lw_all := lw_g (lw_at lw_m7 58 rfl) rfl
theorem q1600 : (Jvm.Cond.instanceMethod ({ cls := "AnyKeyTownModel", name := "chain", desc := "(II)I" } : Jvm.MethodName)) ∈ lw_all := lw_g (lw_at lw_m7 60 rfl) rfl
theorem q1601 : (Jvm.Cond.selects "AnyKeyTownModel" ({ cls := "AnyKeyTownModel", name := "chain", desc := "(II)I" } : Jvm.MethodName) ({ cls := "AnyKeyTownModel", name := "chain", desc := "(II)I" } : Jvm.MethodName)) ∈ lw_all := lw_g (lw_at lw_m7 61 rfl) rfl
theorem q1602 : (Jvm.Cond.code ({ cls := "AnyKeyTownModel", name := "chain", desc := "(II)I" } : Jvm.MethodName) prog_20_method_73_code (7 : Nat) (Option.some Jvm.ClassFile.FieldType.int)) ∈ lw_all := lw_g (lw_at lw_m7 62 rfl) rfl
theorem q1604 : (Jvm.Cond.instanceMethod ({ cls := "AnyKeyTownModel", name := "party", desc := "(I)I" } : Jvm.MethodName)) ∈ lw_all := lw_g (lw_at lw_m7 64 rfl) rfl
theorem q1605 : (Jvm.Cond.selects "AnyKeyTownModel" ({ cls := "AnyKeyTownModel", name := "party", desc := "(I)I" } : Jvm.MethodName) ({ cls := "AnyKeyTownModel", name := "party", desc := "(I)I" } : Jvm.MethodName)) ∈ lw_all := lw_g (lw_at lw_m7 65 rfl) rfl
theorem q1606 : (Jvm.Cond.code ({ cls := "AnyKeyTownModel", name := "party", desc := "(I)I" } : Jvm.MethodName) prog_20_method_75_code (4 : Nat) (Option.some Jvm.ClassFile.FieldType.int)) ∈ lw_all := lw_g (lw_at lw_m7 66 rfl) rfl
theorem q1607 : (Jvm.Cond.methodLink "AnyKeyTownModel" (356 : Nat) ({ cls := "AnyKeyTownModel", name := "isParty", desc := "(I)Z" } : Jvm.MethodName)) ∈ lw_all := lw_g (lw_at lw_m7 67 rfl) rfl
theorem q1608 : (Jvm.Cond.privateMethod ({ cls := "AnyKeyTownModel", name := "isParty", desc := "(I)Z" } : Jvm.MethodName)) ∈ lw_tbl := lw_at lw_m7 68 rfl
theorem q1609 : (Jvm.Cond.instanceMethod ({ cls := "AnyKeyTownModel", name := "isParty", desc := "(I)Z" } : Jvm.MethodName)) ∈ lw_all := lw_g (lw_at lw_m7 69 rfl) rfl
theorem q1610 : (Jvm.Cond.code ({ cls := "AnyKeyTownModel", name := "isParty", desc := "(I)Z" } : Jvm.MethodName) prog_20_method_74_code (3 : Nat) (Option.some Jvm.ClassFile.FieldType.boolean)) ∈ lw_all := lw_g (lw_at lw_m7 70 rfl) rfl
theorem q1612 : (Jvm.Cond.instanceMethod ({ cls := "AnyKeyTownModel", name := "twoStreets", desc := "()I" } : Jvm.MethodName)) ∈ lw_all := lw_g (lw_at lw_m7 72 rfl) rfl
theorem q1613 : (Jvm.Cond.selects "AnyKeyTownModel" ({ cls := "AnyKeyTownModel", name := "twoStreets", desc := "()I" } : Jvm.MethodName) ({ cls := "AnyKeyTownModel", name := "twoStreets", desc := "()I" } : Jvm.MethodName)) ∈ lw_all := lw_g (lw_at lw_m7 73 rfl) rfl
theorem q1614 : (Jvm.Cond.code ({ cls := "AnyKeyTownModel", name := "twoStreets", desc := "()I" } : Jvm.MethodName) prog_20_method_76_code (6 : Nat) (Option.some Jvm.ClassFile.FieldType.int)) ∈ lw_all := lw_g (lw_at lw_m7 74 rfl) rfl
theorem q1616 : (Jvm.Cond.instanceMethod ({ cls := "AnyKeyTownModel", name := "parties", desc := "(I)I" } : Jvm.MethodName)) ∈ lw_all := lw_g (lw_at lw_m7 76 rfl) rfl
theorem q1617 : (Jvm.Cond.selects "AnyKeyTownModel" ({ cls := "AnyKeyTownModel", name := "parties", desc := "(I)I" } : Jvm.MethodName) ({ cls := "AnyKeyTownModel", name := "parties", desc := "(I)I" } : Jvm.MethodName)) ∈ lw_all := lw_g (lw_at lw_m7 77 rfl) rfl
theorem q1618 : (Jvm.Cond.code ({ cls := "AnyKeyTownModel", name := "parties", desc := "(I)I" } : Jvm.MethodName) prog_20_method_80_code (3 : Nat) (Option.some Jvm.ClassFile.FieldType.int)) ∈ lw_all := lw_g (lw_at lw_m7 78 rfl) rfl
theorem q1619 : (Jvm.Cond.methodLink "AnyKeyTownModel" (365 : Nat) ({ cls := "AnyKeyTownModel", name := "fits", desc := "(I)Z" } : Jvm.MethodName)) ∈ lw_all := lw_g (lw_at lw_m7 79 rfl) rfl
theorem q1620 : (Jvm.Cond.privateMethod ({ cls := "AnyKeyTownModel", name := "fits", desc := "(I)Z" } : Jvm.MethodName)) ∈ lw_tbl := lw_at lw_m7 80 rfl
theorem q1621 : (Jvm.Cond.instanceMethod ({ cls := "AnyKeyTownModel", name := "fits", desc := "(I)Z" } : Jvm.MethodName)) ∈ lw_all := lw_g (lw_at lw_m7 81 rfl) rfl
theorem q1622 : (Jvm.Cond.code ({ cls := "AnyKeyTownModel", name := "fits", desc := "(I)Z" } : Jvm.MethodName) prog_20_method_79_code (6 : Nat) (Option.some Jvm.ClassFile.FieldType.boolean)) ∈ lw_all := lw_g (lw_at lw_m7 82 rfl) rfl
theorem q1623 : (Jvm.Cond.methodLink "AnyKeyTownModel" (359 : Nat) ({ cls := "AnyKeyTownModel", name := "usedAhead", desc := "(I)I" } : Jvm.MethodName)) ∈ lw_all := lw_g (lw_at lw_m7 83 rfl) rfl
theorem q1624 : (Jvm.Cond.privateMethod ({ cls := "AnyKeyTownModel", name := "usedAhead", desc := "(I)I" } : Jvm.MethodName)) ∈ lw_tbl := lw_at lw_m7 84 rfl
theorem q1625 : (Jvm.Cond.instanceMethod ({ cls := "AnyKeyTownModel", name := "usedAhead", desc := "(I)I" } : Jvm.MethodName)) ∈ lw_all := lw_g (lw_at lw_m7 85 rfl) rfl
theorem q1626 : (Jvm.Cond.code ({ cls := "AnyKeyTownModel", name := "usedAhead", desc := "(I)I" } : Jvm.MethodName) prog_20_method_78_code (4 : Nat) (Option.some Jvm.ClassFile.FieldType.int)) ∈ lw_all := lw_g (lw_at lw_m7 86 rfl) rfl
theorem q1627 : (Jvm.Cond.methodLink "AnyKeyTownModel" (362 : Nat) ({ cls := "AnyKeyTownModel", name := "canJoin", desc := "(II)Z" } : Jvm.MethodName)) ∈ lw_all := lw_g (lw_at lw_m7 87 rfl) rfl
theorem q1628 : (Jvm.Cond.privateMethod ({ cls := "AnyKeyTownModel", name := "canJoin", desc := "(II)Z" } : Jvm.MethodName)) ∈ lw_tbl := lw_at lw_m7 88 rfl
theorem q1629 : (Jvm.Cond.instanceMethod ({ cls := "AnyKeyTownModel", name := "canJoin", desc := "(II)Z" } : Jvm.MethodName)) ∈ lw_all := lw_g (lw_at lw_m7 89 rfl) rfl
theorem q1630 : (Jvm.Cond.code ({ cls := "AnyKeyTownModel", name := "canJoin", desc := "(II)Z" } : Jvm.MethodName) prog_20_method_77_code (4 : Nat) (Option.some Jvm.ClassFile.FieldType.boolean)) ∈ lw_all := lw_g (lw_at lw_m7 90 rfl) rfl
theorem q1632 : (Jvm.Cond.instanceMethod ({ cls := "AnyKeyTownModel", name := "mended", desc := "(I)I" } : Jvm.MethodName)) ∈ lw_all := lw_g (lw_at lw_m7 92 rfl) rfl
theorem q1633 : (Jvm.Cond.selects "AnyKeyTownModel" ({ cls := "AnyKeyTownModel", name := "mended", desc := "(I)I" } : Jvm.MethodName) ({ cls := "AnyKeyTownModel", name := "mended", desc := "(I)I" } : Jvm.MethodName)) ∈ lw_all := lw_g (lw_at lw_m7 93 rfl) rfl
theorem q1634 : (Jvm.Cond.code ({ cls := "AnyKeyTownModel", name := "mended", desc := "(I)I" } : Jvm.MethodName) prog_20_method_81_code (8 : Nat) (Option.some Jvm.ClassFile.FieldType.int)) ∈ lw_all := lw_g (lw_at lw_m7 94 rfl) rfl
theorem q1635 : (Jvm.Cond.methodLink "AnyKeyTownModel" (368 : Nat) ({ cls := "AnyKeyTownModel", name := "max", desc := "(II)I" } : Jvm.MethodName)) ∈ lw_all := lw_g (lw_at lw_m7 95 rfl) rfl
theorem q1636 : (Jvm.Cond.static ({ cls := "AnyKeyTownModel", name := "max", desc := "(II)I" } : Jvm.MethodName)) ∈ lw_all := lw_g (lw_at lw_m7 96 rfl) rfl
theorem q1637 : (Jvm.Cond.code ({ cls := "AnyKeyTownModel", name := "max", desc := "(II)I" } : Jvm.MethodName) prog_20_method_4_code (2 : Nat) (Option.some Jvm.ClassFile.FieldType.int)) ∈ lw_all := lw_g (lw_at lw_m7 97 rfl) rfl
theorem q1639 : (Jvm.Cond.instanceMethod ({ cls := "AnyKeyTownModel", name := "longest", desc := "(I)I" } : Jvm.MethodName)) ∈ lw_all := lw_g (lw_at lw_m7 99 rfl) rfl
theorem q1640 : (Jvm.Cond.selects "AnyKeyTownModel" ({ cls := "AnyKeyTownModel", name := "longest", desc := "(I)I" } : Jvm.MethodName) ({ cls := "AnyKeyTownModel", name := "longest", desc := "(I)I" } : Jvm.MethodName)) ∈ lw_all := lw_g (lw_at lw_m7 100 rfl) rfl
theorem q1641 : (Jvm.Cond.code ({ cls := "AnyKeyTownModel", name := "longest", desc := "(I)I" } : Jvm.MethodName) prog_20_method_82_code (7 : Nat) (Option.some Jvm.ClassFile.FieldType.int)) ∈ lw_all := lw_g (lw_at lw_m7 101 rfl) rfl
theorem q1643 : (Jvm.Cond.instanceMethod ({ cls := "AnyKeyTownModel", name := "luckless", desc := "(I)I" } : Jvm.MethodName)) ∈ lw_all := lw_g (lw_at lw_m7 103 rfl) rfl
theorem q1644 : (Jvm.Cond.selects "AnyKeyTownModel" ({ cls := "AnyKeyTownModel", name := "luckless", desc := "(I)I" } : Jvm.MethodName) ({ cls := "AnyKeyTownModel", name := "luckless", desc := "(I)I" } : Jvm.MethodName)) ∈ lw_all := lw_g (lw_at lw_m7 104 rfl) rfl
theorem q1645 : (Jvm.Cond.code ({ cls := "AnyKeyTownModel", name := "luckless", desc := "(I)I" } : Jvm.MethodName) prog_20_method_83_code (6 : Nat) (Option.some Jvm.ClassFile.FieldType.int)) ∈ lw_all := lw_g (lw_at lw_m7 105 rfl) rfl
theorem q1647 : (Jvm.Cond.instanceMethod ({ cls := "AnyKeyTownModel", name := "stretch", desc := "(I)I" } : Jvm.MethodName)) ∈ lw_all := lw_g (lw_at lw_m7 107 rfl) rfl
theorem q1648 : (Jvm.Cond.selects "AnyKeyTownModel" ({ cls := "AnyKeyTownModel", name := "stretch", desc := "(I)I" } : Jvm.MethodName) ({ cls := "AnyKeyTownModel", name := "stretch", desc := "(I)I" } : Jvm.MethodName)) ∈ lw_all := lw_g (lw_at lw_m7 108 rfl) rfl
theorem q1649 : (Jvm.Cond.code ({ cls := "AnyKeyTownModel", name := "stretch", desc := "(I)I" } : Jvm.MethodName) prog_20_method_85_code (6 : Nat) (Option.some Jvm.ClassFile.FieldType.int)) ∈ lw_all := lw_g (lw_at lw_m7 109 rfl) rfl
theorem q1650 : (Jvm.Cond.methodLink "AnyKeyTownModel" (371 : Nat) ({ cls := "AnyKeyTownModel", name := "isHouse", desc := "(I)Z" } : Jvm.MethodName)) ∈ lw_all := lw_g (lw_at lw_m7 110 rfl) rfl
theorem q1651 : (Jvm.Cond.privateMethod ({ cls := "AnyKeyTownModel", name := "isHouse", desc := "(I)Z" } : Jvm.MethodName)) ∈ lw_tbl := lw_at lw_m7 111 rfl
theorem q1652 : (Jvm.Cond.instanceMethod ({ cls := "AnyKeyTownModel", name := "isHouse", desc := "(I)Z" } : Jvm.MethodName)) ∈ lw_all := lw_g (lw_at lw_m7 112 rfl) rfl
theorem q1653 : (Jvm.Cond.code ({ cls := "AnyKeyTownModel", name := "isHouse", desc := "(I)Z" } : Jvm.MethodName) prog_20_method_84_code (3 : Nat) (Option.some Jvm.ClassFile.FieldType.boolean)) ∈ lw_all := lw_g (lw_at lw_m7 113 rfl) rfl
theorem q1655 : (Jvm.Cond.instanceMethod ({ cls := "AnyKeyTownModel", name := "inDebt", desc := "(I)I" } : Jvm.MethodName)) ∈ lw_all := lw_g (lw_at lw_m7 115 rfl) rfl
theorem q1656 : (Jvm.Cond.selects "AnyKeyTownModel" ({ cls := "AnyKeyTownModel", name := "inDebt", desc := "(I)I" } : Jvm.MethodName) ({ cls := "AnyKeyTownModel", name := "inDebt", desc := "(I)I" } : Jvm.MethodName)) ∈ lw_all := lw_g (lw_at lw_m7 116 rfl) rfl
theorem q1657 : (Jvm.Cond.code ({ cls := "AnyKeyTownModel", name := "inDebt", desc := "(I)I" } : Jvm.MethodName) prog_20_method_86_code (4 : Nat) (Option.some Jvm.ClassFile.FieldType.int)) ∈ lw_all := lw_g (lw_at lw_m7 117 rfl) rfl
theorem q1659 : (Jvm.Cond.instanceMethod ({ cls := "AnyKeyTownModel", name := "meeting", desc := "(I)I" } : Jvm.MethodName)) ∈ lw_all := lw_g (lw_at lw_m7 119 rfl) rfl
theorem q1660 : (Jvm.Cond.selects "AnyKeyTownModel" ({ cls := "AnyKeyTownModel", name := "meeting", desc := "(I)I" } : Jvm.MethodName) ({ cls := "AnyKeyTownModel", name := "meeting", desc := "(I)I" } : Jvm.MethodName)) ∈ lw_all := lw_g (lw_at lw_m7 120 rfl) rfl
theorem q1661 : (Jvm.Cond.code ({ cls := "AnyKeyTownModel", name := "meeting", desc := "(I)I" } : Jvm.MethodName) prog_20_method_88_code (4 : Nat) (Option.some Jvm.ClassFile.FieldType.int)) ∈ lw_all := lw_g (lw_at lw_m7 121 rfl) rfl
theorem q1662 : (Jvm.Cond.methodLink "AnyKeyTownModel" (374 : Nat) ({ cls := "AnyKeyTownModel", name := "stepsTo", desc := "(I)I" } : Jvm.MethodName)) ∈ lw_all := lw_g (lw_at lw_m7 122 rfl) rfl
theorem q1663 : (Jvm.Cond.privateMethod ({ cls := "AnyKeyTownModel", name := "stepsTo", desc := "(I)I" } : Jvm.MethodName)) ∈ lw_tbl := lw_at lw_m7 123 rfl
theorem q1664 : (Jvm.Cond.instanceMethod ({ cls := "AnyKeyTownModel", name := "stepsTo", desc := "(I)I" } : Jvm.MethodName)) ∈ lw_all := lw_g (lw_at lw_m7 124 rfl) rfl
theorem q1665 : (Jvm.Cond.code ({ cls := "AnyKeyTownModel", name := "stepsTo", desc := "(I)I" } : Jvm.MethodName) prog_20_method_87_code (4 : Nat) (Option.some Jvm.ClassFile.FieldType.int)) ∈ lw_all := lw_g (lw_at lw_m7 125 rfl) rfl
theorem q1667 : (Jvm.Cond.instanceMethod ({ cls := "AnyKeyTownModel", name := "across", desc := "(II)I" } : Jvm.MethodName)) ∈ lw_all := lw_g (lw_at lw_m7 127 rfl) rfl
theorem q1668 : (Jvm.Cond.selects "AnyKeyTownModel" ({ cls := "AnyKeyTownModel", name := "across", desc := "(II)I" } : Jvm.MethodName) ({ cls := "AnyKeyTownModel", name := "across", desc := "(II)I" } : Jvm.MethodName)) ∈ lw_all := lw_g (lw_at lw_m7 128 rfl) rfl
theorem q1669 : (Jvm.Cond.code ({ cls := "AnyKeyTownModel", name := "across", desc := "(II)I" } : Jvm.MethodName) prog_20_method_89_code (5 : Nat) (Option.some Jvm.ClassFile.FieldType.int)) ∈ lw_all := lw_g (lw_at lw_m7 129 rfl) rfl
theorem q1670 : (Jvm.Cond.methodLink "AnyKeyTownModel" (377 : Nat) ({ cls := "AnyKeyTownModel", name := "pairs", desc := "(III)V" } : Jvm.MethodName)) ∈ lw_all := lw_g (lw_at lw_m7 130 rfl) rfl
theorem q1671 : (Jvm.Cond.privateMethod ({ cls := "AnyKeyTownModel", name := "pairs", desc := "(III)V" } : Jvm.MethodName)) ∈ lw_tbl := lw_at lw_m7 131 rfl
theorem q1672 : (Jvm.Cond.instanceMethod ({ cls := "AnyKeyTownModel", name := "pairs", desc := "(III)V" } : Jvm.MethodName)) ∈ lw_all := lw_g (lw_at lw_m7 132 rfl) rfl
theorem q1673 : (Jvm.Cond.code ({ cls := "AnyKeyTownModel", name := "pairs", desc := "(III)V" } : Jvm.MethodName) prog_20_method_90_code (6 : Nat) (Option.none : Option Jvm.ClassFile.FieldType)) ∈ lw_all := lw_g (lw_at lw_m7 133 rfl) rfl
theorem q1675 : (Jvm.Cond.instanceMethod ({ cls := "AnyKeyTownModel", name := "madeEven", desc := "(I)I" } : Jvm.MethodName)) ∈ lw_all := lw_g (lw_at lw_m7 135 rfl) rfl
theorem q1676 : (Jvm.Cond.selects "AnyKeyTownModel" ({ cls := "AnyKeyTownModel", name := "madeEven", desc := "(I)I" } : Jvm.MethodName) ({ cls := "AnyKeyTownModel", name := "madeEven", desc := "(I)I" } : Jvm.MethodName)) ∈ lw_all := lw_g (lw_at lw_m7 136 rfl) rfl
theorem q1677 : (Jvm.Cond.code ({ cls := "AnyKeyTownModel", name := "madeEven", desc := "(I)I" } : Jvm.MethodName) prog_20_method_91_code (2 : Nat) (Option.some Jvm.ClassFile.FieldType.int)) ∈ lw_all := lw_g (lw_at lw_m7 137 rfl) rfl
theorem q1678 : (Jvm.Cond.constant "AnyKeyTownModel" (381 : Nat) (-1000000 : Int32)) ∈ lw_all := lw_g (lw_at lw_m7 138 rfl) rfl
theorem q1680 : (Jvm.Cond.instanceMethod ({ cls := "AnyKeyTownModel", name := "mostOwed", desc := "()I" } : Jvm.MethodName)) ∈ lw_all := lw_g (lw_at lw_m7 140 rfl) rfl
theorem q1681 : (Jvm.Cond.selects "AnyKeyTownModel" ({ cls := "AnyKeyTownModel", name := "mostOwed", desc := "()I" } : Jvm.MethodName) ({ cls := "AnyKeyTownModel", name := "mostOwed", desc := "()I" } : Jvm.MethodName)) ∈ lw_all := lw_g (lw_at lw_m7 141 rfl) rfl
theorem q1682 : (Jvm.Cond.code ({ cls := "AnyKeyTownModel", name := "mostOwed", desc := "()I" } : Jvm.MethodName) prog_20_method_92_code (3 : Nat) (Option.some Jvm.ClassFile.FieldType.int)) ∈ lw_all := lw_g (lw_at lw_m7 142 rfl) rfl
theorem q1683 : (Jvm.Cond.methodLink "AnyKeyTownModel" (382 : Nat) ({ cls := "AnyKeyTownModel", name := "madeEven", desc := "(I)I" } : Jvm.MethodName)) ∈ lw_all := lw_g (lw_at lw_m7 143 rfl) rfl
theorem q1685 : (Jvm.Cond.instanceMethod ({ cls := "AnyKeyTownModel", name := "hermit", desc := "(II)I" } : Jvm.MethodName)) ∈ lw_all := lw_g (lw_at lw_m7 145 rfl) rfl
theorem q1686 : (Jvm.Cond.selects "AnyKeyTownModel" ({ cls := "AnyKeyTownModel", name := "hermit", desc := "(II)I" } : Jvm.MethodName) ({ cls := "AnyKeyTownModel", name := "hermit", desc := "(II)I" } : Jvm.MethodName)) ∈ lw_all := lw_g (lw_at lw_m7 146 rfl) rfl
theorem q1687 : (Jvm.Cond.code ({ cls := "AnyKeyTownModel", name := "hermit", desc := "(II)I" } : Jvm.MethodName) prog_20_method_93_code (5 : Nat) (Option.some Jvm.ClassFile.FieldType.int)) ∈ lw_all := lw_g (lw_at lw_m7 147 rfl) rfl
theorem q1688 : (Jvm.Cond.methodLink "AnyKeyTownModel" (385 : Nat) ({ cls := "AnyKeyTownModel", name := "octet", desc := "(I)I" } : Jvm.MethodName)) ∈ lw_all := lw_g (lw_at lw_m7 148 rfl) rfl
theorem q1689 : (Jvm.Cond.privateMethod ({ cls := "AnyKeyTownModel", name := "octet", desc := "(I)I" } : Jvm.MethodName)) ∈ lw_tbl := lw_at lw_m7 149 rfl
theorem q1690 : (Jvm.Cond.instanceMethod ({ cls := "AnyKeyTownModel", name := "octet", desc := "(I)I" } : Jvm.MethodName)) ∈ lw_all := lw_g (lw_at lw_m7 150 rfl) rfl
theorem q1691 : (Jvm.Cond.code ({ cls := "AnyKeyTownModel", name := "octet", desc := "(I)I" } : Jvm.MethodName) prog_20_method_16_code (2 : Nat) (Option.some Jvm.ClassFile.FieldType.int)) ∈ lw_all := lw_g (lw_at lw_m7 151 rfl) rfl
theorem q1693 : (Jvm.Cond.instanceMethod ({ cls := "AnyKeyTownModel", name := "burglar", desc := "(I)I" } : Jvm.MethodName)) ∈ lw_all := lw_g (lw_at lw_m7 153 rfl) rfl
theorem q1694 : (Jvm.Cond.selects "AnyKeyTownModel" ({ cls := "AnyKeyTownModel", name := "burglar", desc := "(I)I" } : Jvm.MethodName) ({ cls := "AnyKeyTownModel", name := "burglar", desc := "(I)I" } : Jvm.MethodName)) ∈ lw_all := lw_g (lw_at lw_m7 154 rfl) rfl
theorem q1695 : (Jvm.Cond.code ({ cls := "AnyKeyTownModel", name := "burglar", desc := "(I)I" } : Jvm.MethodName) prog_20_method_94_code (4 : Nat) (Option.some Jvm.ClassFile.FieldType.int)) ∈ lw_all := lw_g (lw_at lw_m7 155 rfl) rfl
theorem q1697 : (Jvm.Cond.instanceMethod ({ cls := "AnyKeyTownModel", name := "calls", desc := "(II)I" } : Jvm.MethodName)) ∈ lw_all := lw_g (lw_at lw_m7 157 rfl) rfl
theorem q1698 : (Jvm.Cond.selects "AnyKeyTownModel" ({ cls := "AnyKeyTownModel", name := "calls", desc := "(II)I" } : Jvm.MethodName) ({ cls := "AnyKeyTownModel", name := "calls", desc := "(II)I" } : Jvm.MethodName)) ∈ lw_all := lw_g (lw_at lw_m7 158 rfl) rfl
theorem q1699 : (Jvm.Cond.code ({ cls := "AnyKeyTownModel", name := "calls", desc := "(II)I" } : Jvm.MethodName) prog_20_method_95_code (5 : Nat) (Option.some Jvm.ClassFile.FieldType.int)) ∈ lw_all := lw_g (lw_at lw_m7 159 rfl) rfl
theorem q1700 : (Jvm.Cond.methodLink "AnyKeyTownModel" (388 : Nat) ({ cls := "AnyKeyTownModel", name := "callsAt", desc := "(IIII)I" } : Jvm.MethodName)) ∈ lw_all := lw_g (lw_at lw_m7 160 rfl) rfl
theorem q1701 : (Jvm.Cond.privateMethod ({ cls := "AnyKeyTownModel", name := "callsAt", desc := "(IIII)I" } : Jvm.MethodName)) ∈ lw_tbl := lw_at lw_m7 161 rfl
theorem q1702 : (Jvm.Cond.instanceMethod ({ cls := "AnyKeyTownModel", name := "callsAt", desc := "(IIII)I" } : Jvm.MethodName)) ∈ lw_all := lw_g (lw_at lw_m7 162 rfl) rfl
theorem q1703 : (Jvm.Cond.code ({ cls := "AnyKeyTownModel", name := "callsAt", desc := "(IIII)I" } : Jvm.MethodName) prog_20_method_96_code (9 : Nat) (Option.some Jvm.ClassFile.FieldType.int)) ∈ lw_all := lw_g (lw_at lw_m7 163 rfl) rfl
theorem q1704 : (Jvm.Cond.constant "AnyKeyTownModel" (392 : Nat) (1000000 : Int32)) ∈ lw_all := lw_g (lw_at lw_m7 164 rfl) rfl
theorem q1706 : (Jvm.Cond.instanceMethod ({ cls := "AnyKeyTownModel", name := "changed", desc := "(II)I" } : Jvm.MethodName)) ∈ lw_all := lw_g (lw_at lw_m7 166 rfl) rfl
theorem q1707 : (Jvm.Cond.selects "AnyKeyTownModel" ({ cls := "AnyKeyTownModel", name := "changed", desc := "(II)I" } : Jvm.MethodName) ({ cls := "AnyKeyTownModel", name := "changed", desc := "(II)I" } : Jvm.MethodName)) ∈ lw_all := lw_g (lw_at lw_m7 167 rfl) rfl
theorem q1708 : (Jvm.Cond.code ({ cls := "AnyKeyTownModel", name := "changed", desc := "(II)I" } : Jvm.MethodName) prog_20_method_97_code (4 : Nat) (Option.some Jvm.ClassFile.FieldType.int)) ∈ lw_all := lw_g (lw_at lw_m7 168 rfl) rfl
theorem q1709 : (Jvm.Cond.methodLink "AnyKeyTownModel" (393 : Nat) ({ cls := "AnyKeyTownModel", name := "mostHoused", desc := "(I)I" } : Jvm.MethodName)) ∈ lw_all := lw_g (lw_at lw_m7 169 rfl) rfl
theorem q1710 : (Jvm.Cond.privateMethod ({ cls := "AnyKeyTownModel", name := "mostHoused", desc := "(I)I" } : Jvm.MethodName)) ∈ lw_tbl := lw_at lw_m7 170 rfl
theorem q1711 : (Jvm.Cond.instanceMethod ({ cls := "AnyKeyTownModel", name := "mostHoused", desc := "(I)I" } : Jvm.MethodName)) ∈ lw_all := lw_g (lw_at lw_m7 171 rfl) rfl
theorem q1712 : (Jvm.Cond.code ({ cls := "AnyKeyTownModel", name := "mostHoused", desc := "(I)I" } : Jvm.MethodName) prog_20_method_98_code (6 : Nat) (Option.some Jvm.ClassFile.FieldType.int)) ∈ lw_all := lw_g (lw_at lw_m7 172 rfl) rfl
theorem q1713 : (Jvm.Cond.methodLink "AnyKeyTownModel" (396 : Nat) ({ cls := "AnyKeyTownModel", name := "allHoused", desc := "(I)I" } : Jvm.MethodName)) ∈ lw_all := lw_g (lw_at lw_m7 173 rfl) rfl
theorem q1714 : (Jvm.Cond.privateMethod ({ cls := "AnyKeyTownModel", name := "allHoused", desc := "(I)I" } : Jvm.MethodName)) ∈ lw_tbl := lw_at lw_m7 174 rfl
theorem q1715 : (Jvm.Cond.instanceMethod ({ cls := "AnyKeyTownModel", name := "allHoused", desc := "(I)I" } : Jvm.MethodName)) ∈ lw_all := lw_g (lw_at lw_m7 175 rfl) rfl
theorem q1716 : (Jvm.Cond.code ({ cls := "AnyKeyTownModel", name := "allHoused", desc := "(I)I" } : Jvm.MethodName) prog_20_method_99_code (5 : Nat) (Option.some Jvm.ClassFile.FieldType.int)) ∈ lw_all := lw_g (lw_at lw_m7 176 rfl) rfl
theorem q1718 : (Jvm.Cond.instanceMethod ({ cls := "AnyKeyTownModel", name := "between", desc := "(II)I" } : Jvm.MethodName)) ∈ lw_all := lw_g (lw_at lw_m7 178 rfl) rfl
theorem q1719 : (Jvm.Cond.selects "AnyKeyTownModel" ({ cls := "AnyKeyTownModel", name := "between", desc := "(II)I" } : Jvm.MethodName) ({ cls := "AnyKeyTownModel", name := "between", desc := "(II)I" } : Jvm.MethodName)) ∈ lw_all := lw_g (lw_at lw_m7 179 rfl) rfl
theorem q1720 : (Jvm.Cond.code ({ cls := "AnyKeyTownModel", name := "between", desc := "(II)I" } : Jvm.MethodName) prog_20_method_100_code (5 : Nat) (Option.some Jvm.ClassFile.FieldType.int)) ∈ lw_all := lw_g (lw_at lw_m7 180 rfl) rfl
theorem q1722 : (Jvm.Cond.instanceMethod ({ cls := "AnyKeyTownModel", name := "seed", desc := "(I)Z" } : Jvm.MethodName)) ∈ lw_all := lw_g (lw_at lw_m7 182 rfl) rfl
theorem q1723 : (Jvm.Cond.selects "AnyKeyTownModel" ({ cls := "AnyKeyTownModel", name := "seed", desc := "(I)Z" } : Jvm.MethodName) ({ cls := "AnyKeyTownModel", name := "seed", desc := "(I)Z" } : Jvm.MethodName)) ∈ lw_all := lw_g (lw_at lw_m7 183 rfl) rfl
theorem q1724 : (Jvm.Cond.code ({ cls := "AnyKeyTownModel", name := "seed", desc := "(I)Z" } : Jvm.MethodName) prog_20_method_101_code (2 : Nat) (Option.some Jvm.ClassFile.FieldType.boolean)) ∈ lw_all := lw_g (lw_at lw_m7 184 rfl) rfl
theorem q1726 : (Jvm.Cond.instanceMethod ({ cls := "AnyKeyTownModel", name := "keep", desc := "()I" } : Jvm.MethodName)) ∈ lw_all := lw_g (lw_at lw_m7 186 rfl) rfl
theorem q1727 : (Jvm.Cond.selects "AnyKeyTownModel" ({ cls := "AnyKeyTownModel", name := "keep", desc := "()I" } : Jvm.MethodName) ({ cls := "AnyKeyTownModel", name := "keep", desc := "()I" } : Jvm.MethodName)) ∈ lw_all := lw_g (lw_at lw_m7 187 rfl) rfl
theorem q1728 : (Jvm.Cond.code ({ cls := "AnyKeyTownModel", name := "keep", desc := "()I" } : Jvm.MethodName) prog_20_method_102_code (1 : Nat) (Option.some Jvm.ClassFile.FieldType.int)) ∈ lw_all := lw_g (lw_at lw_m7 188 rfl) rfl
theorem q1730 : (Jvm.Cond.instanceMethod ({ cls := "AnyKeyTownModel", name := "undo", desc := "()Z" } : Jvm.MethodName)) ∈ lw_all := lw_g (lw_at lw_m7 190 rfl) rfl
theorem q1731 : (Jvm.Cond.selects "AnyKeyTownModel" ({ cls := "AnyKeyTownModel", name := "undo", desc := "()Z" } : Jvm.MethodName) ({ cls := "AnyKeyTownModel", name := "undo", desc := "()Z" } : Jvm.MethodName)) ∈ lw_all := lw_g (lw_at lw_m7 191 rfl) rfl
theorem q1732 : (Jvm.Cond.code ({ cls := "AnyKeyTownModel", name := "undo", desc := "()Z" } : Jvm.MethodName) prog_20_method_103_code (1 : Nat) (Option.some Jvm.ClassFile.FieldType.boolean)) ∈ lw_all := lw_g (lw_at lw_m7 192 rfl) rfl
theorem q1734 : (Jvm.Cond.instanceMethod ({ cls := "AnyKeyTownModel", name := "check", desc := "(I)I" } : Jvm.MethodName)) ∈ lw_all := lw_g (lw_at lw_m7 194 rfl) rfl
theorem q1735 : (Jvm.Cond.selects "AnyKeyTownModel" ({ cls := "AnyKeyTownModel", name := "check", desc := "(I)I" } : Jvm.MethodName) ({ cls := "AnyKeyTownModel", name := "check", desc := "(I)I" } : Jvm.MethodName)) ∈ lw_all := lw_g (lw_at lw_m7 195 rfl) rfl
theorem q1736 : (Jvm.Cond.code ({ cls := "AnyKeyTownModel", name := "check", desc := "(I)I" } : Jvm.MethodName) prog_20_method_104_code (3 : Nat) (Option.some Jvm.ClassFile.FieldType.int)) ∈ lw_all := lw_g (lw_at lw_m7 196 rfl) rfl
theorem q1738 : (Jvm.Cond.instanceMethod ({ cls := "AnyKeyTownModel", name := "count", desc := "(I)I" } : Jvm.MethodName)) ∈ lw_all := lw_g (lw_at lw_m7 198 rfl) rfl
theorem q1739 : (Jvm.Cond.selects "AnyKeyTownModel" ({ cls := "AnyKeyTownModel", name := "count", desc := "(I)I" } : Jvm.MethodName) ({ cls := "AnyKeyTownModel", name := "count", desc := "(I)I" } : Jvm.MethodName)) ∈ lw_all := lw_g (lw_at lw_m7 199 rfl) rfl
theorem q1740 : (Jvm.Cond.code ({ cls := "AnyKeyTownModel", name := "count", desc := "(I)I" } : Jvm.MethodName) prog_20_method_107_code (2 : Nat) (Option.some Jvm.ClassFile.FieldType.int)) ∈ lw_all := lw_g (lw_at lw_m7 200 rfl) rfl
theorem q1741 : (Jvm.Cond.methodLink "AnyKeyTownModel" (403 : Nat) ({ cls := "AnyKeyTownModel", name := "twos", desc := "()I" } : Jvm.MethodName)) ∈ lw_all := lw_g (lw_at lw_m7 201 rfl) rfl
theorem q1742 : (Jvm.Cond.privateMethod ({ cls := "AnyKeyTownModel", name := "twos", desc := "()I" } : Jvm.MethodName)) ∈ lw_tbl := lw_at lw_m7 202 rfl
theorem q1743 : (Jvm.Cond.instanceMethod ({ cls := "AnyKeyTownModel", name := "twos", desc := "()I" } : Jvm.MethodName)) ∈ lw_all := lw_g (lw_at lw_m7 203 rfl) rfl
theorem q1744 : (Jvm.Cond.code ({ cls := "AnyKeyTownModel", name := "twos", desc := "()I" } : Jvm.MethodName) prog_20_method_105_code (3 : Nat) (Option.some Jvm.ClassFile.FieldType.int)) ∈ lw_all := lw_g (lw_at lw_m7 204 rfl) rfl
theorem q1745 : (Jvm.Cond.methodLink "AnyKeyTownModel" (406 : Nat) ({ cls := "AnyKeyTownModel", name := "favoursOfAll", desc := "()I" } : Jvm.MethodName)) ∈ lw_all := lw_g (lw_at lw_m7 205 rfl) rfl
theorem q1746 : (Jvm.Cond.privateMethod ({ cls := "AnyKeyTownModel", name := "favoursOfAll", desc := "()I" } : Jvm.MethodName)) ∈ lw_tbl := lw_at lw_m7 206 rfl
theorem q1747 : (Jvm.Cond.instanceMethod ({ cls := "AnyKeyTownModel", name := "favoursOfAll", desc := "()I" } : Jvm.MethodName)) ∈ lw_all := lw_g (lw_at lw_m7 207 rfl) rfl
theorem q1748 : (Jvm.Cond.code ({ cls := "AnyKeyTownModel", name := "favoursOfAll", desc := "()I" } : Jvm.MethodName) prog_20_method_106_code (3 : Nat) (Option.some Jvm.ClassFile.FieldType.int)) ∈ lw_all := lw_g (lw_at lw_m7 208 rfl) rfl
theorem in_X6 : ∀ w ∈ wsX60, w ∈ lw_all := lw_in wsX60 [1225, 1227, 1229, 1231, 1233, 1235, 1237, 1239, 1241, 1243, 1245, 1247, 1249, 1251, 1253, 1255, 1257, 1259, 1261, 1263, 1265, 1267, 1269, 1271, 1273, 1275, 1277, 1279, 1281, 1283, 1285, 1287, 1289, 1291, 1293, 1295, 1297, 1299, 1301, 1303, 1305, 1307, 1309, 1311, 1313, 1315, 1317, 1319, 1321, 1323, 1325, 1327] (by decide +kernel) (by decide +kernel)
