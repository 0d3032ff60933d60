/-! AnyKeyTown -/
set_option maxRecDepth 100000
def RX0 : String := "AnyKeyTown"
def TX0 : u_T := fun k => match k with
  | 0 => ("AnyKeyTown", "roll", "LAnyKeyTown$Roll;", true)
  | 1 => ("AnyKeyTown", "trial", "LAnyKeyTown$Roll;", true)
  | 2 => ("AnyKeyTown", "moment", "LAnyKeyTown$Moment;", true)
  | 3 => ("AnyKeyTown", "town", "LAnyKeyTown$Town;", true)
  | 4 => ("AnyKeyTown", "then", "LAnyKeyTown$Town;", true)
  | 5 => ("AnyKeyTown", "kept", "LAnyKeyTown$Town;", true)
  | 6 => ("AnyKeyTown", "tape", "[B", true)
  | 7 => ("AnyKeyTown", "law", "LAnyKeyTown$Text;", false)
  | 8 => ("AnyKeyTown", "taped", "I", false)
  | 9 => ("AnyKeyTown", "isKept", "Z", false)
  | 10 => ("AnyKeyTown", "left", "[J", true)
  | 11 => ("AnyKeyTown", "partyOf", "[I", true)
  | 12 => ("AnyKeyTown", "heads", "[I", true)
  | 13 => ("AnyKeyTown", "paired", "[I", true)
  | 14 => ("AnyKeyTown", "rows", "[I", true)
  | 15 => ("AnyKeyTown", "order", "[I", true)
  | 16 => ("AnyKeyTown", "atLeft", "[[I", true)
  | 17 => ("AnyKeyTown", "atRight", "[[I", true)
  | _ => ("AnyKeyTown", "most", "[I", true)
def tyX0 : Nat → FieldType := fun k => match k with
  | 0 => .object "AnyKeyTown$Roll"
  | 1 => .object "AnyKeyTown$Roll"
  | 2 => .object "AnyKeyTown$Moment"
  | 3 => .object "AnyKeyTown$Town"
  | 4 => .object "AnyKeyTown$Town"
  | 5 => .object "AnyKeyTown$Town"
  | 6 => .array .byte
  | 7 => .object "AnyKeyTown$Text"
  | 8 => .int
  | 9 => .boolean
  | 10 => .array .long
  | 11 => .array .int
  | 12 => .array .int
  | 13 => .array .int
  | 14 => .array .int
  | 15 => .array .int
  | 16 => .array (.array .int)
  | 17 => .array (.array .int)
  | _ => .array .int
abbrev wsX00 : List Cond := u_ws RX0 TX0 19
set_option maxRecDepth 100000 in
theorem nmX0 : ∀ a, a < 19 → ∀ b, b < 19 → a ≠ b → (TX0 a).2.1 ≠ (TX0 b).2.1 := by decide +kernel
set_option maxRecDepth 100000 in
theorem tyX0_ok : ∀ k, k < 19 → parseFieldDescriptor (TX0 k).2.2.1 = some (tyX0 k) := by decide +kernel
abbrev cX0_init : ByteArray := prog_1_method_8_code
def yX0_init : MethodName := ⟨RX0, "<init>", "()V"⟩
def dkwX0_init_7 : List UInt8 := [42, 17, 1, 0, 188, 10, 181, 0, 107, 42, 180, 0, 63, 4, 181, 0, 110, 177]
abbrev dktX0_init_7 : List UInt8 := dkwX0_init_7 ++ []
def dkwX0_init_6 : List UInt8 := [42, 16, 8, 16, 8, 197, 0, 99, 2, 181, 0, 101, 42, 16, 8, 16, 8, 197, 0, 99, 2, 181, 0, 104]
abbrev dktX0_init_6 : List UInt8 := dkwX0_init_6 ++ dktX0_init_7
def dkwX0_init_5 : List UInt8 := [17, 1, 0, 188, 10, 181, 0, 90, 42, 16, 8, 188, 10, 181, 0, 93, 42, 16, 8, 188, 10, 181, 0, 96]
abbrev dktX0_init_5 : List UInt8 := dkwX0_init_5 ++ dktX0_init_6
def dkwX0_init_4 : List UInt8 := [18, 78, 188, 11, 181, 0, 79, 42, 16, 16, 188, 10, 181, 0, 83, 42, 18, 78, 188, 10, 181, 0, 87, 42]
abbrev dktX0_init_4 : List UInt8 := dkwX0_init_4 ++ dktX0_init_5
def dkwX0_init_3 : List UInt8 := [181, 0, 70, 42, 17, 1, 4, 188, 8, 181, 0, 73, 42, 187, 0, 37, 89, 183, 0, 77, 181, 0, 28, 42]
abbrev dktX0_init_3 : List UInt8 := dkwX0_init_3 ++ dktX0_init_4
def dkwX0_init_2 : List UInt8 := [181, 0, 63, 42, 187, 0, 58, 89, 42, 183, 0, 60, 181, 0, 67, 42, 187, 0, 58, 89, 42, 183, 0, 60]
abbrev dktX0_init_2 : List UInt8 := dkwX0_init_2 ++ dktX0_init_3
def dkwX0_init_1 : List UInt8 := [181, 0, 52, 42, 187, 0, 55, 89, 183, 0, 57, 181, 0, 32, 42, 187, 0, 58, 89, 42, 183, 0, 60]
abbrev dktX0_init_1 : List UInt8 := dkwX0_init_1 ++ dktX0_init_2
def dkwX0_init_0 : List UInt8 := [42, 183, 0, 45, 42, 187, 0, 23, 89, 183, 0, 51, 181, 0, 16, 42, 187, 0, 23, 89, 183, 0, 51]
abbrev dktX0_init_0 : List UInt8 := dkwX0_init_0 ++ dktX0_init_1
theorem dksX0_init_0 : cX0_init.data.toList.drop 0 = dktX0_init_0 := by decide +kernel
theorem dksX0_init_1 : cX0_init.data.toList.drop 23 = dktX0_init_1 := dk_seg dksX0_init_0 23 rfl rfl
theorem dksX0_init_2 : cX0_init.data.toList.drop 46 = dktX0_init_2 := dk_seg dksX0_init_1 23 rfl rfl
theorem dksX0_init_3 : cX0_init.data.toList.drop 70 = dktX0_init_3 := dk_seg dksX0_init_2 24 rfl rfl
theorem dksX0_init_4 : cX0_init.data.toList.drop 94 = dktX0_init_4 := dk_seg dksX0_init_3 24 rfl rfl
theorem dksX0_init_5 : cX0_init.data.toList.drop 118 = dktX0_init_5 := dk_seg dksX0_init_4 24 rfl rfl
theorem dksX0_init_6 : cX0_init.data.toList.drop 142 = dktX0_init_6 := dk_seg dksX0_init_5 24 rfl rfl
theorem dksX0_init_7 : cX0_init.data.toList.drop 166 = dktX0_init_7 := dk_seg dksX0_init_6 24 rfl rfl
theorem dX0_init_0 : decode cX0_init 0 = .ok (.aload_n 0, 1) := dk_42 (dk_at dksX0_init_0 0 rfl rfl)
theorem dX0_init_1 : decode cX0_init 1 = .ok (.invokespecial 45, 3) := dk_183 0 45 (dk_at dksX0_init_0 1 rfl rfl)
theorem dX0_init_4 : decode cX0_init 4 = .ok (.aload_n 0, 1) := dk_42 (dk_at dksX0_init_0 4 rfl rfl)
theorem dX0_init_5 : decode cX0_init 5 = .ok (.new 23, 3) := dk_187 0 23 (dk_at dksX0_init_0 5 rfl rfl)
theorem dX0_init_8 : decode cX0_init 8 = .ok (.dup, 1) := dk_89 (dk_at dksX0_init_0 8 rfl rfl)
theorem dX0_init_9 : decode cX0_init 9 = .ok (.invokespecial 51, 3) := dk_183 0 51 (dk_at dksX0_init_0 9 rfl rfl)
theorem dX0_init_12 : decode cX0_init 12 = .ok (.putfield 16, 3) := dk_181 0 16 (dk_at dksX0_init_0 12 rfl rfl)
theorem dX0_init_15 : decode cX0_init 15 = .ok (.aload_n 0, 1) := dk_42 (dk_at dksX0_init_0 15 rfl rfl)
theorem dX0_init_16 : decode cX0_init 16 = .ok (.new 23, 3) := dk_187 0 23 (dk_at dksX0_init_0 16 rfl rfl)
theorem dX0_init_19 : decode cX0_init 19 = .ok (.dup, 1) := dk_89 (dk_at dksX0_init_0 19 rfl rfl)
theorem dX0_init_20 : decode cX0_init 20 = .ok (.invokespecial 51, 3) := dk_183 0 51 (dk_at dksX0_init_0 20 rfl rfl)
theorem dX0_init_23 : decode cX0_init 23 = .ok (.putfield 52, 3) := dk_181 0 52 (dk_at dksX0_init_1 0 rfl rfl)
theorem dX0_init_26 : decode cX0_init 26 = .ok (.aload_n 0, 1) := dk_42 (dk_at dksX0_init_1 3 rfl rfl)
theorem dX0_init_27 : decode cX0_init 27 = .ok (.new 55, 3) := dk_187 0 55 (dk_at dksX0_init_1 4 rfl rfl)
theorem dX0_init_30 : decode cX0_init 30 = .ok (.dup, 1) := dk_89 (dk_at dksX0_init_1 7 rfl rfl)
theorem dX0_init_31 : decode cX0_init 31 = .ok (.invokespecial 57, 3) := dk_183 0 57 (dk_at dksX0_init_1 8 rfl rfl)
theorem dX0_init_34 : decode cX0_init 34 = .ok (.putfield 32, 3) := dk_181 0 32 (dk_at dksX0_init_1 11 rfl rfl)
theorem dX0_init_37 : decode cX0_init 37 = .ok (.aload_n 0, 1) := dk_42 (dk_at dksX0_init_1 14 rfl rfl)
theorem dX0_init_38 : decode cX0_init 38 = .ok (.new 58, 3) := dk_187 0 58 (dk_at dksX0_init_1 15 rfl rfl)
theorem dX0_init_41 : decode cX0_init 41 = .ok (.dup, 1) := dk_89 (dk_at dksX0_init_1 18 rfl rfl)
theorem dX0_init_42 : decode cX0_init 42 = .ok (.aload_n 0, 1) := dk_42 (dk_at dksX0_init_1 19 rfl rfl)
theorem dX0_init_43 : decode cX0_init 43 = .ok (.invokespecial 60, 3) := dk_183 0 60 (dk_at dksX0_init_1 20 rfl rfl)
theorem dX0_init_46 : decode cX0_init 46 = .ok (.putfield 63, 3) := dk_181 0 63 (dk_at dksX0_init_2 0 rfl rfl)
theorem dX0_init_49 : decode cX0_init 49 = .ok (.aload_n 0, 1) := dk_42 (dk_at dksX0_init_2 3 rfl rfl)
theorem dX0_init_50 : decode cX0_init 50 = .ok (.new 58, 3) := dk_187 0 58 (dk_at dksX0_init_2 4 rfl rfl)
theorem dX0_init_53 : decode cX0_init 53 = .ok (.dup, 1) := dk_89 (dk_at dksX0_init_2 7 rfl rfl)
theorem dX0_init_54 : decode cX0_init 54 = .ok (.aload_n 0, 1) := dk_42 (dk_at dksX0_init_2 8 rfl rfl)
theorem dX0_init_55 : decode cX0_init 55 = .ok (.invokespecial 60, 3) := dk_183 0 60 (dk_at dksX0_init_2 9 rfl rfl)
theorem dX0_init_58 : decode cX0_init 58 = .ok (.putfield 67, 3) := dk_181 0 67 (dk_at dksX0_init_2 12 rfl rfl)
theorem dX0_init_61 : decode cX0_init 61 = .ok (.aload_n 0, 1) := dk_42 (dk_at dksX0_init_2 15 rfl rfl)
theorem dX0_init_62 : decode cX0_init 62 = .ok (.new 58, 3) := dk_187 0 58 (dk_at dksX0_init_2 16 rfl rfl)
theorem dX0_init_65 : decode cX0_init 65 = .ok (.dup, 1) := dk_89 (dk_at dksX0_init_2 19 rfl rfl)
theorem dX0_init_66 : decode cX0_init 66 = .ok (.aload_n 0, 1) := dk_42 (dk_at dksX0_init_2 20 rfl rfl)
theorem dX0_init_67 : decode cX0_init 67 = .ok (.invokespecial 60, 3) := dk_183 0 60 (dk_at dksX0_init_2 21 rfl rfl)
theorem dX0_init_70 : decode cX0_init 70 = .ok (.putfield 70, 3) := dk_181 0 70 (dk_at dksX0_init_3 0 rfl rfl)
theorem dX0_init_73 : decode cX0_init 73 = .ok (.aload_n 0, 1) := dk_42 (dk_at dksX0_init_3 3 rfl rfl)
theorem dX0_init_74 : decode cX0_init 74 = .ok (.sipush 260, 3) := dk_17 1 4 (dk_at dksX0_init_3 4 rfl rfl)
theorem dX0_init_77 : decode cX0_init 77 = .ok (.newarray .byte, 2) := dk_188_8 (dk_at dksX0_init_3 7 rfl rfl)
theorem dX0_init_79 : decode cX0_init 79 = .ok (.putfield 73, 3) := dk_181 0 73 (dk_at dksX0_init_3 9 rfl rfl)
theorem dX0_init_82 : decode cX0_init 82 = .ok (.aload_n 0, 1) := dk_42 (dk_at dksX0_init_3 12 rfl rfl)
theorem dX0_init_83 : decode cX0_init 83 = .ok (.new 37, 3) := dk_187 0 37 (dk_at dksX0_init_3 13 rfl rfl)
theorem dX0_init_86 : decode cX0_init 86 = .ok (.dup, 1) := dk_89 (dk_at dksX0_init_3 16 rfl rfl)
theorem dX0_init_87 : decode cX0_init 87 = .ok (.invokespecial 77, 3) := dk_183 0 77 (dk_at dksX0_init_3 17 rfl rfl)
theorem dX0_init_90 : decode cX0_init 90 = .ok (.putfield 28, 3) := dk_181 0 28 (dk_at dksX0_init_3 20 rfl rfl)
theorem dX0_init_93 : decode cX0_init 93 = .ok (.aload_n 0, 1) := dk_42 (dk_at dksX0_init_3 23 rfl rfl)
theorem dX0_init_94 : decode cX0_init 94 = .ok (.ldc 78, 2) := dk_18 78 (dk_at dksX0_init_4 0 rfl rfl)
theorem dX0_init_96 : decode cX0_init 96 = .ok (.newarray .long, 2) := dk_188_11 (dk_at dksX0_init_4 2 rfl rfl)
theorem dX0_init_98 : decode cX0_init 98 = .ok (.putfield 79, 3) := dk_181 0 79 (dk_at dksX0_init_4 4 rfl rfl)
theorem dX0_init_101 : decode cX0_init 101 = .ok (.aload_n 0, 1) := dk_42 (dk_at dksX0_init_4 7 rfl rfl)
theorem dX0_init_102 : decode cX0_init 102 = .ok (.bipush 16, 2) := dk_16 16 (dk_at dksX0_init_4 8 rfl rfl)
theorem dX0_init_104 : decode cX0_init 104 = .ok (.newarray .int, 2) := dk_188_10 (dk_at dksX0_init_4 10 rfl rfl)
theorem dX0_init_106 : decode cX0_init 106 = .ok (.putfield 83, 3) := dk_181 0 83 (dk_at dksX0_init_4 12 rfl rfl)
theorem dX0_init_109 : decode cX0_init 109 = .ok (.aload_n 0, 1) := dk_42 (dk_at dksX0_init_4 15 rfl rfl)
theorem dX0_init_110 : decode cX0_init 110 = .ok (.ldc 78, 2) := dk_18 78 (dk_at dksX0_init_4 16 rfl rfl)
theorem dX0_init_112 : decode cX0_init 112 = .ok (.newarray .int, 2) := dk_188_10 (dk_at dksX0_init_4 18 rfl rfl)
theorem dX0_init_114 : decode cX0_init 114 = .ok (.putfield 87, 3) := dk_181 0 87 (dk_at dksX0_init_4 20 rfl rfl)
theorem dX0_init_117 : decode cX0_init 117 = .ok (.aload_n 0, 1) := dk_42 (dk_at dksX0_init_4 23 rfl rfl)
theorem dX0_init_118 : decode cX0_init 118 = .ok (.sipush 256, 3) := dk_17 1 0 (dk_at dksX0_init_5 0 rfl rfl)
theorem dX0_init_121 : decode cX0_init 121 = .ok (.newarray .int, 2) := dk_188_10 (dk_at dksX0_init_5 3 rfl rfl)
theorem dX0_init_123 : decode cX0_init 123 = .ok (.putfield 90, 3) := dk_181 0 90 (dk_at dksX0_init_5 5 rfl rfl)
theorem dX0_init_126 : decode cX0_init 126 = .ok (.aload_n 0, 1) := dk_42 (dk_at dksX0_init_5 8 rfl rfl)
theorem dX0_init_127 : decode cX0_init 127 = .ok (.bipush 8, 2) := dk_16 8 (dk_at dksX0_init_5 9 rfl rfl)
theorem dX0_init_129 : decode cX0_init 129 = .ok (.newarray .int, 2) := dk_188_10 (dk_at dksX0_init_5 11 rfl rfl)
theorem dX0_init_131 : decode cX0_init 131 = .ok (.putfield 93, 3) := dk_181 0 93 (dk_at dksX0_init_5 13 rfl rfl)
theorem dX0_init_134 : decode cX0_init 134 = .ok (.aload_n 0, 1) := dk_42 (dk_at dksX0_init_5 16 rfl rfl)
theorem dX0_init_135 : decode cX0_init 135 = .ok (.bipush 8, 2) := dk_16 8 (dk_at dksX0_init_5 17 rfl rfl)
theorem dX0_init_137 : decode cX0_init 137 = .ok (.newarray .int, 2) := dk_188_10 (dk_at dksX0_init_5 19 rfl rfl)
theorem dX0_init_139 : decode cX0_init 139 = .ok (.putfield 96, 3) := dk_181 0 96 (dk_at dksX0_init_5 21 rfl rfl)
theorem dX0_init_142 : decode cX0_init 142 = .ok (.aload_n 0, 1) := dk_42 (dk_at dksX0_init_6 0 rfl rfl)
theorem dX0_init_143 : decode cX0_init 143 = .ok (.bipush 8, 2) := dk_16 8 (dk_at dksX0_init_6 1 rfl rfl)
theorem dX0_init_145 : decode cX0_init 145 = .ok (.bipush 8, 2) := dk_16 8 (dk_at dksX0_init_6 3 rfl rfl)
theorem dX0_init_147 : decode cX0_init 147 = .ok (.multianewarray 99 2, 4) := by decide +kernel
theorem dX0_init_151 : decode cX0_init 151 = .ok (.putfield 101, 3) := dk_181 0 101 (dk_at dksX0_init_6 9 rfl rfl)
theorem dX0_init_154 : decode cX0_init 154 = .ok (.aload_n 0, 1) := dk_42 (dk_at dksX0_init_6 12 rfl rfl)
theorem dX0_init_155 : decode cX0_init 155 = .ok (.bipush 8, 2) := dk_16 8 (dk_at dksX0_init_6 13 rfl rfl)
theorem dX0_init_157 : decode cX0_init 157 = .ok (.bipush 8, 2) := dk_16 8 (dk_at dksX0_init_6 15 rfl rfl)
theorem dX0_init_159 : decode cX0_init 159 = .ok (.multianewarray 99 2, 4) := by decide +kernel
theorem dX0_init_163 : decode cX0_init 163 = .ok (.putfield 104, 3) := dk_181 0 104 (dk_at dksX0_init_6 21 rfl rfl)
theorem dX0_init_166 : decode cX0_init 166 = .ok (.aload_n 0, 1) := dk_42 (dk_at dksX0_init_7 0 rfl rfl)
theorem dX0_init_167 : decode cX0_init 167 = .ok (.sipush 256, 3) := dk_17 1 0 (dk_at dksX0_init_7 1 rfl rfl)
theorem dX0_init_170 : decode cX0_init 170 = .ok (.newarray .int, 2) := dk_188_10 (dk_at dksX0_init_7 4 rfl rfl)
theorem dX0_init_172 : decode cX0_init 172 = .ok (.putfield 107, 3) := dk_181 0 107 (dk_at dksX0_init_7 6 rfl rfl)
theorem dX0_init_175 : decode cX0_init 175 = .ok (.aload_n 0, 1) := dk_42 (dk_at dksX0_init_7 9 rfl rfl)
theorem dX0_init_176 : decode cX0_init 176 = .ok (.getfield 63, 3) := dk_180 0 63 (dk_at dksX0_init_7 10 rfl rfl)
theorem dX0_init_179 : decode cX0_init 179 = .ok (.iconst 1, 1) := dk_4 (dk_at dksX0_init_7 13 rfl rfl)
theorem dX0_init_180 : decode cX0_init 180 = .ok (.putfield 110, 3) := dk_181 0 110 (dk_at dksX0_init_7 14 rfl rfl)
theorem dX0_init_183 : decode cX0_init 183 = .ok (.return_, 1) := dk_177 (dk_at dksX0_init_7 17 rfl rfl)
abbrev cX0_feed : ByteArray := prog_1_method_10_code
def yX0_feed : MethodName := ⟨RX0, "feed", "(IIIII)I"⟩
def dkwX0_feed_2 : List UInt8 := [172]
abbrev dktX0_feed_2 : List UInt8 := dkwX0_feed_2 ++ []
def dkwX0_feed_1 : List UInt8 := [182, 0, 116, 42, 29, 182, 0, 116, 42, 21, 4, 182, 0, 116, 42, 21, 5, 182, 0, 116, 42, 180, 0, 113]
abbrev dktX0_feed_1 : List UInt8 := dkwX0_feed_1 ++ dktX0_feed_2
def dkwX0_feed_0 : List UInt8 := [42, 180, 0, 113, 16, 20, 96, 17, 1, 4, 164, 0, 5, 2, 172, 42, 27, 182, 0, 116, 42, 28]
abbrev dktX0_feed_0 : List UInt8 := dkwX0_feed_0 ++ dktX0_feed_1
theorem dksX0_feed_0 : cX0_feed.data.toList.drop 0 = dktX0_feed_0 := by decide +kernel
theorem dksX0_feed_1 : cX0_feed.data.toList.drop 22 = dktX0_feed_1 := dk_seg dksX0_feed_0 22 rfl rfl
theorem dksX0_feed_2 : cX0_feed.data.toList.drop 46 = dktX0_feed_2 := dk_seg dksX0_feed_1 24 rfl rfl
theorem dX0_feed_0 : decode cX0_feed 0 = .ok (.aload_n 0, 1) := dk_42 (dk_at dksX0_feed_0 0 rfl rfl)
theorem dX0_feed_1 : decode cX0_feed 1 = .ok (.getfield 113, 3) := dk_180 0 113 (dk_at dksX0_feed_0 1 rfl rfl)
theorem dX0_feed_4 : decode cX0_feed 4 = .ok (.bipush 20, 2) := dk_16 20 (dk_at dksX0_feed_0 4 rfl rfl)
theorem dX0_feed_6 : decode cX0_feed 6 = .ok (.iadd, 1) := dk_96 (dk_at dksX0_feed_0 6 rfl rfl)
theorem dX0_feed_7 : decode cX0_feed 7 = .ok (.sipush 260, 3) := dk_17 1 4 (dk_at dksX0_feed_0 7 rfl rfl)
theorem dX0_feed_10 : decode cX0_feed 10 = .ok (.if_icmp .le 5, 3) := dk_164 0 5 (dk_at dksX0_feed_0 10 rfl rfl)
theorem dX0_feed_13 : decode cX0_feed 13 = .ok (.iconst (-1), 1) := dk_2 (dk_at dksX0_feed_0 13 rfl rfl)
theorem dX0_feed_14 : decode cX0_feed 14 = .ok (.ireturn, 1) := dk_172 (dk_at dksX0_feed_0 14 rfl rfl)
theorem dX0_feed_15 : decode cX0_feed 15 = .ok (.aload_n 0, 1) := dk_42 (dk_at dksX0_feed_0 15 rfl rfl)
theorem dX0_feed_16 : decode cX0_feed 16 = .ok (.iload_n 1, 1) := dk_27 (dk_at dksX0_feed_0 16 rfl rfl)
theorem dX0_feed_17 : decode cX0_feed 17 = .ok (.invokevirtual 116, 3) := dk_182 0 116 (dk_at dksX0_feed_0 17 rfl rfl)
theorem dX0_feed_20 : decode cX0_feed 20 = .ok (.aload_n 0, 1) := dk_42 (dk_at dksX0_feed_0 20 rfl rfl)
theorem dX0_feed_21 : decode cX0_feed 21 = .ok (.iload_n 2, 1) := dk_28 (dk_at dksX0_feed_0 21 rfl rfl)
theorem dX0_feed_22 : decode cX0_feed 22 = .ok (.invokevirtual 116, 3) := dk_182 0 116 (dk_at dksX0_feed_1 0 rfl rfl)
theorem dX0_feed_25 : decode cX0_feed 25 = .ok (.aload_n 0, 1) := dk_42 (dk_at dksX0_feed_1 3 rfl rfl)
theorem dX0_feed_26 : decode cX0_feed 26 = .ok (.iload_n 3, 1) := dk_29 (dk_at dksX0_feed_1 4 rfl rfl)
theorem dX0_feed_27 : decode cX0_feed 27 = .ok (.invokevirtual 116, 3) := dk_182 0 116 (dk_at dksX0_feed_1 5 rfl rfl)
theorem dX0_feed_30 : decode cX0_feed 30 = .ok (.aload_n 0, 1) := dk_42 (dk_at dksX0_feed_1 8 rfl rfl)
theorem dX0_feed_31 : decode cX0_feed 31 = .ok (.iload 4, 2) := dk_21 4 (dk_at dksX0_feed_1 9 rfl rfl)
theorem dX0_feed_33 : decode cX0_feed 33 = .ok (.invokevirtual 116, 3) := dk_182 0 116 (dk_at dksX0_feed_1 11 rfl rfl)
theorem dX0_feed_36 : decode cX0_feed 36 = .ok (.aload_n 0, 1) := dk_42 (dk_at dksX0_feed_1 14 rfl rfl)
theorem dX0_feed_37 : decode cX0_feed 37 = .ok (.iload 5, 2) := dk_21 5 (dk_at dksX0_feed_1 15 rfl rfl)
theorem dX0_feed_39 : decode cX0_feed 39 = .ok (.invokevirtual 116, 3) := dk_182 0 116 (dk_at dksX0_feed_1 17 rfl rfl)
theorem dX0_feed_42 : decode cX0_feed 42 = .ok (.aload_n 0, 1) := dk_42 (dk_at dksX0_feed_1 20 rfl rfl)
theorem dX0_feed_43 : decode cX0_feed 43 = .ok (.getfield 113, 3) := dk_180 0 113 (dk_at dksX0_feed_1 21 rfl rfl)
theorem dX0_feed_46 : decode cX0_feed 46 = .ok (.ireturn, 1) := dk_172 (dk_at dksX0_feed_2 0 rfl rfl)
abbrev cX0_push : ByteArray := prog_1_method_9_code
def yX0_push : MethodName := ⟨RX0, "push", "(I)V"⟩
def dkwX0_push_1 : List UInt8 := [180, 0, 113, 4, 96, 181, 0, 113, 132, 2, 248, 167, 255, 226, 177]
abbrev dktX0_push_1 : List UInt8 := dkwX0_push_1 ++ []
def dkwX0_push_0 : List UInt8 := [16, 24, 61, 28, 155, 0, 32, 42, 180, 0, 73, 42, 180, 0, 113, 27, 28, 122, 145, 84, 42, 89]
abbrev dktX0_push_0 : List UInt8 := dkwX0_push_0 ++ dktX0_push_1
theorem dksX0_push_0 : cX0_push.data.toList.drop 0 = dktX0_push_0 := by decide +kernel
theorem dksX0_push_1 : cX0_push.data.toList.drop 22 = dktX0_push_1 := dk_seg dksX0_push_0 22 rfl rfl
theorem dX0_push_0 : decode cX0_push 0 = .ok (.bipush 24, 2) := dk_16 24 (dk_at dksX0_push_0 0 rfl rfl)
theorem dX0_push_2 : decode cX0_push 2 = .ok (.istore_n 2, 1) := dk_61 (dk_at dksX0_push_0 2 rfl rfl)
theorem dX0_push_3 : decode cX0_push 3 = .ok (.iload_n 2, 1) := dk_28 (dk_at dksX0_push_0 3 rfl rfl)
theorem dX0_push_4 : decode cX0_push 4 = .ok (.ifCond .lt 32, 3) := dk_155 0 32 (dk_at dksX0_push_0 4 rfl rfl)
theorem dX0_push_7 : decode cX0_push 7 = .ok (.aload_n 0, 1) := dk_42 (dk_at dksX0_push_0 7 rfl rfl)
theorem dX0_push_8 : decode cX0_push 8 = .ok (.getfield 73, 3) := dk_180 0 73 (dk_at dksX0_push_0 8 rfl rfl)
theorem dX0_push_11 : decode cX0_push 11 = .ok (.aload_n 0, 1) := dk_42 (dk_at dksX0_push_0 11 rfl rfl)
theorem dX0_push_12 : decode cX0_push 12 = .ok (.getfield 113, 3) := dk_180 0 113 (dk_at dksX0_push_0 12 rfl rfl)
theorem dX0_push_15 : decode cX0_push 15 = .ok (.iload_n 1, 1) := dk_27 (dk_at dksX0_push_0 15 rfl rfl)
theorem dX0_push_16 : decode cX0_push 16 = .ok (.iload_n 2, 1) := dk_28 (dk_at dksX0_push_0 16 rfl rfl)
theorem dX0_push_17 : decode cX0_push 17 = .ok (.ishr, 1) := dk_122 (dk_at dksX0_push_0 17 rfl rfl)
theorem dX0_push_18 : decode cX0_push 18 = .ok (.i2b, 1) := dk_145 (dk_at dksX0_push_0 18 rfl rfl)
theorem dX0_push_19 : decode cX0_push 19 = .ok (.bastore, 1) := dk_84 (dk_at dksX0_push_0 19 rfl rfl)
theorem dX0_push_20 : decode cX0_push 20 = .ok (.aload_n 0, 1) := dk_42 (dk_at dksX0_push_0 20 rfl rfl)
theorem dX0_push_21 : decode cX0_push 21 = .ok (.dup, 1) := dk_89 (dk_at dksX0_push_0 21 rfl rfl)
theorem dX0_push_22 : decode cX0_push 22 = .ok (.getfield 113, 3) := dk_180 0 113 (dk_at dksX0_push_1 0 rfl rfl)
theorem dX0_push_25 : decode cX0_push 25 = .ok (.iconst 1, 1) := dk_4 (dk_at dksX0_push_1 3 rfl rfl)
theorem dX0_push_26 : decode cX0_push 26 = .ok (.iadd, 1) := dk_96 (dk_at dksX0_push_1 4 rfl rfl)
theorem dX0_push_27 : decode cX0_push 27 = .ok (.putfield 113, 3) := dk_181 0 113 (dk_at dksX0_push_1 5 rfl rfl)
theorem dX0_push_30 : decode cX0_push 30 = .ok (.iinc 2 (-8), 3) := dk_132 2 248 (dk_at dksX0_push_1 8 rfl rfl)
theorem dX0_push_33 : decode cX0_push 33 = .ok (.goto (-30), 3) := dk_167 255 226 (dk_at dksX0_push_1 11 rfl rfl)
theorem dX0_push_36 : decode cX0_push 36 = .ok (.return_, 1) := dk_177 (dk_at dksX0_push_1 14 rfl rfl)
abbrev cX0_law : ByteArray := prog_1_method_11_code
def yX0_law : MethodName := ⟨RX0, "law", "(I)I"⟩
def dkwX0_law_2 : List UInt8 := [180, 0, 133, 181, 0, 28, 29, 172]
abbrev dktX0_law_2 : List UInt8 := dkwX0_law_2 ++ []
def dkwX0_law_1 : List UInt8 := [181, 0, 113, 187, 0, 124, 89, 42, 27, 183, 0, 126, 77, 44, 182, 0, 129, 62, 29, 155, 0, 11, 42, 44]
abbrev dktX0_law_1 : List UInt8 := dkwX0_law_1 ++ dktX0_law_2
def dkwX0_law_0 : List UInt8 := [27, 4, 17, 0, 240, 184, 0, 120, 153, 0, 11, 27, 42, 180, 0, 113, 164, 0, 5, 2, 172, 42, 3]
abbrev dktX0_law_0 : List UInt8 := dkwX0_law_0 ++ dktX0_law_1
theorem dksX0_law_0 : cX0_law.data.toList.drop 0 = dktX0_law_0 := by decide +kernel
theorem dksX0_law_1 : cX0_law.data.toList.drop 23 = dktX0_law_1 := dk_seg dksX0_law_0 23 rfl rfl
theorem dksX0_law_2 : cX0_law.data.toList.drop 47 = dktX0_law_2 := dk_seg dksX0_law_1 24 rfl rfl
theorem dX0_law_0 : decode cX0_law 0 = .ok (.iload_n 1, 1) := dk_27 (dk_at dksX0_law_0 0 rfl rfl)
theorem dX0_law_1 : decode cX0_law 1 = .ok (.iconst 1, 1) := dk_4 (dk_at dksX0_law_0 1 rfl rfl)
theorem dX0_law_2 : decode cX0_law 2 = .ok (.sipush 240, 3) := dk_17 0 240 (dk_at dksX0_law_0 2 rfl rfl)
theorem dX0_law_5 : decode cX0_law 5 = .ok (.invokestatic 120, 3) := dk_184 0 120 (dk_at dksX0_law_0 5 rfl rfl)
theorem dX0_law_8 : decode cX0_law 8 = .ok (.ifCond .eq 11, 3) := dk_153 0 11 (dk_at dksX0_law_0 8 rfl rfl)
theorem dX0_law_11 : decode cX0_law 11 = .ok (.iload_n 1, 1) := dk_27 (dk_at dksX0_law_0 11 rfl rfl)
theorem dX0_law_12 : decode cX0_law 12 = .ok (.aload_n 0, 1) := dk_42 (dk_at dksX0_law_0 12 rfl rfl)
theorem dX0_law_13 : decode cX0_law 13 = .ok (.getfield 113, 3) := dk_180 0 113 (dk_at dksX0_law_0 13 rfl rfl)
theorem dX0_law_16 : decode cX0_law 16 = .ok (.if_icmp .le 5, 3) := dk_164 0 5 (dk_at dksX0_law_0 16 rfl rfl)
theorem dX0_law_19 : decode cX0_law 19 = .ok (.iconst (-1), 1) := dk_2 (dk_at dksX0_law_0 19 rfl rfl)
theorem dX0_law_20 : decode cX0_law 20 = .ok (.ireturn, 1) := dk_172 (dk_at dksX0_law_0 20 rfl rfl)
theorem dX0_law_21 : decode cX0_law 21 = .ok (.aload_n 0, 1) := dk_42 (dk_at dksX0_law_0 21 rfl rfl)
theorem dX0_law_22 : decode cX0_law 22 = .ok (.iconst 0, 1) := dk_3 (dk_at dksX0_law_0 22 rfl rfl)
theorem dX0_law_23 : decode cX0_law 23 = .ok (.putfield 113, 3) := dk_181 0 113 (dk_at dksX0_law_1 0 rfl rfl)
theorem dX0_law_26 : decode cX0_law 26 = .ok (.new 124, 3) := dk_187 0 124 (dk_at dksX0_law_1 3 rfl rfl)
theorem dX0_law_29 : decode cX0_law 29 = .ok (.dup, 1) := dk_89 (dk_at dksX0_law_1 6 rfl rfl)
theorem dX0_law_30 : decode cX0_law 30 = .ok (.aload_n 0, 1) := dk_42 (dk_at dksX0_law_1 7 rfl rfl)
theorem dX0_law_31 : decode cX0_law 31 = .ok (.iload_n 1, 1) := dk_27 (dk_at dksX0_law_1 8 rfl rfl)
theorem dX0_law_32 : decode cX0_law 32 = .ok (.invokespecial 126, 3) := dk_183 0 126 (dk_at dksX0_law_1 9 rfl rfl)
theorem dX0_law_35 : decode cX0_law 35 = .ok (.astore_n 2, 1) := dk_77 (dk_at dksX0_law_1 12 rfl rfl)
theorem dX0_law_36 : decode cX0_law 36 = .ok (.aload_n 2, 1) := dk_44 (dk_at dksX0_law_1 13 rfl rfl)
theorem dX0_law_37 : decode cX0_law 37 = .ok (.invokevirtual 129, 3) := dk_182 0 129 (dk_at dksX0_law_1 14 rfl rfl)
theorem dX0_law_40 : decode cX0_law 40 = .ok (.istore_n 3, 1) := dk_62 (dk_at dksX0_law_1 17 rfl rfl)
theorem dX0_law_41 : decode cX0_law 41 = .ok (.iload_n 3, 1) := dk_29 (dk_at dksX0_law_1 18 rfl rfl)
theorem dX0_law_42 : decode cX0_law 42 = .ok (.ifCond .lt 11, 3) := dk_155 0 11 (dk_at dksX0_law_1 19 rfl rfl)
theorem dX0_law_45 : decode cX0_law 45 = .ok (.aload_n 0, 1) := dk_42 (dk_at dksX0_law_1 22 rfl rfl)
theorem dX0_law_46 : decode cX0_law 46 = .ok (.aload_n 2, 1) := dk_44 (dk_at dksX0_law_1 23 rfl rfl)
theorem dX0_law_47 : decode cX0_law 47 = .ok (.getfield 133, 3) := dk_180 0 133 (dk_at dksX0_law_2 0 rfl rfl)
theorem dX0_law_50 : decode cX0_law 50 = .ok (.putfield 28, 3) := dk_181 0 28 (dk_at dksX0_law_2 3 rfl rfl)
theorem dX0_law_53 : decode cX0_law 53 = .ok (.iload_n 3, 1) := dk_29 (dk_at dksX0_law_2 6 rfl rfl)
theorem dX0_law_54 : decode cX0_law 54 = .ok (.ireturn, 1) := dk_172 (dk_at dksX0_law_2 7 rfl rfl)
abbrev cX0_within : ByteArray := prog_1_method_2_code
def yX0_within : MethodName := ⟨RX0, "within", "(III)Z"⟩
def dkwX0_within_0 : List UInt8 := [26, 27, 161, 0, 12, 26, 28, 163, 0, 7, 4, 167, 0, 4, 3, 172]
abbrev dktX0_within_0 : List UInt8 := dkwX0_within_0 ++ []
theorem dksX0_within_0 : cX0_within.data.toList.drop 0 = dktX0_within_0 := by decide +kernel
theorem dX0_within_0 : decode cX0_within 0 = .ok (.iload_n 0, 1) := dk_26 (dk_at dksX0_within_0 0 rfl rfl)
theorem dX0_within_1 : decode cX0_within 1 = .ok (.iload_n 1, 1) := dk_27 (dk_at dksX0_within_0 1 rfl rfl)
theorem dX0_within_2 : decode cX0_within 2 = .ok (.if_icmp .lt 12, 3) := dk_161 0 12 (dk_at dksX0_within_0 2 rfl rfl)
theorem dX0_within_5 : decode cX0_within 5 = .ok (.iload_n 0, 1) := dk_26 (dk_at dksX0_within_0 5 rfl rfl)
theorem dX0_within_6 : decode cX0_within 6 = .ok (.iload_n 2, 1) := dk_28 (dk_at dksX0_within_0 6 rfl rfl)
theorem dX0_within_7 : decode cX0_within 7 = .ok (.if_icmp .gt 7, 3) := dk_163 0 7 (dk_at dksX0_within_0 7 rfl rfl)
theorem dX0_within_10 : decode cX0_within 10 = .ok (.iconst 1, 1) := dk_4 (dk_at dksX0_within_0 10 rfl rfl)
theorem dX0_within_11 : decode cX0_within 11 = .ok (.goto 4, 3) := dk_167 0 4 (dk_at dksX0_within_0 11 rfl rfl)
theorem dX0_within_14 : decode cX0_within 14 = .ok (.iconst 0, 1) := dk_3 (dk_at dksX0_within_0 14 rfl rfl)
theorem dX0_within_15 : decode cX0_within 15 = .ok (.ireturn, 1) := dk_172 (dk_at dksX0_within_0 15 rfl rfl)
abbrev cX0_orders : ByteArray := prog_1_method_12_code
def yX0_orders : MethodName := ⟨RX0, "orders", "(I)I"⟩
def dkwX0_orders_2 : List UInt8 := [180, 0, 16, 42, 180, 0, 52, 182, 0, 140, 29, 172]
abbrev dktX0_orders_2 : List UInt8 := dkwX0_orders_2 ++ []
def dkwX0_orders_1 : List UInt8 := [181, 0, 113, 187, 0, 136, 89, 42, 27, 183, 0, 138, 77, 44, 182, 0, 139, 62, 29, 155, 0, 14, 42]
abbrev dktX0_orders_1 : List UInt8 := dkwX0_orders_1 ++ dktX0_orders_2
def dkwX0_orders_0 : List UInt8 := [27, 4, 17, 0, 160, 184, 0, 120, 153, 0, 11, 27, 42, 180, 0, 113, 164, 0, 5, 2, 172, 42, 3]
abbrev dktX0_orders_0 : List UInt8 := dkwX0_orders_0 ++ dktX0_orders_1
theorem dksX0_orders_0 : cX0_orders.data.toList.drop 0 = dktX0_orders_0 := by decide +kernel
theorem dksX0_orders_1 : cX0_orders.data.toList.drop 23 = dktX0_orders_1 := dk_seg dksX0_orders_0 23 rfl rfl
theorem dksX0_orders_2 : cX0_orders.data.toList.drop 46 = dktX0_orders_2 := dk_seg dksX0_orders_1 23 rfl rfl
theorem dX0_orders_0 : decode cX0_orders 0 = .ok (.iload_n 1, 1) := dk_27 (dk_at dksX0_orders_0 0 rfl rfl)
theorem dX0_orders_1 : decode cX0_orders 1 = .ok (.iconst 1, 1) := dk_4 (dk_at dksX0_orders_0 1 rfl rfl)
theorem dX0_orders_2 : decode cX0_orders 2 = .ok (.sipush 160, 3) := dk_17 0 160 (dk_at dksX0_orders_0 2 rfl rfl)
theorem dX0_orders_5 : decode cX0_orders 5 = .ok (.invokestatic 120, 3) := dk_184 0 120 (dk_at dksX0_orders_0 5 rfl rfl)
theorem dX0_orders_8 : decode cX0_orders 8 = .ok (.ifCond .eq 11, 3) := dk_153 0 11 (dk_at dksX0_orders_0 8 rfl rfl)
theorem dX0_orders_11 : decode cX0_orders 11 = .ok (.iload_n 1, 1) := dk_27 (dk_at dksX0_orders_0 11 rfl rfl)
theorem dX0_orders_12 : decode cX0_orders 12 = .ok (.aload_n 0, 1) := dk_42 (dk_at dksX0_orders_0 12 rfl rfl)
theorem dX0_orders_13 : decode cX0_orders 13 = .ok (.getfield 113, 3) := dk_180 0 113 (dk_at dksX0_orders_0 13 rfl rfl)
theorem dX0_orders_16 : decode cX0_orders 16 = .ok (.if_icmp .le 5, 3) := dk_164 0 5 (dk_at dksX0_orders_0 16 rfl rfl)
theorem dX0_orders_19 : decode cX0_orders 19 = .ok (.iconst (-1), 1) := dk_2 (dk_at dksX0_orders_0 19 rfl rfl)
theorem dX0_orders_20 : decode cX0_orders 20 = .ok (.ireturn, 1) := dk_172 (dk_at dksX0_orders_0 20 rfl rfl)
theorem dX0_orders_21 : decode cX0_orders 21 = .ok (.aload_n 0, 1) := dk_42 (dk_at dksX0_orders_0 21 rfl rfl)
theorem dX0_orders_22 : decode cX0_orders 22 = .ok (.iconst 0, 1) := dk_3 (dk_at dksX0_orders_0 22 rfl rfl)
theorem dX0_orders_23 : decode cX0_orders 23 = .ok (.putfield 113, 3) := dk_181 0 113 (dk_at dksX0_orders_1 0 rfl rfl)
theorem dX0_orders_26 : decode cX0_orders 26 = .ok (.new 136, 3) := dk_187 0 136 (dk_at dksX0_orders_1 3 rfl rfl)
theorem dX0_orders_29 : decode cX0_orders 29 = .ok (.dup, 1) := dk_89 (dk_at dksX0_orders_1 6 rfl rfl)
theorem dX0_orders_30 : decode cX0_orders 30 = .ok (.aload_n 0, 1) := dk_42 (dk_at dksX0_orders_1 7 rfl rfl)
theorem dX0_orders_31 : decode cX0_orders 31 = .ok (.iload_n 1, 1) := dk_27 (dk_at dksX0_orders_1 8 rfl rfl)
theorem dX0_orders_32 : decode cX0_orders 32 = .ok (.invokespecial 138, 3) := dk_183 0 138 (dk_at dksX0_orders_1 9 rfl rfl)
theorem dX0_orders_35 : decode cX0_orders 35 = .ok (.astore_n 2, 1) := dk_77 (dk_at dksX0_orders_1 12 rfl rfl)
theorem dX0_orders_36 : decode cX0_orders 36 = .ok (.aload_n 2, 1) := dk_44 (dk_at dksX0_orders_1 13 rfl rfl)
theorem dX0_orders_37 : decode cX0_orders 37 = .ok (.invokevirtual 139, 3) := dk_182 0 139 (dk_at dksX0_orders_1 14 rfl rfl)
theorem dX0_orders_40 : decode cX0_orders 40 = .ok (.istore_n 3, 1) := dk_62 (dk_at dksX0_orders_1 17 rfl rfl)
theorem dX0_orders_41 : decode cX0_orders 41 = .ok (.iload_n 3, 1) := dk_29 (dk_at dksX0_orders_1 18 rfl rfl)
theorem dX0_orders_42 : decode cX0_orders 42 = .ok (.ifCond .lt 14, 3) := dk_155 0 14 (dk_at dksX0_orders_1 19 rfl rfl)
theorem dX0_orders_45 : decode cX0_orders 45 = .ok (.aload_n 0, 1) := dk_42 (dk_at dksX0_orders_1 22 rfl rfl)
theorem dX0_orders_46 : decode cX0_orders 46 = .ok (.getfield 16, 3) := dk_180 0 16 (dk_at dksX0_orders_2 0 rfl rfl)
theorem dX0_orders_49 : decode cX0_orders 49 = .ok (.aload_n 0, 1) := dk_42 (dk_at dksX0_orders_2 3 rfl rfl)
theorem dX0_orders_50 : decode cX0_orders 50 = .ok (.getfield 52, 3) := dk_180 0 52 (dk_at dksX0_orders_2 4 rfl rfl)
theorem dX0_orders_53 : decode cX0_orders 53 = .ok (.invokevirtual 140, 3) := dk_182 0 140 (dk_at dksX0_orders_2 7 rfl rfl)
theorem dX0_orders_56 : decode cX0_orders 56 = .ok (.iload_n 3, 1) := dk_29 (dk_at dksX0_orders_2 10 rfl rfl)
theorem dX0_orders_57 : decode cX0_orders 57 = .ok (.ireturn, 1) := dk_172 (dk_at dksX0_orders_2 11 rfl rfl)
abbrev cX0_in : ByteArray := prog_1_method_1_code
def yX0_in : MethodName := ⟨RX0, "in", "(II)Z"⟩
def dkwX0_in_0 : List UInt8 := [26, 155, 0, 12, 26, 27, 162, 0, 7, 4, 167, 0, 4, 3, 172]
abbrev dktX0_in_0 : List UInt8 := dkwX0_in_0 ++ []
theorem dksX0_in_0 : cX0_in.data.toList.drop 0 = dktX0_in_0 := by decide +kernel
theorem dX0_in_0 : decode cX0_in 0 = .ok (.iload_n 0, 1) := dk_26 (dk_at dksX0_in_0 0 rfl rfl)
theorem dX0_in_1 : decode cX0_in 1 = .ok (.ifCond .lt 12, 3) := dk_155 0 12 (dk_at dksX0_in_0 1 rfl rfl)
theorem dX0_in_4 : decode cX0_in 4 = .ok (.iload_n 0, 1) := dk_26 (dk_at dksX0_in_0 4 rfl rfl)
theorem dX0_in_5 : decode cX0_in 5 = .ok (.iload_n 1, 1) := dk_27 (dk_at dksX0_in_0 5 rfl rfl)
theorem dX0_in_6 : decode cX0_in 6 = .ok (.if_icmp .ge 7, 3) := dk_162 0 7 (dk_at dksX0_in_0 6 rfl rfl)
theorem dX0_in_9 : decode cX0_in 9 = .ok (.iconst 1, 1) := dk_4 (dk_at dksX0_in_0 9 rfl rfl)
theorem dX0_in_10 : decode cX0_in 10 = .ok (.goto 4, 3) := dk_167 0 4 (dk_at dksX0_in_0 10 rfl rfl)
theorem dX0_in_13 : decode cX0_in 13 = .ok (.iconst 0, 1) := dk_3 (dk_at dksX0_in_0 13 rfl rfl)
theorem dX0_in_14 : decode cX0_in 14 = .ok (.ireturn, 1) := dk_172 (dk_at dksX0_in_0 14 rfl rfl)
abbrev cX0_dance : ByteArray := prog_1_method_13_code
def yX0_dance : MethodName := ⟨RX0, "dance", "(II)I"⟩
def dkwX0_dance_4 : List UInt8 := [45, 180, 0, 158, 172]
abbrev dktX0_dance_4 : List UInt8 := dkwX0_dance_4 ++ []
def dkwX0_dance_3 : List UInt8 := [180, 0, 16, 180, 0, 152, 42, 180, 0, 16, 180, 0, 22, 126, 45, 180, 0, 155, 2, 130, 126, 167, 0, 7]
abbrev dktX0_dance_3 : List UInt8 := dkwX0_dance_3 ++ dktX0_dance_4
def dkwX0_dance_2 : List UInt8 := [54, 4, 21, 4, 155, 0, 7, 28, 154, 0, 8, 21, 4, 167, 0, 37, 28, 4, 160, 0, 28, 42]
abbrev dktX0_dance_2 : List UInt8 := dkwX0_dance_2 ++ dktX0_dance_3
def dkwX0_dance_1 : List UInt8 := [164, 0, 5, 2, 172, 42, 3, 181, 0, 113, 187, 0, 148, 89, 42, 27, 183, 0, 150, 78, 45, 182, 0, 151]
abbrev dktX0_dance_1 : List UInt8 := dkwX0_dance_1 ++ dktX0_dance_2
def dkwX0_dance_0 : List UInt8 := [27, 4, 16, 100, 184, 0, 120, 153, 0, 19, 28, 6, 184, 0, 144, 153, 0, 11, 27, 42, 180, 0, 113]
abbrev dktX0_dance_0 : List UInt8 := dkwX0_dance_0 ++ dktX0_dance_1
theorem dksX0_dance_0 : cX0_dance.data.toList.drop 0 = dktX0_dance_0 := by decide +kernel
theorem dksX0_dance_1 : cX0_dance.data.toList.drop 23 = dktX0_dance_1 := dk_seg dksX0_dance_0 23 rfl rfl
theorem dksX0_dance_2 : cX0_dance.data.toList.drop 47 = dktX0_dance_2 := dk_seg dksX0_dance_1 24 rfl rfl
theorem dksX0_dance_3 : cX0_dance.data.toList.drop 69 = dktX0_dance_3 := dk_seg dksX0_dance_2 22 rfl rfl
theorem dksX0_dance_4 : cX0_dance.data.toList.drop 93 = dktX0_dance_4 := dk_seg dksX0_dance_3 24 rfl rfl
theorem dX0_dance_0 : decode cX0_dance 0 = .ok (.iload_n 1, 1) := dk_27 (dk_at dksX0_dance_0 0 rfl rfl)
theorem dX0_dance_1 : decode cX0_dance 1 = .ok (.iconst 1, 1) := dk_4 (dk_at dksX0_dance_0 1 rfl rfl)
theorem dX0_dance_2 : decode cX0_dance 2 = .ok (.bipush 100, 2) := dk_16 100 (dk_at dksX0_dance_0 2 rfl rfl)
theorem dX0_dance_4 : decode cX0_dance 4 = .ok (.invokestatic 120, 3) := dk_184 0 120 (dk_at dksX0_dance_0 4 rfl rfl)
theorem dX0_dance_7 : decode cX0_dance 7 = .ok (.ifCond .eq 19, 3) := dk_153 0 19 (dk_at dksX0_dance_0 7 rfl rfl)
theorem dX0_dance_10 : decode cX0_dance 10 = .ok (.iload_n 2, 1) := dk_28 (dk_at dksX0_dance_0 10 rfl rfl)
theorem dX0_dance_11 : decode cX0_dance 11 = .ok (.iconst 3, 1) := dk_6 (dk_at dksX0_dance_0 11 rfl rfl)
theorem dX0_dance_12 : decode cX0_dance 12 = .ok (.invokestatic 144, 3) := dk_184 0 144 (dk_at dksX0_dance_0 12 rfl rfl)
theorem dX0_dance_15 : decode cX0_dance 15 = .ok (.ifCond .eq 11, 3) := dk_153 0 11 (dk_at dksX0_dance_0 15 rfl rfl)
theorem dX0_dance_18 : decode cX0_dance 18 = .ok (.iload_n 1, 1) := dk_27 (dk_at dksX0_dance_0 18 rfl rfl)
theorem dX0_dance_19 : decode cX0_dance 19 = .ok (.aload_n 0, 1) := dk_42 (dk_at dksX0_dance_0 19 rfl rfl)
theorem dX0_dance_20 : decode cX0_dance 20 = .ok (.getfield 113, 3) := dk_180 0 113 (dk_at dksX0_dance_0 20 rfl rfl)
theorem dX0_dance_23 : decode cX0_dance 23 = .ok (.if_icmp .le 5, 3) := dk_164 0 5 (dk_at dksX0_dance_1 0 rfl rfl)
theorem dX0_dance_26 : decode cX0_dance 26 = .ok (.iconst (-1), 1) := dk_2 (dk_at dksX0_dance_1 3 rfl rfl)
theorem dX0_dance_27 : decode cX0_dance 27 = .ok (.ireturn, 1) := dk_172 (dk_at dksX0_dance_1 4 rfl rfl)
theorem dX0_dance_28 : decode cX0_dance 28 = .ok (.aload_n 0, 1) := dk_42 (dk_at dksX0_dance_1 5 rfl rfl)
theorem dX0_dance_29 : decode cX0_dance 29 = .ok (.iconst 0, 1) := dk_3 (dk_at dksX0_dance_1 6 rfl rfl)
theorem dX0_dance_30 : decode cX0_dance 30 = .ok (.putfield 113, 3) := dk_181 0 113 (dk_at dksX0_dance_1 7 rfl rfl)
theorem dX0_dance_33 : decode cX0_dance 33 = .ok (.new 148, 3) := dk_187 0 148 (dk_at dksX0_dance_1 10 rfl rfl)
theorem dX0_dance_36 : decode cX0_dance 36 = .ok (.dup, 1) := dk_89 (dk_at dksX0_dance_1 13 rfl rfl)
theorem dX0_dance_37 : decode cX0_dance 37 = .ok (.aload_n 0, 1) := dk_42 (dk_at dksX0_dance_1 14 rfl rfl)
theorem dX0_dance_38 : decode cX0_dance 38 = .ok (.iload_n 1, 1) := dk_27 (dk_at dksX0_dance_1 15 rfl rfl)
theorem dX0_dance_39 : decode cX0_dance 39 = .ok (.invokespecial 150, 3) := dk_183 0 150 (dk_at dksX0_dance_1 16 rfl rfl)
theorem dX0_dance_42 : decode cX0_dance 42 = .ok (.astore_n 3, 1) := dk_78 (dk_at dksX0_dance_1 19 rfl rfl)
theorem dX0_dance_43 : decode cX0_dance 43 = .ok (.aload_n 3, 1) := dk_45 (dk_at dksX0_dance_1 20 rfl rfl)
theorem dX0_dance_44 : decode cX0_dance 44 = .ok (.invokevirtual 151, 3) := dk_182 0 151 (dk_at dksX0_dance_1 21 rfl rfl)
theorem dX0_dance_47 : decode cX0_dance 47 = .ok (.istore 4, 2) := dk_54 4 (dk_at dksX0_dance_2 0 rfl rfl)
theorem dX0_dance_49 : decode cX0_dance 49 = .ok (.iload 4, 2) := dk_21 4 (dk_at dksX0_dance_2 2 rfl rfl)
theorem dX0_dance_51 : decode cX0_dance 51 = .ok (.ifCond .lt 7, 3) := dk_155 0 7 (dk_at dksX0_dance_2 4 rfl rfl)
theorem dX0_dance_54 : decode cX0_dance 54 = .ok (.iload_n 2, 1) := dk_28 (dk_at dksX0_dance_2 7 rfl rfl)
theorem dX0_dance_55 : decode cX0_dance 55 = .ok (.ifCond .ne 8, 3) := dk_154 0 8 (dk_at dksX0_dance_2 8 rfl rfl)
theorem dX0_dance_58 : decode cX0_dance 58 = .ok (.iload 4, 2) := dk_21 4 (dk_at dksX0_dance_2 11 rfl rfl)
theorem dX0_dance_60 : decode cX0_dance 60 = .ok (.goto 37, 3) := dk_167 0 37 (dk_at dksX0_dance_2 13 rfl rfl)
theorem dX0_dance_63 : decode cX0_dance 63 = .ok (.iload_n 2, 1) := dk_28 (dk_at dksX0_dance_2 16 rfl rfl)
theorem dX0_dance_64 : decode cX0_dance 64 = .ok (.iconst 1, 1) := dk_4 (dk_at dksX0_dance_2 17 rfl rfl)
theorem dX0_dance_65 : decode cX0_dance 65 = .ok (.if_icmp .ne 28, 3) := dk_160 0 28 (dk_at dksX0_dance_2 18 rfl rfl)
theorem dX0_dance_68 : decode cX0_dance 68 = .ok (.aload_n 0, 1) := dk_42 (dk_at dksX0_dance_2 21 rfl rfl)
theorem dX0_dance_69 : decode cX0_dance 69 = .ok (.getfield 16, 3) := dk_180 0 16 (dk_at dksX0_dance_3 0 rfl rfl)
theorem dX0_dance_72 : decode cX0_dance 72 = .ok (.getfield 152, 3) := dk_180 0 152 (dk_at dksX0_dance_3 3 rfl rfl)
theorem dX0_dance_75 : decode cX0_dance 75 = .ok (.aload_n 0, 1) := dk_42 (dk_at dksX0_dance_3 6 rfl rfl)
theorem dX0_dance_76 : decode cX0_dance 76 = .ok (.getfield 16, 3) := dk_180 0 16 (dk_at dksX0_dance_3 7 rfl rfl)
theorem dX0_dance_79 : decode cX0_dance 79 = .ok (.getfield 22, 3) := dk_180 0 22 (dk_at dksX0_dance_3 10 rfl rfl)
theorem dX0_dance_82 : decode cX0_dance 82 = .ok (.iand, 1) := dk_126 (dk_at dksX0_dance_3 13 rfl rfl)
theorem dX0_dance_83 : decode cX0_dance 83 = .ok (.aload_n 3, 1) := dk_45 (dk_at dksX0_dance_3 14 rfl rfl)
theorem dX0_dance_84 : decode cX0_dance 84 = .ok (.getfield 155, 3) := dk_180 0 155 (dk_at dksX0_dance_3 15 rfl rfl)
theorem dX0_dance_87 : decode cX0_dance 87 = .ok (.iconst (-1), 1) := dk_2 (dk_at dksX0_dance_3 18 rfl rfl)
theorem dX0_dance_88 : decode cX0_dance 88 = .ok (.ixor, 1) := dk_130 (dk_at dksX0_dance_3 19 rfl rfl)
theorem dX0_dance_89 : decode cX0_dance 89 = .ok (.iand, 1) := dk_126 (dk_at dksX0_dance_3 20 rfl rfl)
theorem dX0_dance_90 : decode cX0_dance 90 = .ok (.goto 7, 3) := dk_167 0 7 (dk_at dksX0_dance_3 21 rfl rfl)
theorem dX0_dance_93 : decode cX0_dance 93 = .ok (.aload_n 3, 1) := dk_45 (dk_at dksX0_dance_4 0 rfl rfl)
theorem dX0_dance_94 : decode cX0_dance 94 = .ok (.getfield 158, 3) := dk_180 0 158 (dk_at dksX0_dance_4 1 rfl rfl)
theorem dX0_dance_97 : decode cX0_dance 97 = .ok (.ireturn, 1) := dk_172 (dk_at dksX0_dance_4 4 rfl rfl)
abbrev cX0_has : ByteArray := prog_1_method_3_code
def yX0_has : MethodName := ⟨RX0, "has", "(II)Z"⟩
def dkwX0_has_0 : List UInt8 := [26, 27, 122, 4, 126, 4, 160, 0, 7, 4, 167, 0, 4, 3, 172]
abbrev dktX0_has_0 : List UInt8 := dkwX0_has_0 ++ []
theorem dksX0_has_0 : cX0_has.data.toList.drop 0 = dktX0_has_0 := by decide +kernel
theorem dX0_has_0 : decode cX0_has 0 = .ok (.iload_n 0, 1) := dk_26 (dk_at dksX0_has_0 0 rfl rfl)
theorem dX0_has_1 : decode cX0_has 1 = .ok (.iload_n 1, 1) := dk_27 (dk_at dksX0_has_0 1 rfl rfl)
theorem dX0_has_2 : decode cX0_has 2 = .ok (.ishr, 1) := dk_122 (dk_at dksX0_has_0 2 rfl rfl)
theorem dX0_has_3 : decode cX0_has 3 = .ok (.iconst 1, 1) := dk_4 (dk_at dksX0_has_0 3 rfl rfl)
theorem dX0_has_4 : decode cX0_has 4 = .ok (.iand, 1) := dk_126 (dk_at dksX0_has_0 4 rfl rfl)
theorem dX0_has_5 : decode cX0_has 5 = .ok (.iconst 1, 1) := dk_4 (dk_at dksX0_has_0 5 rfl rfl)
theorem dX0_has_6 : decode cX0_has 6 = .ok (.if_icmp .ne 7, 3) := dk_160 0 7 (dk_at dksX0_has_0 6 rfl rfl)
theorem dX0_has_9 : decode cX0_has 9 = .ok (.iconst 1, 1) := dk_4 (dk_at dksX0_has_0 9 rfl rfl)
theorem dX0_has_10 : decode cX0_has 10 = .ok (.goto 4, 3) := dk_167 0 4 (dk_at dksX0_has_0 10 rfl rfl)
theorem dX0_has_13 : decode cX0_has 13 = .ok (.iconst 0, 1) := dk_3 (dk_at dksX0_has_0 13 rfl rfl)
theorem dX0_has_14 : decode cX0_has 14 = .ok (.ireturn, 1) := dk_172 (dk_at dksX0_has_0 14 rfl rfl)
abbrev cX0_evenings : ByteArray := prog_1_method_14_code
def yX0_evenings : MethodName := ⟨RX0, "evenings", "(I)I"⟩
def dkwX0_evenings_1 : List UInt8 := [2, 172]
abbrev dktX0_evenings_1 : List UInt8 := dkwX0_evenings_1 ++ []
def dkwX0_evenings_0 : List UInt8 := [27, 4, 16, 100, 184, 0, 120, 153, 0, 17, 42, 180, 0, 63, 27, 182, 0, 161, 180, 0, 165, 167, 0, 4]
abbrev dktX0_evenings_0 : List UInt8 := dkwX0_evenings_0 ++ dktX0_evenings_1
theorem dksX0_evenings_0 : cX0_evenings.data.toList.drop 0 = dktX0_evenings_0 := by decide +kernel
theorem dksX0_evenings_1 : cX0_evenings.data.toList.drop 24 = dktX0_evenings_1 := dk_seg dksX0_evenings_0 24 rfl rfl
theorem dX0_evenings_0 : decode cX0_evenings 0 = .ok (.iload_n 1, 1) := dk_27 (dk_at dksX0_evenings_0 0 rfl rfl)
theorem dX0_evenings_1 : decode cX0_evenings 1 = .ok (.iconst 1, 1) := dk_4 (dk_at dksX0_evenings_0 1 rfl rfl)
theorem dX0_evenings_2 : decode cX0_evenings 2 = .ok (.bipush 100, 2) := dk_16 100 (dk_at dksX0_evenings_0 2 rfl rfl)
theorem dX0_evenings_4 : decode cX0_evenings 4 = .ok (.invokestatic 120, 3) := dk_184 0 120 (dk_at dksX0_evenings_0 4 rfl rfl)
theorem dX0_evenings_7 : decode cX0_evenings 7 = .ok (.ifCond .eq 17, 3) := dk_153 0 17 (dk_at dksX0_evenings_0 7 rfl rfl)
theorem dX0_evenings_10 : decode cX0_evenings 10 = .ok (.aload_n 0, 1) := dk_42 (dk_at dksX0_evenings_0 10 rfl rfl)
theorem dX0_evenings_11 : decode cX0_evenings 11 = .ok (.getfield 63, 3) := dk_180 0 63 (dk_at dksX0_evenings_0 11 rfl rfl)
theorem dX0_evenings_14 : decode cX0_evenings 14 = .ok (.iload_n 1, 1) := dk_27 (dk_at dksX0_evenings_0 14 rfl rfl)
theorem dX0_evenings_15 : decode cX0_evenings 15 = .ok (.invokevirtual 161, 3) := dk_182 0 161 (dk_at dksX0_evenings_0 15 rfl rfl)
theorem dX0_evenings_18 : decode cX0_evenings 18 = .ok (.getfield 165, 3) := dk_180 0 165 (dk_at dksX0_evenings_0 18 rfl rfl)
theorem dX0_evenings_21 : decode cX0_evenings 21 = .ok (.goto 4, 3) := dk_167 0 4 (dk_at dksX0_evenings_0 21 rfl rfl)
theorem dX0_evenings_24 : decode cX0_evenings 24 = .ok (.iconst (-1), 1) := dk_2 (dk_at dksX0_evenings_1 0 rfl rfl)
theorem dX0_evenings_25 : decode cX0_evenings 25 = .ok (.ireturn, 1) := dk_172 (dk_at dksX0_evenings_1 1 rfl rfl)
abbrev cX0_tells : ByteArray := prog_1_method_7_code
def yX0_tells : MethodName := ⟨RX0, "tells", "(I)I"⟩
def dkwX0_tells_0 : List UInt8 := [42, 180, 0, 28, 27, 42, 180, 0, 32, 182, 0, 36, 17, 39, 15, 184, 0, 42, 172]
abbrev dktX0_tells_0 : List UInt8 := dkwX0_tells_0 ++ []
theorem dksX0_tells_0 : cX0_tells.data.toList.drop 0 = dktX0_tells_0 := by decide +kernel
theorem dX0_tells_0 : decode cX0_tells 0 = .ok (.aload_n 0, 1) := dk_42 (dk_at dksX0_tells_0 0 rfl rfl)
theorem dX0_tells_1 : decode cX0_tells 1 = .ok (.getfield 28, 3) := dk_180 0 28 (dk_at dksX0_tells_0 1 rfl rfl)
theorem dX0_tells_4 : decode cX0_tells 4 = .ok (.iload_n 1, 1) := dk_27 (dk_at dksX0_tells_0 4 rfl rfl)
theorem dX0_tells_5 : decode cX0_tells 5 = .ok (.aload_n 0, 1) := dk_42 (dk_at dksX0_tells_0 5 rfl rfl)
theorem dX0_tells_6 : decode cX0_tells 6 = .ok (.getfield 32, 3) := dk_180 0 32 (dk_at dksX0_tells_0 6 rfl rfl)
theorem dX0_tells_9 : decode cX0_tells 9 = .ok (.invokevirtual 36, 3) := dk_182 0 36 (dk_at dksX0_tells_0 9 rfl rfl)
theorem dX0_tells_12 : decode cX0_tells 12 = .ok (.sipush 9999, 3) := dk_17 39 15 (dk_at dksX0_tells_0 12 rfl rfl)
theorem dX0_tells_15 : decode cX0_tells 15 = .ok (.invokestatic 42, 3) := dk_184 0 42 (dk_at dksX0_tells_0 15 rfl rfl)
theorem dX0_tells_18 : decode cX0_tells 18 = .ok (.ireturn, 1) := dk_172 (dk_at dksX0_tells_0 18 rfl rfl)
abbrev cX0_held : ByteArray := prog_1_method_4_code
def yX0_held : MethodName := ⟨RX0, "held", "(II)I"⟩
def dkwX0_held_0 : List UInt8 := [3, 27, 26, 184, 0, 1, 184, 0, 7, 172]
abbrev dktX0_held_0 : List UInt8 := dkwX0_held_0 ++ []
theorem dksX0_held_0 : cX0_held.data.toList.drop 0 = dktX0_held_0 := by decide +kernel
theorem dX0_held_0 : decode cX0_held 0 = .ok (.iconst 0, 1) := dk_3 (dk_at dksX0_held_0 0 rfl rfl)
theorem dX0_held_1 : decode cX0_held 1 = .ok (.iload_n 1, 1) := dk_27 (dk_at dksX0_held_0 1 rfl rfl)
theorem dX0_held_2 : decode cX0_held 2 = .ok (.iload_n 0, 1) := dk_26 (dk_at dksX0_held_0 2 rfl rfl)
theorem dX0_held_3 : decode cX0_held 3 = .ok (.invokestatic 1, 3) := dk_184 0 1 (dk_at dksX0_held_0 3 rfl rfl)
theorem dX0_held_6 : decode cX0_held 6 = .ok (.invokestatic 7, 3) := dk_184 0 7 (dk_at dksX0_held_0 6 rfl rfl)
theorem dX0_held_9 : decode cX0_held 9 = .ok (.ireturn, 1) := dk_172 (dk_at dksX0_held_0 9 rfl rfl)
abbrev cX0_tried : ByteArray := prog_1_method_15_code
def yX0_tried : MethodName := ⟨RX0, "tried", "(II)I"⟩
def dkwX0_tried_6 : List UInt8 := [180, 0, 67, 28, 16, 30, 100, 3, 182, 0, 184, 172]
abbrev dktX0_tried_6 : List UInt8 := dkwX0_tried_6 ++ []
def dkwX0_tried_5 : List UInt8 := [28, 16, 30, 162, 0, 18, 42, 180, 0, 67, 180, 0, 181, 28, 16, 10, 100, 46, 167, 0, 15, 42]
abbrev dktX0_tried_5 : List UInt8 := dkwX0_tried_5 ++ dktX0_tried_6
def dkwX0_tried_4 : List UInt8 := [42, 180, 0, 67, 180, 0, 165, 172, 42, 180, 0, 67, 180, 0, 175, 172, 42, 180, 0, 67, 182, 0, 178, 172]
abbrev dktX0_tried_4 : List UInt8 := dkwX0_tried_4 ++ dktX0_tried_5
def dkwX0_tried_3 : List UInt8 := [170, 0, 0, 0, 0, 0, 51, 0, 0, 0, 0, 0, 0, 0, 2, 0, 0, 0, 27, 0, 0, 0, 35, 0, 0, 0, 43]
abbrev dktX0_tried_3 : List UInt8 := dkwX0_tried_3 ++ dktX0_tried_4
def dkwX0_tried_2 : List UInt8 := [172, 42, 180, 0, 67, 42, 180, 0, 63, 182, 0, 172, 27, 182, 0, 161, 87, 28]
abbrev dktX0_tried_2 : List UInt8 := dkwX0_tried_2 ++ dktX0_tried_3
def dkwX0_tried_1 : List UInt8 := [16, 10, 100, 182, 0, 168, 154, 0, 19, 42, 180, 0, 16, 28, 16, 30, 100, 182, 0, 168, 154, 0, 5, 2]
abbrev dktX0_tried_1 : List UInt8 := dkwX0_tried_1 ++ dktX0_tried_2
def dkwX0_tried_0 : List UInt8 := [27, 4, 16, 100, 184, 0, 120, 153, 0, 39, 28, 6, 184, 0, 144, 154, 0, 33, 42, 180, 0, 16, 28]
abbrev dktX0_tried_0 : List UInt8 := dkwX0_tried_0 ++ dktX0_tried_1
theorem dksX0_tried_0 : cX0_tried.data.toList.drop 0 = dktX0_tried_0 := by decide +kernel
theorem dksX0_tried_1 : cX0_tried.data.toList.drop 23 = dktX0_tried_1 := dk_seg dksX0_tried_0 23 rfl rfl
theorem dksX0_tried_2 : cX0_tried.data.toList.drop 47 = dktX0_tried_2 := dk_seg dksX0_tried_1 24 rfl rfl
theorem dksX0_tried_3 : cX0_tried.data.toList.drop 65 = dktX0_tried_3 := dk_seg dksX0_tried_2 18 rfl rfl
theorem dksX0_tried_4 : cX0_tried.data.toList.drop 92 = dktX0_tried_4 := dk_seg dksX0_tried_3 27 rfl rfl
theorem dksX0_tried_5 : cX0_tried.data.toList.drop 116 = dktX0_tried_5 := dk_seg dksX0_tried_4 24 rfl rfl
theorem dksX0_tried_6 : cX0_tried.data.toList.drop 138 = dktX0_tried_6 := dk_seg dksX0_tried_5 22 rfl rfl
theorem dX0_tried_0 : decode cX0_tried 0 = .ok (.iload_n 1, 1) := dk_27 (dk_at dksX0_tried_0 0 rfl rfl)
theorem dX0_tried_1 : decode cX0_tried 1 = .ok (.iconst 1, 1) := dk_4 (dk_at dksX0_tried_0 1 rfl rfl)
theorem dX0_tried_2 : decode cX0_tried 2 = .ok (.bipush 100, 2) := dk_16 100 (dk_at dksX0_tried_0 2 rfl rfl)
theorem dX0_tried_4 : decode cX0_tried 4 = .ok (.invokestatic 120, 3) := dk_184 0 120 (dk_at dksX0_tried_0 4 rfl rfl)
theorem dX0_tried_7 : decode cX0_tried 7 = .ok (.ifCond .eq 39, 3) := dk_153 0 39 (dk_at dksX0_tried_0 7 rfl rfl)
theorem dX0_tried_10 : decode cX0_tried 10 = .ok (.iload_n 2, 1) := dk_28 (dk_at dksX0_tried_0 10 rfl rfl)
theorem dX0_tried_11 : decode cX0_tried 11 = .ok (.iconst 3, 1) := dk_6 (dk_at dksX0_tried_0 11 rfl rfl)
theorem dX0_tried_12 : decode cX0_tried 12 = .ok (.invokestatic 144, 3) := dk_184 0 144 (dk_at dksX0_tried_0 12 rfl rfl)
theorem dX0_tried_15 : decode cX0_tried 15 = .ok (.ifCond .ne 33, 3) := dk_154 0 33 (dk_at dksX0_tried_0 15 rfl rfl)
theorem dX0_tried_18 : decode cX0_tried 18 = .ok (.aload_n 0, 1) := dk_42 (dk_at dksX0_tried_0 18 rfl rfl)
theorem dX0_tried_19 : decode cX0_tried 19 = .ok (.getfield 16, 3) := dk_180 0 16 (dk_at dksX0_tried_0 19 rfl rfl)
theorem dX0_tried_22 : decode cX0_tried 22 = .ok (.iload_n 2, 1) := dk_28 (dk_at dksX0_tried_0 22 rfl rfl)
theorem dX0_tried_23 : decode cX0_tried 23 = .ok (.bipush 10, 2) := dk_16 10 (dk_at dksX0_tried_1 0 rfl rfl)
theorem dX0_tried_25 : decode cX0_tried 25 = .ok (.isub, 1) := dk_100 (dk_at dksX0_tried_1 2 rfl rfl)
theorem dX0_tried_26 : decode cX0_tried 26 = .ok (.invokevirtual 168, 3) := dk_182 0 168 (dk_at dksX0_tried_1 3 rfl rfl)
theorem dX0_tried_29 : decode cX0_tried 29 = .ok (.ifCond .ne 19, 3) := dk_154 0 19 (dk_at dksX0_tried_1 6 rfl rfl)
theorem dX0_tried_32 : decode cX0_tried 32 = .ok (.aload_n 0, 1) := dk_42 (dk_at dksX0_tried_1 9 rfl rfl)
theorem dX0_tried_33 : decode cX0_tried 33 = .ok (.getfield 16, 3) := dk_180 0 16 (dk_at dksX0_tried_1 10 rfl rfl)
theorem dX0_tried_36 : decode cX0_tried 36 = .ok (.iload_n 2, 1) := dk_28 (dk_at dksX0_tried_1 13 rfl rfl)
theorem dX0_tried_37 : decode cX0_tried 37 = .ok (.bipush 30, 2) := dk_16 30 (dk_at dksX0_tried_1 14 rfl rfl)
theorem dX0_tried_39 : decode cX0_tried 39 = .ok (.isub, 1) := dk_100 (dk_at dksX0_tried_1 16 rfl rfl)
theorem dX0_tried_40 : decode cX0_tried 40 = .ok (.invokevirtual 168, 3) := dk_182 0 168 (dk_at dksX0_tried_1 17 rfl rfl)
theorem dX0_tried_43 : decode cX0_tried 43 = .ok (.ifCond .ne 5, 3) := dk_154 0 5 (dk_at dksX0_tried_1 20 rfl rfl)
theorem dX0_tried_46 : decode cX0_tried 46 = .ok (.iconst (-1), 1) := dk_2 (dk_at dksX0_tried_1 23 rfl rfl)
theorem dX0_tried_47 : decode cX0_tried 47 = .ok (.ireturn, 1) := dk_172 (dk_at dksX0_tried_2 0 rfl rfl)
theorem dX0_tried_48 : decode cX0_tried 48 = .ok (.aload_n 0, 1) := dk_42 (dk_at dksX0_tried_2 1 rfl rfl)
theorem dX0_tried_49 : decode cX0_tried 49 = .ok (.getfield 67, 3) := dk_180 0 67 (dk_at dksX0_tried_2 2 rfl rfl)
theorem dX0_tried_52 : decode cX0_tried 52 = .ok (.aload_n 0, 1) := dk_42 (dk_at dksX0_tried_2 5 rfl rfl)
theorem dX0_tried_53 : decode cX0_tried 53 = .ok (.getfield 63, 3) := dk_180 0 63 (dk_at dksX0_tried_2 6 rfl rfl)
theorem dX0_tried_56 : decode cX0_tried 56 = .ok (.invokevirtual 172, 3) := dk_182 0 172 (dk_at dksX0_tried_2 9 rfl rfl)
theorem dX0_tried_59 : decode cX0_tried 59 = .ok (.iload_n 1, 1) := dk_27 (dk_at dksX0_tried_2 12 rfl rfl)
theorem dX0_tried_60 : decode cX0_tried 60 = .ok (.invokevirtual 161, 3) := dk_182 0 161 (dk_at dksX0_tried_2 13 rfl rfl)
theorem dX0_tried_63 : decode cX0_tried 63 = .ok (.pop, 1) := dk_87 (dk_at dksX0_tried_2 16 rfl rfl)
theorem dX0_tried_64 : decode cX0_tried 64 = .ok (.iload_n 2, 1) := dk_28 (dk_at dksX0_tried_2 17 rfl rfl)
theorem dX0_tried_65 : decode cX0_tried 65 = .ok (.tableswitch 51 0 2 #[27, 35, 43], 27) := by decide +kernel
theorem dX0_tried_92 : decode cX0_tried 92 = .ok (.aload_n 0, 1) := dk_42 (dk_at dksX0_tried_4 0 rfl rfl)
theorem dX0_tried_93 : decode cX0_tried 93 = .ok (.getfield 67, 3) := dk_180 0 67 (dk_at dksX0_tried_4 1 rfl rfl)
theorem dX0_tried_96 : decode cX0_tried 96 = .ok (.getfield 165, 3) := dk_180 0 165 (dk_at dksX0_tried_4 4 rfl rfl)
theorem dX0_tried_99 : decode cX0_tried 99 = .ok (.ireturn, 1) := dk_172 (dk_at dksX0_tried_4 7 rfl rfl)
theorem dX0_tried_100 : decode cX0_tried 100 = .ok (.aload_n 0, 1) := dk_42 (dk_at dksX0_tried_4 8 rfl rfl)
theorem dX0_tried_101 : decode cX0_tried 101 = .ok (.getfield 67, 3) := dk_180 0 67 (dk_at dksX0_tried_4 9 rfl rfl)
theorem dX0_tried_104 : decode cX0_tried 104 = .ok (.getfield 175, 3) := dk_180 0 175 (dk_at dksX0_tried_4 12 rfl rfl)
theorem dX0_tried_107 : decode cX0_tried 107 = .ok (.ireturn, 1) := dk_172 (dk_at dksX0_tried_4 15 rfl rfl)
theorem dX0_tried_108 : decode cX0_tried 108 = .ok (.aload_n 0, 1) := dk_42 (dk_at dksX0_tried_4 16 rfl rfl)
theorem dX0_tried_109 : decode cX0_tried 109 = .ok (.getfield 67, 3) := dk_180 0 67 (dk_at dksX0_tried_4 17 rfl rfl)
theorem dX0_tried_112 : decode cX0_tried 112 = .ok (.invokevirtual 178, 3) := dk_182 0 178 (dk_at dksX0_tried_4 20 rfl rfl)
theorem dX0_tried_115 : decode cX0_tried 115 = .ok (.ireturn, 1) := dk_172 (dk_at dksX0_tried_4 23 rfl rfl)
theorem dX0_tried_116 : decode cX0_tried 116 = .ok (.iload_n 2, 1) := dk_28 (dk_at dksX0_tried_5 0 rfl rfl)
theorem dX0_tried_117 : decode cX0_tried 117 = .ok (.bipush 30, 2) := dk_16 30 (dk_at dksX0_tried_5 1 rfl rfl)
theorem dX0_tried_119 : decode cX0_tried 119 = .ok (.if_icmp .ge 18, 3) := dk_162 0 18 (dk_at dksX0_tried_5 3 rfl rfl)
theorem dX0_tried_122 : decode cX0_tried 122 = .ok (.aload_n 0, 1) := dk_42 (dk_at dksX0_tried_5 6 rfl rfl)
theorem dX0_tried_123 : decode cX0_tried 123 = .ok (.getfield 67, 3) := dk_180 0 67 (dk_at dksX0_tried_5 7 rfl rfl)
theorem dX0_tried_126 : decode cX0_tried 126 = .ok (.getfield 181, 3) := dk_180 0 181 (dk_at dksX0_tried_5 10 rfl rfl)
theorem dX0_tried_129 : decode cX0_tried 129 = .ok (.iload_n 2, 1) := dk_28 (dk_at dksX0_tried_5 13 rfl rfl)
theorem dX0_tried_130 : decode cX0_tried 130 = .ok (.bipush 10, 2) := dk_16 10 (dk_at dksX0_tried_5 14 rfl rfl)
theorem dX0_tried_132 : decode cX0_tried 132 = .ok (.isub, 1) := dk_100 (dk_at dksX0_tried_5 16 rfl rfl)
theorem dX0_tried_133 : decode cX0_tried 133 = .ok (.iaload, 1) := dk_46 (dk_at dksX0_tried_5 17 rfl rfl)
theorem dX0_tried_134 : decode cX0_tried 134 = .ok (.goto 15, 3) := dk_167 0 15 (dk_at dksX0_tried_5 18 rfl rfl)
theorem dX0_tried_137 : decode cX0_tried 137 = .ok (.aload_n 0, 1) := dk_42 (dk_at dksX0_tried_5 21 rfl rfl)
theorem dX0_tried_138 : decode cX0_tried 138 = .ok (.getfield 67, 3) := dk_180 0 67 (dk_at dksX0_tried_6 0 rfl rfl)
theorem dX0_tried_141 : decode cX0_tried 141 = .ok (.iload_n 2, 1) := dk_28 (dk_at dksX0_tried_6 3 rfl rfl)
theorem dX0_tried_142 : decode cX0_tried 142 = .ok (.bipush 30, 2) := dk_16 30 (dk_at dksX0_tried_6 4 rfl rfl)
theorem dX0_tried_144 : decode cX0_tried 144 = .ok (.isub, 1) := dk_100 (dk_at dksX0_tried_6 6 rfl rfl)
theorem dX0_tried_145 : decode cX0_tried 145 = .ok (.iconst 0, 1) := dk_3 (dk_at dksX0_tried_6 7 rfl rfl)
theorem dX0_tried_146 : decode cX0_tried 146 = .ok (.invokevirtual 184, 3) := dk_182 0 184 (dk_at dksX0_tried_6 8 rfl rfl)
theorem dX0_tried_149 : decode cX0_tried 149 = .ok (.ireturn, 1) := dk_172 (dk_at dksX0_tried_6 11 rfl rfl)
abbrev cX0_personIs : ByteArray := prog_1_method_16_code
def yX0_personIs : MethodName := ⟨RX0, "personIs", "(II)I"⟩
def dkwX0_personIs_4 : List UInt8 := [46, 172, 42, 180, 0, 63, 27, 3, 182, 0, 184, 172, 42, 180, 0, 63, 27, 4, 182, 0, 184, 172, 2, 172]
abbrev dktX0_personIs_4 : List UInt8 := dkwX0_personIs_4 ++ []
def dkwX0_personIs_3 : List UInt8 := [4, 167, 0, 4, 3, 172, 42, 180, 0, 63, 180, 0, 181, 27, 46, 172, 42, 180, 0, 16, 180, 0, 194, 27]
abbrev dktX0_personIs_3 : List UInt8 := dkwX0_personIs_3 ++ dktX0_personIs_4
def dkwX0_personIs_2 : List UInt8 := [42, 180, 0, 16, 180, 0, 188, 27, 46, 172, 42, 180, 0, 16, 180, 0, 152, 27, 184, 0, 191, 153, 0, 7]
abbrev dktX0_personIs_2 : List UInt8 := dkwX0_personIs_2 ++ dktX0_personIs_3
def dkwX0_personIs_1 : List UInt8 := [170, 0, 0, 0, 0, 108, 0, 0, 0, 0, 0, 0, 0, 5, 0, 0, 0, 38, 0, 0, 0, 48, 0, 0, 0, 68, 0, 0, 0, 78, 0, 0, 0, 88, 0, 0, 0, 98]
abbrev dktX0_personIs_1 : List UInt8 := dkwX0_personIs_1 ++ dktX0_personIs_2
def dkwX0_personIs_0 : List UInt8 := [42, 180, 0, 16, 27, 182, 0, 168, 154, 0, 5, 2, 172, 28]
abbrev dktX0_personIs_0 : List UInt8 := dkwX0_personIs_0 ++ dktX0_personIs_1
theorem dksX0_personIs_0 : cX0_personIs.data.toList.drop 0 = dktX0_personIs_0 := by decide +kernel
theorem dksX0_personIs_1 : cX0_personIs.data.toList.drop 14 = dktX0_personIs_1 := dk_seg dksX0_personIs_0 14 rfl rfl
theorem dksX0_personIs_2 : cX0_personIs.data.toList.drop 52 = dktX0_personIs_2 := dk_seg dksX0_personIs_1 38 rfl rfl
theorem dksX0_personIs_3 : cX0_personIs.data.toList.drop 76 = dktX0_personIs_3 := dk_seg dksX0_personIs_2 24 rfl rfl
theorem dksX0_personIs_4 : cX0_personIs.data.toList.drop 100 = dktX0_personIs_4 := dk_seg dksX0_personIs_3 24 rfl rfl
theorem dX0_personIs_0 : decode cX0_personIs 0 = .ok (.aload_n 0, 1) := dk_42 (dk_at dksX0_personIs_0 0 rfl rfl)
theorem dX0_personIs_1 : decode cX0_personIs 1 = .ok (.getfield 16, 3) := dk_180 0 16 (dk_at dksX0_personIs_0 1 rfl rfl)
theorem dX0_personIs_4 : decode cX0_personIs 4 = .ok (.iload_n 1, 1) := dk_27 (dk_at dksX0_personIs_0 4 rfl rfl)
theorem dX0_personIs_5 : decode cX0_personIs 5 = .ok (.invokevirtual 168, 3) := dk_182 0 168 (dk_at dksX0_personIs_0 5 rfl rfl)
theorem dX0_personIs_8 : decode cX0_personIs 8 = .ok (.ifCond .ne 5, 3) := dk_154 0 5 (dk_at dksX0_personIs_0 8 rfl rfl)
theorem dX0_personIs_11 : decode cX0_personIs 11 = .ok (.iconst (-1), 1) := dk_2 (dk_at dksX0_personIs_0 11 rfl rfl)
theorem dX0_personIs_12 : decode cX0_personIs 12 = .ok (.ireturn, 1) := dk_172 (dk_at dksX0_personIs_0 12 rfl rfl)
theorem dX0_personIs_13 : decode cX0_personIs 13 = .ok (.iload_n 2, 1) := dk_28 (dk_at dksX0_personIs_0 13 rfl rfl)
theorem dX0_personIs_14 : decode cX0_personIs 14 = .ok (.tableswitch 108 0 5 #[38, 48, 68, 78, 88, 98], 38) := by decide +kernel
theorem dX0_personIs_52 : decode cX0_personIs 52 = .ok (.aload_n 0, 1) := dk_42 (dk_at dksX0_personIs_2 0 rfl rfl)
theorem dX0_personIs_53 : decode cX0_personIs 53 = .ok (.getfield 16, 3) := dk_180 0 16 (dk_at dksX0_personIs_2 1 rfl rfl)
theorem dX0_personIs_56 : decode cX0_personIs 56 = .ok (.getfield 188, 3) := dk_180 0 188 (dk_at dksX0_personIs_2 4 rfl rfl)
theorem dX0_personIs_59 : decode cX0_personIs 59 = .ok (.iload_n 1, 1) := dk_27 (dk_at dksX0_personIs_2 7 rfl rfl)
theorem dX0_personIs_60 : decode cX0_personIs 60 = .ok (.iaload, 1) := dk_46 (dk_at dksX0_personIs_2 8 rfl rfl)
theorem dX0_personIs_61 : decode cX0_personIs 61 = .ok (.ireturn, 1) := dk_172 (dk_at dksX0_personIs_2 9 rfl rfl)
theorem dX0_personIs_62 : decode cX0_personIs 62 = .ok (.aload_n 0, 1) := dk_42 (dk_at dksX0_personIs_2 10 rfl rfl)
theorem dX0_personIs_63 : decode cX0_personIs 63 = .ok (.getfield 16, 3) := dk_180 0 16 (dk_at dksX0_personIs_2 11 rfl rfl)
theorem dX0_personIs_66 : decode cX0_personIs 66 = .ok (.getfield 152, 3) := dk_180 0 152 (dk_at dksX0_personIs_2 14 rfl rfl)
theorem dX0_personIs_69 : decode cX0_personIs 69 = .ok (.iload_n 1, 1) := dk_27 (dk_at dksX0_personIs_2 17 rfl rfl)
theorem dX0_personIs_70 : decode cX0_personIs 70 = .ok (.invokestatic 191, 3) := dk_184 0 191 (dk_at dksX0_personIs_2 18 rfl rfl)
theorem dX0_personIs_73 : decode cX0_personIs 73 = .ok (.ifCond .eq 7, 3) := dk_153 0 7 (dk_at dksX0_personIs_2 21 rfl rfl)
theorem dX0_personIs_76 : decode cX0_personIs 76 = .ok (.iconst 1, 1) := dk_4 (dk_at dksX0_personIs_3 0 rfl rfl)
theorem dX0_personIs_77 : decode cX0_personIs 77 = .ok (.goto 4, 3) := dk_167 0 4 (dk_at dksX0_personIs_3 1 rfl rfl)
theorem dX0_personIs_80 : decode cX0_personIs 80 = .ok (.iconst 0, 1) := dk_3 (dk_at dksX0_personIs_3 4 rfl rfl)
theorem dX0_personIs_81 : decode cX0_personIs 81 = .ok (.ireturn, 1) := dk_172 (dk_at dksX0_personIs_3 5 rfl rfl)
theorem dX0_personIs_82 : decode cX0_personIs 82 = .ok (.aload_n 0, 1) := dk_42 (dk_at dksX0_personIs_3 6 rfl rfl)
theorem dX0_personIs_83 : decode cX0_personIs 83 = .ok (.getfield 63, 3) := dk_180 0 63 (dk_at dksX0_personIs_3 7 rfl rfl)
theorem dX0_personIs_86 : decode cX0_personIs 86 = .ok (.getfield 181, 3) := dk_180 0 181 (dk_at dksX0_personIs_3 10 rfl rfl)
theorem dX0_personIs_89 : decode cX0_personIs 89 = .ok (.iload_n 1, 1) := dk_27 (dk_at dksX0_personIs_3 13 rfl rfl)
theorem dX0_personIs_90 : decode cX0_personIs 90 = .ok (.iaload, 1) := dk_46 (dk_at dksX0_personIs_3 14 rfl rfl)
theorem dX0_personIs_91 : decode cX0_personIs 91 = .ok (.ireturn, 1) := dk_172 (dk_at dksX0_personIs_3 15 rfl rfl)
theorem dX0_personIs_92 : decode cX0_personIs 92 = .ok (.aload_n 0, 1) := dk_42 (dk_at dksX0_personIs_3 16 rfl rfl)
theorem dX0_personIs_93 : decode cX0_personIs 93 = .ok (.getfield 16, 3) := dk_180 0 16 (dk_at dksX0_personIs_3 17 rfl rfl)
theorem dX0_personIs_96 : decode cX0_personIs 96 = .ok (.getfield 194, 3) := dk_180 0 194 (dk_at dksX0_personIs_3 20 rfl rfl)
theorem dX0_personIs_99 : decode cX0_personIs 99 = .ok (.iload_n 1, 1) := dk_27 (dk_at dksX0_personIs_3 23 rfl rfl)
theorem dX0_personIs_100 : decode cX0_personIs 100 = .ok (.iaload, 1) := dk_46 (dk_at dksX0_personIs_4 0 rfl rfl)
theorem dX0_personIs_101 : decode cX0_personIs 101 = .ok (.ireturn, 1) := dk_172 (dk_at dksX0_personIs_4 1 rfl rfl)
theorem dX0_personIs_102 : decode cX0_personIs 102 = .ok (.aload_n 0, 1) := dk_42 (dk_at dksX0_personIs_4 2 rfl rfl)
theorem dX0_personIs_103 : decode cX0_personIs 103 = .ok (.getfield 63, 3) := dk_180 0 63 (dk_at dksX0_personIs_4 3 rfl rfl)
theorem dX0_personIs_106 : decode cX0_personIs 106 = .ok (.iload_n 1, 1) := dk_27 (dk_at dksX0_personIs_4 6 rfl rfl)
theorem dX0_personIs_107 : decode cX0_personIs 107 = .ok (.iconst 0, 1) := dk_3 (dk_at dksX0_personIs_4 7 rfl rfl)
theorem dX0_personIs_108 : decode cX0_personIs 108 = .ok (.invokevirtual 184, 3) := dk_182 0 184 (dk_at dksX0_personIs_4 8 rfl rfl)
theorem dX0_personIs_111 : decode cX0_personIs 111 = .ok (.ireturn, 1) := dk_172 (dk_at dksX0_personIs_4 11 rfl rfl)
theorem dX0_personIs_112 : decode cX0_personIs 112 = .ok (.aload_n 0, 1) := dk_42 (dk_at dksX0_personIs_4 12 rfl rfl)
theorem dX0_personIs_113 : decode cX0_personIs 113 = .ok (.getfield 63, 3) := dk_180 0 63 (dk_at dksX0_personIs_4 13 rfl rfl)
theorem dX0_personIs_116 : decode cX0_personIs 116 = .ok (.iload_n 1, 1) := dk_27 (dk_at dksX0_personIs_4 16 rfl rfl)
theorem dX0_personIs_117 : decode cX0_personIs 117 = .ok (.iconst 1, 1) := dk_4 (dk_at dksX0_personIs_4 17 rfl rfl)
theorem dX0_personIs_118 : decode cX0_personIs 118 = .ok (.invokevirtual 184, 3) := dk_182 0 184 (dk_at dksX0_personIs_4 18 rfl rfl)
theorem dX0_personIs_121 : decode cX0_personIs 121 = .ok (.ireturn, 1) := dk_172 (dk_at dksX0_personIs_4 21 rfl rfl)
theorem dX0_personIs_122 : decode cX0_personIs 122 = .ok (.iconst (-1), 1) := dk_2 (dk_at dksX0_personIs_4 22 rfl rfl)
theorem dX0_personIs_123 : decode cX0_personIs 123 = .ok (.ireturn, 1) := dk_172 (dk_at dksX0_personIs_4 23 rfl rfl)
abbrev cX0_favours : ByteArray := prog_1_method_17_code
def yX0_favours : MethodName := ⟨RX0, "favours", "(II)I"⟩
def dkwX0_favours_1 : List UInt8 := [180, 0, 63, 180, 0, 197, 27, 50, 28, 46, 167, 0, 4, 2, 172]
abbrev dktX0_favours_1 : List UInt8 := dkwX0_favours_1 ++ []
def dkwX0_favours_0 : List UInt8 := [42, 180, 0, 16, 27, 182, 0, 168, 153, 0, 28, 42, 180, 0, 16, 28, 182, 0, 168, 153, 0, 17, 42]
abbrev dktX0_favours_0 : List UInt8 := dkwX0_favours_0 ++ dktX0_favours_1
theorem dksX0_favours_0 : cX0_favours.data.toList.drop 0 = dktX0_favours_0 := by decide +kernel
theorem dksX0_favours_1 : cX0_favours.data.toList.drop 23 = dktX0_favours_1 := dk_seg dksX0_favours_0 23 rfl rfl
theorem dX0_favours_0 : decode cX0_favours 0 = .ok (.aload_n 0, 1) := dk_42 (dk_at dksX0_favours_0 0 rfl rfl)
theorem dX0_favours_1 : decode cX0_favours 1 = .ok (.getfield 16, 3) := dk_180 0 16 (dk_at dksX0_favours_0 1 rfl rfl)
theorem dX0_favours_4 : decode cX0_favours 4 = .ok (.iload_n 1, 1) := dk_27 (dk_at dksX0_favours_0 4 rfl rfl)
theorem dX0_favours_5 : decode cX0_favours 5 = .ok (.invokevirtual 168, 3) := dk_182 0 168 (dk_at dksX0_favours_0 5 rfl rfl)
theorem dX0_favours_8 : decode cX0_favours 8 = .ok (.ifCond .eq 28, 3) := dk_153 0 28 (dk_at dksX0_favours_0 8 rfl rfl)
theorem dX0_favours_11 : decode cX0_favours 11 = .ok (.aload_n 0, 1) := dk_42 (dk_at dksX0_favours_0 11 rfl rfl)
theorem dX0_favours_12 : decode cX0_favours 12 = .ok (.getfield 16, 3) := dk_180 0 16 (dk_at dksX0_favours_0 12 rfl rfl)
theorem dX0_favours_15 : decode cX0_favours 15 = .ok (.iload_n 2, 1) := dk_28 (dk_at dksX0_favours_0 15 rfl rfl)
theorem dX0_favours_16 : decode cX0_favours 16 = .ok (.invokevirtual 168, 3) := dk_182 0 168 (dk_at dksX0_favours_0 16 rfl rfl)
theorem dX0_favours_19 : decode cX0_favours 19 = .ok (.ifCond .eq 17, 3) := dk_153 0 17 (dk_at dksX0_favours_0 19 rfl rfl)
theorem dX0_favours_22 : decode cX0_favours 22 = .ok (.aload_n 0, 1) := dk_42 (dk_at dksX0_favours_0 22 rfl rfl)
theorem dX0_favours_23 : decode cX0_favours 23 = .ok (.getfield 63, 3) := dk_180 0 63 (dk_at dksX0_favours_1 0 rfl rfl)
theorem dX0_favours_26 : decode cX0_favours 26 = .ok (.getfield 197, 3) := dk_180 0 197 (dk_at dksX0_favours_1 3 rfl rfl)
theorem dX0_favours_29 : decode cX0_favours 29 = .ok (.iload_n 1, 1) := dk_27 (dk_at dksX0_favours_1 6 rfl rfl)
theorem dX0_favours_30 : decode cX0_favours 30 = .ok (.aaload, 1) := dk_50 (dk_at dksX0_favours_1 7 rfl rfl)
theorem dX0_favours_31 : decode cX0_favours 31 = .ok (.iload_n 2, 1) := dk_28 (dk_at dksX0_favours_1 8 rfl rfl)
theorem dX0_favours_32 : decode cX0_favours 32 = .ok (.iaload, 1) := dk_46 (dk_at dksX0_favours_1 9 rfl rfl)
theorem dX0_favours_33 : decode cX0_favours 33 = .ok (.goto 4, 3) := dk_167 0 4 (dk_at dksX0_favours_1 10 rfl rfl)
theorem dX0_favours_36 : decode cX0_favours 36 = .ok (.iconst (-1), 1) := dk_2 (dk_at dksX0_favours_1 13 rfl rfl)
theorem dX0_favours_37 : decode cX0_favours 37 = .ok (.ireturn, 1) := dk_172 (dk_at dksX0_favours_1 14 rfl rfl)
abbrev cX0_stayOut : ByteArray := prog_1_method_20_code
def yX0_stayOut : MethodName := ⟨RX0, "stayOut", "(I)I"⟩
def dkwX0_stayOut_1 : List UInt8 := [184, 0, 214, 167, 0, 10, 42, 180, 0, 16, 184, 0, 210, 172]
abbrev dktX0_stayOut_1 : List UInt8 := dkwX0_stayOut_1 ++ []
def dkwX0_stayOut_0 : List UInt8 := [27, 5, 184, 0, 144, 154, 0, 7, 2, 167, 0, 27, 27, 154, 0, 16, 42, 180, 0, 16, 184, 0, 210]
abbrev dktX0_stayOut_0 : List UInt8 := dkwX0_stayOut_0 ++ dktX0_stayOut_1
theorem dksX0_stayOut_0 : cX0_stayOut.data.toList.drop 0 = dktX0_stayOut_0 := by decide +kernel
theorem dksX0_stayOut_1 : cX0_stayOut.data.toList.drop 23 = dktX0_stayOut_1 := dk_seg dksX0_stayOut_0 23 rfl rfl
theorem dX0_stayOut_0 : decode cX0_stayOut 0 = .ok (.iload_n 1, 1) := dk_27 (dk_at dksX0_stayOut_0 0 rfl rfl)
theorem dX0_stayOut_1 : decode cX0_stayOut 1 = .ok (.iconst 2, 1) := dk_5 (dk_at dksX0_stayOut_0 1 rfl rfl)
theorem dX0_stayOut_2 : decode cX0_stayOut 2 = .ok (.invokestatic 144, 3) := dk_184 0 144 (dk_at dksX0_stayOut_0 2 rfl rfl)
theorem dX0_stayOut_5 : decode cX0_stayOut 5 = .ok (.ifCond .ne 7, 3) := dk_154 0 7 (dk_at dksX0_stayOut_0 5 rfl rfl)
theorem dX0_stayOut_8 : decode cX0_stayOut 8 = .ok (.iconst (-1), 1) := dk_2 (dk_at dksX0_stayOut_0 8 rfl rfl)
theorem dX0_stayOut_9 : decode cX0_stayOut 9 = .ok (.goto 27, 3) := dk_167 0 27 (dk_at dksX0_stayOut_0 9 rfl rfl)
theorem dX0_stayOut_12 : decode cX0_stayOut 12 = .ok (.iload_n 1, 1) := dk_27 (dk_at dksX0_stayOut_0 12 rfl rfl)
theorem dX0_stayOut_13 : decode cX0_stayOut 13 = .ok (.ifCond .ne 16, 3) := dk_154 0 16 (dk_at dksX0_stayOut_0 13 rfl rfl)
theorem dX0_stayOut_16 : decode cX0_stayOut 16 = .ok (.aload_n 0, 1) := dk_42 (dk_at dksX0_stayOut_0 16 rfl rfl)
theorem dX0_stayOut_17 : decode cX0_stayOut 17 = .ok (.getfield 16, 3) := dk_180 0 16 (dk_at dksX0_stayOut_0 17 rfl rfl)
theorem dX0_stayOut_20 : decode cX0_stayOut 20 = .ok (.invokestatic 210, 3) := dk_184 0 210 (dk_at dksX0_stayOut_0 20 rfl rfl)
theorem dX0_stayOut_23 : decode cX0_stayOut 23 = .ok (.invokestatic 214, 3) := dk_184 0 214 (dk_at dksX0_stayOut_1 0 rfl rfl)
theorem dX0_stayOut_26 : decode cX0_stayOut 26 = .ok (.goto 10, 3) := dk_167 0 10 (dk_at dksX0_stayOut_1 3 rfl rfl)
theorem dX0_stayOut_29 : decode cX0_stayOut 29 = .ok (.aload_n 0, 1) := dk_42 (dk_at dksX0_stayOut_1 6 rfl rfl)
theorem dX0_stayOut_30 : decode cX0_stayOut 30 = .ok (.getfield 16, 3) := dk_180 0 16 (dk_at dksX0_stayOut_1 7 rfl rfl)
theorem dX0_stayOut_33 : decode cX0_stayOut 33 = .ok (.invokestatic 210, 3) := dk_184 0 210 (dk_at dksX0_stayOut_1 10 rfl rfl)
theorem dX0_stayOut_36 : decode cX0_stayOut 36 = .ok (.ireturn, 1) := dk_172 (dk_at dksX0_stayOut_1 13 rfl rfl)
abbrev cX0_outOf : ByteArray := prog_1_method_19_code
def yX0_outOf : MethodName := ⟨RX0, "outOf", "(LAnyKeyTown$Roll;)I"⟩
def dkwX0_outOf_2 : List UInt8 := [130, 126, 154, 0, 9, 4, 28, 120, 167, 0, 4, 3, 128, 60, 132, 2, 1, 167, 255, 196, 27, 172]
abbrev dktX0_outOf_2 : List UInt8 := dkwX0_outOf_2 ++ []
def dkwX0_outOf_1 : List UInt8 := [167, 0, 4, 3, 62, 27, 29, 153, 0, 28, 29, 184, 0, 207, 28, 160, 0, 20, 29, 42, 180, 0, 152, 2]
abbrev dktX0_outOf_1 : List UInt8 := dkwX0_outOf_1 ++ dktX0_outOf_2
def dkwX0_outOf_0 : List UInt8 := [3, 60, 3, 61, 28, 16, 16, 162, 0, 60, 42, 28, 182, 0, 168, 153, 0, 11, 42, 28, 184, 0, 203]
abbrev dktX0_outOf_0 : List UInt8 := dkwX0_outOf_0 ++ dktX0_outOf_1
theorem dksX0_outOf_0 : cX0_outOf.data.toList.drop 0 = dktX0_outOf_0 := by decide +kernel
theorem dksX0_outOf_1 : cX0_outOf.data.toList.drop 23 = dktX0_outOf_1 := dk_seg dksX0_outOf_0 23 rfl rfl
theorem dksX0_outOf_2 : cX0_outOf.data.toList.drop 47 = dktX0_outOf_2 := dk_seg dksX0_outOf_1 24 rfl rfl
theorem dX0_outOf_0 : decode cX0_outOf 0 = .ok (.iconst 0, 1) := dk_3 (dk_at dksX0_outOf_0 0 rfl rfl)
theorem dX0_outOf_1 : decode cX0_outOf 1 = .ok (.istore_n 1, 1) := dk_60 (dk_at dksX0_outOf_0 1 rfl rfl)
theorem dX0_outOf_2 : decode cX0_outOf 2 = .ok (.iconst 0, 1) := dk_3 (dk_at dksX0_outOf_0 2 rfl rfl)
theorem dX0_outOf_3 : decode cX0_outOf 3 = .ok (.istore_n 2, 1) := dk_61 (dk_at dksX0_outOf_0 3 rfl rfl)
theorem dX0_outOf_4 : decode cX0_outOf 4 = .ok (.iload_n 2, 1) := dk_28 (dk_at dksX0_outOf_0 4 rfl rfl)
theorem dX0_outOf_5 : decode cX0_outOf 5 = .ok (.bipush 16, 2) := dk_16 16 (dk_at dksX0_outOf_0 5 rfl rfl)
theorem dX0_outOf_7 : decode cX0_outOf 7 = .ok (.if_icmp .ge 60, 3) := dk_162 0 60 (dk_at dksX0_outOf_0 7 rfl rfl)
theorem dX0_outOf_10 : decode cX0_outOf 10 = .ok (.aload_n 0, 1) := dk_42 (dk_at dksX0_outOf_0 10 rfl rfl)
theorem dX0_outOf_11 : decode cX0_outOf 11 = .ok (.iload_n 2, 1) := dk_28 (dk_at dksX0_outOf_0 11 rfl rfl)
theorem dX0_outOf_12 : decode cX0_outOf 12 = .ok (.invokevirtual 168, 3) := dk_182 0 168 (dk_at dksX0_outOf_0 12 rfl rfl)
theorem dX0_outOf_15 : decode cX0_outOf 15 = .ok (.ifCond .eq 11, 3) := dk_153 0 11 (dk_at dksX0_outOf_0 15 rfl rfl)
theorem dX0_outOf_18 : decode cX0_outOf 18 = .ok (.aload_n 0, 1) := dk_42 (dk_at dksX0_outOf_0 18 rfl rfl)
theorem dX0_outOf_19 : decode cX0_outOf 19 = .ok (.iload_n 2, 1) := dk_28 (dk_at dksX0_outOf_0 19 rfl rfl)
theorem dX0_outOf_20 : decode cX0_outOf 20 = .ok (.invokestatic 203, 3) := dk_184 0 203 (dk_at dksX0_outOf_0 20 rfl rfl)
theorem dX0_outOf_23 : decode cX0_outOf 23 = .ok (.goto 4, 3) := dk_167 0 4 (dk_at dksX0_outOf_1 0 rfl rfl)
theorem dX0_outOf_26 : decode cX0_outOf 26 = .ok (.iconst 0, 1) := dk_3 (dk_at dksX0_outOf_1 3 rfl rfl)
theorem dX0_outOf_27 : decode cX0_outOf 27 = .ok (.istore_n 3, 1) := dk_62 (dk_at dksX0_outOf_1 4 rfl rfl)
theorem dX0_outOf_28 : decode cX0_outOf 28 = .ok (.iload_n 1, 1) := dk_27 (dk_at dksX0_outOf_1 5 rfl rfl)
theorem dX0_outOf_29 : decode cX0_outOf 29 = .ok (.iload_n 3, 1) := dk_29 (dk_at dksX0_outOf_1 6 rfl rfl)
theorem dX0_outOf_30 : decode cX0_outOf 30 = .ok (.ifCond .eq 28, 3) := dk_153 0 28 (dk_at dksX0_outOf_1 7 rfl rfl)
theorem dX0_outOf_33 : decode cX0_outOf 33 = .ok (.iload_n 3, 1) := dk_29 (dk_at dksX0_outOf_1 10 rfl rfl)
theorem dX0_outOf_34 : decode cX0_outOf 34 = .ok (.invokestatic 207, 3) := dk_184 0 207 (dk_at dksX0_outOf_1 11 rfl rfl)
theorem dX0_outOf_37 : decode cX0_outOf 37 = .ok (.iload_n 2, 1) := dk_28 (dk_at dksX0_outOf_1 14 rfl rfl)
theorem dX0_outOf_38 : decode cX0_outOf 38 = .ok (.if_icmp .ne 20, 3) := dk_160 0 20 (dk_at dksX0_outOf_1 15 rfl rfl)
theorem dX0_outOf_41 : decode cX0_outOf 41 = .ok (.iload_n 3, 1) := dk_29 (dk_at dksX0_outOf_1 18 rfl rfl)
theorem dX0_outOf_42 : decode cX0_outOf 42 = .ok (.aload_n 0, 1) := dk_42 (dk_at dksX0_outOf_1 19 rfl rfl)
theorem dX0_outOf_43 : decode cX0_outOf 43 = .ok (.getfield 152, 3) := dk_180 0 152 (dk_at dksX0_outOf_1 20 rfl rfl)
theorem dX0_outOf_46 : decode cX0_outOf 46 = .ok (.iconst (-1), 1) := dk_2 (dk_at dksX0_outOf_1 23 rfl rfl)
theorem dX0_outOf_47 : decode cX0_outOf 47 = .ok (.ixor, 1) := dk_130 (dk_at dksX0_outOf_2 0 rfl rfl)
theorem dX0_outOf_48 : decode cX0_outOf 48 = .ok (.iand, 1) := dk_126 (dk_at dksX0_outOf_2 1 rfl rfl)
theorem dX0_outOf_49 : decode cX0_outOf 49 = .ok (.ifCond .ne 9, 3) := dk_154 0 9 (dk_at dksX0_outOf_2 2 rfl rfl)
theorem dX0_outOf_52 : decode cX0_outOf 52 = .ok (.iconst 1, 1) := dk_4 (dk_at dksX0_outOf_2 5 rfl rfl)
theorem dX0_outOf_53 : decode cX0_outOf 53 = .ok (.iload_n 2, 1) := dk_28 (dk_at dksX0_outOf_2 6 rfl rfl)
theorem dX0_outOf_54 : decode cX0_outOf 54 = .ok (.ishl, 1) := dk_120 (dk_at dksX0_outOf_2 7 rfl rfl)
theorem dX0_outOf_55 : decode cX0_outOf 55 = .ok (.goto 4, 3) := dk_167 0 4 (dk_at dksX0_outOf_2 8 rfl rfl)
theorem dX0_outOf_58 : decode cX0_outOf 58 = .ok (.iconst 0, 1) := dk_3 (dk_at dksX0_outOf_2 11 rfl rfl)
theorem dX0_outOf_59 : decode cX0_outOf 59 = .ok (.ior, 1) := dk_128 (dk_at dksX0_outOf_2 12 rfl rfl)
theorem dX0_outOf_60 : decode cX0_outOf 60 = .ok (.istore_n 1, 1) := dk_60 (dk_at dksX0_outOf_2 13 rfl rfl)
theorem dX0_outOf_61 : decode cX0_outOf 61 = .ok (.iinc 2 1, 3) := dk_132 2 1 (dk_at dksX0_outOf_2 14 rfl rfl)
theorem dX0_outOf_64 : decode cX0_outOf 64 = .ok (.goto (-60), 3) := dk_167 255 196 (dk_at dksX0_outOf_2 17 rfl rfl)
theorem dX0_outOf_67 : decode cX0_outOf 67 = .ok (.iload_n 1, 1) := dk_27 (dk_at dksX0_outOf_2 20 rfl rfl)
theorem dX0_outOf_68 : decode cX0_outOf 68 = .ok (.ireturn, 1) := dk_172 (dk_at dksX0_outOf_2 21 rfl rfl)
abbrev cX0_groupOf : ByteArray := prog_1_method_18_code
def yX0_groupOf : MethodName := ⟨RX0, "groupOf", "(LAnyKeyTown$Roll;I)I"⟩
def dkwX0_groupOf_2 : List UInt8 := [167, 255, 224, 167, 255, 211, 28, 172]
abbrev dktX0_groupOf_2 : List UInt8 := dkwX0_groupOf_2 ++ []
def dkwX0_groupOf_1 : List UInt8 := [28, 21, 4, 184, 0, 191, 153, 0, 12, 42, 21, 4, 182, 0, 200, 167, 0, 4, 3, 128, 62, 132, 4, 1]
abbrev dktX0_groupOf_1 : List UInt8 := dkwX0_groupOf_1 ++ dktX0_groupOf_2
def dkwX0_groupOf_0 : List UInt8 := [3, 61, 4, 27, 120, 62, 29, 28, 159, 0, 46, 29, 61, 3, 54, 4, 21, 4, 16, 16, 162, 0, 31, 29]
abbrev dktX0_groupOf_0 : List UInt8 := dkwX0_groupOf_0 ++ dktX0_groupOf_1
theorem dksX0_groupOf_0 : cX0_groupOf.data.toList.drop 0 = dktX0_groupOf_0 := by decide +kernel
theorem dksX0_groupOf_1 : cX0_groupOf.data.toList.drop 24 = dktX0_groupOf_1 := dk_seg dksX0_groupOf_0 24 rfl rfl
theorem dksX0_groupOf_2 : cX0_groupOf.data.toList.drop 48 = dktX0_groupOf_2 := dk_seg dksX0_groupOf_1 24 rfl rfl
theorem dX0_groupOf_0 : decode cX0_groupOf 0 = .ok (.iconst 0, 1) := dk_3 (dk_at dksX0_groupOf_0 0 rfl rfl)
theorem dX0_groupOf_1 : decode cX0_groupOf 1 = .ok (.istore_n 2, 1) := dk_61 (dk_at dksX0_groupOf_0 1 rfl rfl)
theorem dX0_groupOf_2 : decode cX0_groupOf 2 = .ok (.iconst 1, 1) := dk_4 (dk_at dksX0_groupOf_0 2 rfl rfl)
theorem dX0_groupOf_3 : decode cX0_groupOf 3 = .ok (.iload_n 1, 1) := dk_27 (dk_at dksX0_groupOf_0 3 rfl rfl)
theorem dX0_groupOf_4 : decode cX0_groupOf 4 = .ok (.ishl, 1) := dk_120 (dk_at dksX0_groupOf_0 4 rfl rfl)
theorem dX0_groupOf_5 : decode cX0_groupOf 5 = .ok (.istore_n 3, 1) := dk_62 (dk_at dksX0_groupOf_0 5 rfl rfl)
theorem dX0_groupOf_6 : decode cX0_groupOf 6 = .ok (.iload_n 3, 1) := dk_29 (dk_at dksX0_groupOf_0 6 rfl rfl)
theorem dX0_groupOf_7 : decode cX0_groupOf 7 = .ok (.iload_n 2, 1) := dk_28 (dk_at dksX0_groupOf_0 7 rfl rfl)
theorem dX0_groupOf_8 : decode cX0_groupOf 8 = .ok (.if_icmp .eq 46, 3) := dk_159 0 46 (dk_at dksX0_groupOf_0 8 rfl rfl)
theorem dX0_groupOf_11 : decode cX0_groupOf 11 = .ok (.iload_n 3, 1) := dk_29 (dk_at dksX0_groupOf_0 11 rfl rfl)
theorem dX0_groupOf_12 : decode cX0_groupOf 12 = .ok (.istore_n 2, 1) := dk_61 (dk_at dksX0_groupOf_0 12 rfl rfl)
theorem dX0_groupOf_13 : decode cX0_groupOf 13 = .ok (.iconst 0, 1) := dk_3 (dk_at dksX0_groupOf_0 13 rfl rfl)
theorem dX0_groupOf_14 : decode cX0_groupOf 14 = .ok (.istore 4, 2) := dk_54 4 (dk_at dksX0_groupOf_0 14 rfl rfl)
theorem dX0_groupOf_16 : decode cX0_groupOf 16 = .ok (.iload 4, 2) := dk_21 4 (dk_at dksX0_groupOf_0 16 rfl rfl)
theorem dX0_groupOf_18 : decode cX0_groupOf 18 = .ok (.bipush 16, 2) := dk_16 16 (dk_at dksX0_groupOf_0 18 rfl rfl)
theorem dX0_groupOf_20 : decode cX0_groupOf 20 = .ok (.if_icmp .ge 31, 3) := dk_162 0 31 (dk_at dksX0_groupOf_0 20 rfl rfl)
theorem dX0_groupOf_23 : decode cX0_groupOf 23 = .ok (.iload_n 3, 1) := dk_29 (dk_at dksX0_groupOf_0 23 rfl rfl)
theorem dX0_groupOf_24 : decode cX0_groupOf 24 = .ok (.iload_n 2, 1) := dk_28 (dk_at dksX0_groupOf_1 0 rfl rfl)
theorem dX0_groupOf_25 : decode cX0_groupOf 25 = .ok (.iload 4, 2) := dk_21 4 (dk_at dksX0_groupOf_1 1 rfl rfl)
theorem dX0_groupOf_27 : decode cX0_groupOf 27 = .ok (.invokestatic 191, 3) := dk_184 0 191 (dk_at dksX0_groupOf_1 3 rfl rfl)
theorem dX0_groupOf_30 : decode cX0_groupOf 30 = .ok (.ifCond .eq 12, 3) := dk_153 0 12 (dk_at dksX0_groupOf_1 6 rfl rfl)
theorem dX0_groupOf_33 : decode cX0_groupOf 33 = .ok (.aload_n 0, 1) := dk_42 (dk_at dksX0_groupOf_1 9 rfl rfl)
theorem dX0_groupOf_34 : decode cX0_groupOf 34 = .ok (.iload 4, 2) := dk_21 4 (dk_at dksX0_groupOf_1 10 rfl rfl)
theorem dX0_groupOf_36 : decode cX0_groupOf 36 = .ok (.invokevirtual 200, 3) := dk_182 0 200 (dk_at dksX0_groupOf_1 12 rfl rfl)
theorem dX0_groupOf_39 : decode cX0_groupOf 39 = .ok (.goto 4, 3) := dk_167 0 4 (dk_at dksX0_groupOf_1 15 rfl rfl)
theorem dX0_groupOf_42 : decode cX0_groupOf 42 = .ok (.iconst 0, 1) := dk_3 (dk_at dksX0_groupOf_1 18 rfl rfl)
theorem dX0_groupOf_43 : decode cX0_groupOf 43 = .ok (.ior, 1) := dk_128 (dk_at dksX0_groupOf_1 19 rfl rfl)
theorem dX0_groupOf_44 : decode cX0_groupOf 44 = .ok (.istore_n 3, 1) := dk_62 (dk_at dksX0_groupOf_1 20 rfl rfl)
theorem dX0_groupOf_45 : decode cX0_groupOf 45 = .ok (.iinc 4 1, 3) := dk_132 4 1 (dk_at dksX0_groupOf_1 21 rfl rfl)
theorem dX0_groupOf_48 : decode cX0_groupOf 48 = .ok (.goto (-32), 3) := dk_167 255 224 (dk_at dksX0_groupOf_2 0 rfl rfl)
theorem dX0_groupOf_51 : decode cX0_groupOf 51 = .ok (.goto (-45), 3) := dk_167 255 211 (dk_at dksX0_groupOf_2 3 rfl rfl)
theorem dX0_groupOf_54 : decode cX0_groupOf 54 = .ok (.iload_n 2, 1) := dk_28 (dk_at dksX0_groupOf_2 6 rfl rfl)
theorem dX0_groupOf_55 : decode cX0_groupOf 55 = .ok (.ireturn, 1) := dk_172 (dk_at dksX0_groupOf_2 7 rfl rfl)
abbrev cX0_lowest : ByteArray := prog_1_method_5_code
def yX0_lowest : MethodName := ⟨RX0, "lowest", "(I)I"⟩
theorem dX0_lowest_0 : decode cX0_lowest 0 = .ok (.iload_n 0, 1) := by decide +kernel
theorem dX0_lowest_1 : decode cX0_lowest 1 = .ok (.invokestatic 10, 3) := by decide +kernel
theorem dX0_lowest_4 : decode cX0_lowest 4 = .ok (.ireturn, 1) := by decide +kernel
abbrev cX0_inOrder : ByteArray := prog_1_method_22_code
def yX0_inOrder : MethodName := ⟨RX0, "inOrder", "(II)I"⟩
def dkwX0_inOrder_7 : List UInt8 := [167, 0, 20, 42, 180, 0, 16, 21, 5, 182, 0, 200, 21, 4, 2, 130, 126, 184, 0, 207, 172]
abbrev dktX0_inOrder_7 : List UInt8 := dkwX0_inOrder_7 ++ []
def dkwX0_inOrder_6 : List UInt8 := [148, 154, 0, 9, 132, 5, 1, 167, 255, 205, 132, 6, 1, 167, 255, 172, 28, 154, 0, 8, 21, 5]
abbrev dktX0_inOrder_6 : List UInt8 := dkwX0_inOrder_6 ++ dktX0_inOrder_7
def dkwX0_inOrder_5 : List UInt8 := [182, 0, 200, 21, 4, 2, 130, 126, 153, 0, 20, 42, 180, 0, 79, 21, 4, 4, 21, 5, 120, 128, 47, 9]
abbrev dktX0_inOrder_5 : List UInt8 := dkwX0_inOrder_5 ++ dktX0_inOrder_6
def dkwX0_inOrder_4 : List UInt8 := [3, 54, 5, 29, 21, 4, 2, 130, 126, 21, 5, 184, 0, 191, 153, 0, 37, 42, 180, 0, 16, 21, 5]
abbrev dktX0_inOrder_4 : List UInt8 := dkwX0_inOrder_4 ++ dktX0_inOrder_5
def dkwX0_inOrder_3 : List UInt8 := [21, 6, 27, 163, 0, 84, 21, 4, 21, 6, 154, 0, 7, 3, 167, 0, 7, 4, 21, 5, 120, 128, 54, 4]
abbrev dktX0_inOrder_3 : List UInt8 := dkwX0_inOrder_3 ++ dktX0_inOrder_4
def dkwX0_inOrder_2 : List UInt8 := [184, 0, 214, 161, 0, 6, 16, 252, 172, 42, 29, 182, 0, 217, 3, 54, 4, 3, 54, 5, 3, 54, 6]
abbrev dktX0_inOrder_2 : List UInt8 := dkwX0_inOrder_2 ++ dktX0_inOrder_3
def dkwX0_inOrder_1 : List UInt8 := [180, 0, 22, 42, 180, 0, 16, 180, 0, 152, 126, 42, 180, 0, 16, 184, 0, 210, 2, 130, 126, 62, 27, 29]
abbrev dktX0_inOrder_1 : List UInt8 := dkwX0_inOrder_1 ++ dktX0_inOrder_2
def dkwX0_inOrder_0 : List UInt8 := [27, 16, 16, 184, 0, 144, 153, 0, 11, 28, 5, 184, 0, 144, 154, 0, 5, 2, 172, 42, 180, 0, 16]
abbrev dktX0_inOrder_0 : List UInt8 := dkwX0_inOrder_0 ++ dktX0_inOrder_1
theorem dksX0_inOrder_0 : cX0_inOrder.data.toList.drop 0 = dktX0_inOrder_0 := by decide +kernel
theorem dksX0_inOrder_1 : cX0_inOrder.data.toList.drop 23 = dktX0_inOrder_1 := dk_seg dksX0_inOrder_0 23 rfl rfl
theorem dksX0_inOrder_2 : cX0_inOrder.data.toList.drop 47 = dktX0_inOrder_2 := dk_seg dksX0_inOrder_1 24 rfl rfl
theorem dksX0_inOrder_3 : cX0_inOrder.data.toList.drop 70 = dktX0_inOrder_3 := dk_seg dksX0_inOrder_2 23 rfl rfl
theorem dksX0_inOrder_4 : cX0_inOrder.data.toList.drop 94 = dktX0_inOrder_4 := dk_seg dksX0_inOrder_3 24 rfl rfl
theorem dksX0_inOrder_5 : cX0_inOrder.data.toList.drop 117 = dktX0_inOrder_5 := dk_seg dksX0_inOrder_4 23 rfl rfl
theorem dksX0_inOrder_6 : cX0_inOrder.data.toList.drop 141 = dktX0_inOrder_6 := dk_seg dksX0_inOrder_5 24 rfl rfl
theorem dksX0_inOrder_7 : cX0_inOrder.data.toList.drop 163 = dktX0_inOrder_7 := dk_seg dksX0_inOrder_6 22 rfl rfl
theorem dX0_inOrder_0 : decode cX0_inOrder 0 = .ok (.iload_n 1, 1) := dk_27 (dk_at dksX0_inOrder_0 0 rfl rfl)
theorem dX0_inOrder_1 : decode cX0_inOrder 1 = .ok (.bipush 16, 2) := dk_16 16 (dk_at dksX0_inOrder_0 1 rfl rfl)
theorem dX0_inOrder_3 : decode cX0_inOrder 3 = .ok (.invokestatic 144, 3) := dk_184 0 144 (dk_at dksX0_inOrder_0 3 rfl rfl)
theorem dX0_inOrder_6 : decode cX0_inOrder 6 = .ok (.ifCond .eq 11, 3) := dk_153 0 11 (dk_at dksX0_inOrder_0 6 rfl rfl)
theorem dX0_inOrder_9 : decode cX0_inOrder 9 = .ok (.iload_n 2, 1) := dk_28 (dk_at dksX0_inOrder_0 9 rfl rfl)
theorem dX0_inOrder_10 : decode cX0_inOrder 10 = .ok (.iconst 2, 1) := dk_5 (dk_at dksX0_inOrder_0 10 rfl rfl)
theorem dX0_inOrder_11 : decode cX0_inOrder 11 = .ok (.invokestatic 144, 3) := dk_184 0 144 (dk_at dksX0_inOrder_0 11 rfl rfl)
theorem dX0_inOrder_14 : decode cX0_inOrder 14 = .ok (.ifCond .ne 5, 3) := dk_154 0 5 (dk_at dksX0_inOrder_0 14 rfl rfl)
theorem dX0_inOrder_17 : decode cX0_inOrder 17 = .ok (.iconst (-1), 1) := dk_2 (dk_at dksX0_inOrder_0 17 rfl rfl)
theorem dX0_inOrder_18 : decode cX0_inOrder 18 = .ok (.ireturn, 1) := dk_172 (dk_at dksX0_inOrder_0 18 rfl rfl)
theorem dX0_inOrder_19 : decode cX0_inOrder 19 = .ok (.aload_n 0, 1) := dk_42 (dk_at dksX0_inOrder_0 19 rfl rfl)
theorem dX0_inOrder_20 : decode cX0_inOrder 20 = .ok (.getfield 16, 3) := dk_180 0 16 (dk_at dksX0_inOrder_0 20 rfl rfl)
theorem dX0_inOrder_23 : decode cX0_inOrder 23 = .ok (.getfield 22, 3) := dk_180 0 22 (dk_at dksX0_inOrder_1 0 rfl rfl)
theorem dX0_inOrder_26 : decode cX0_inOrder 26 = .ok (.aload_n 0, 1) := dk_42 (dk_at dksX0_inOrder_1 3 rfl rfl)
theorem dX0_inOrder_27 : decode cX0_inOrder 27 = .ok (.getfield 16, 3) := dk_180 0 16 (dk_at dksX0_inOrder_1 4 rfl rfl)
theorem dX0_inOrder_30 : decode cX0_inOrder 30 = .ok (.getfield 152, 3) := dk_180 0 152 (dk_at dksX0_inOrder_1 7 rfl rfl)
theorem dX0_inOrder_33 : decode cX0_inOrder 33 = .ok (.iand, 1) := dk_126 (dk_at dksX0_inOrder_1 10 rfl rfl)
theorem dX0_inOrder_34 : decode cX0_inOrder 34 = .ok (.aload_n 0, 1) := dk_42 (dk_at dksX0_inOrder_1 11 rfl rfl)
theorem dX0_inOrder_35 : decode cX0_inOrder 35 = .ok (.getfield 16, 3) := dk_180 0 16 (dk_at dksX0_inOrder_1 12 rfl rfl)
theorem dX0_inOrder_38 : decode cX0_inOrder 38 = .ok (.invokestatic 210, 3) := dk_184 0 210 (dk_at dksX0_inOrder_1 15 rfl rfl)
theorem dX0_inOrder_41 : decode cX0_inOrder 41 = .ok (.iconst (-1), 1) := dk_2 (dk_at dksX0_inOrder_1 18 rfl rfl)
theorem dX0_inOrder_42 : decode cX0_inOrder 42 = .ok (.ixor, 1) := dk_130 (dk_at dksX0_inOrder_1 19 rfl rfl)
theorem dX0_inOrder_43 : decode cX0_inOrder 43 = .ok (.iand, 1) := dk_126 (dk_at dksX0_inOrder_1 20 rfl rfl)
theorem dX0_inOrder_44 : decode cX0_inOrder 44 = .ok (.istore_n 3, 1) := dk_62 (dk_at dksX0_inOrder_1 21 rfl rfl)
theorem dX0_inOrder_45 : decode cX0_inOrder 45 = .ok (.iload_n 1, 1) := dk_27 (dk_at dksX0_inOrder_1 22 rfl rfl)
theorem dX0_inOrder_46 : decode cX0_inOrder 46 = .ok (.iload_n 3, 1) := dk_29 (dk_at dksX0_inOrder_1 23 rfl rfl)
theorem dX0_inOrder_47 : decode cX0_inOrder 47 = .ok (.invokestatic 214, 3) := dk_184 0 214 (dk_at dksX0_inOrder_2 0 rfl rfl)
theorem dX0_inOrder_50 : decode cX0_inOrder 50 = .ok (.if_icmp .lt 6, 3) := dk_161 0 6 (dk_at dksX0_inOrder_2 3 rfl rfl)
theorem dX0_inOrder_53 : decode cX0_inOrder 53 = .ok (.bipush (-4), 2) := dk_16 252 (dk_at dksX0_inOrder_2 6 rfl rfl)
theorem dX0_inOrder_55 : decode cX0_inOrder 55 = .ok (.ireturn, 1) := dk_172 (dk_at dksX0_inOrder_2 8 rfl rfl)
theorem dX0_inOrder_56 : decode cX0_inOrder 56 = .ok (.aload_n 0, 1) := dk_42 (dk_at dksX0_inOrder_2 9 rfl rfl)
theorem dX0_inOrder_57 : decode cX0_inOrder 57 = .ok (.iload_n 3, 1) := dk_29 (dk_at dksX0_inOrder_2 10 rfl rfl)
theorem dX0_inOrder_58 : decode cX0_inOrder 58 = .ok (.invokevirtual 217, 3) := dk_182 0 217 (dk_at dksX0_inOrder_2 11 rfl rfl)
theorem dX0_inOrder_61 : decode cX0_inOrder 61 = .ok (.iconst 0, 1) := dk_3 (dk_at dksX0_inOrder_2 14 rfl rfl)
theorem dX0_inOrder_62 : decode cX0_inOrder 62 = .ok (.istore 4, 2) := dk_54 4 (dk_at dksX0_inOrder_2 15 rfl rfl)
theorem dX0_inOrder_64 : decode cX0_inOrder 64 = .ok (.iconst 0, 1) := dk_3 (dk_at dksX0_inOrder_2 17 rfl rfl)
theorem dX0_inOrder_65 : decode cX0_inOrder 65 = .ok (.istore 5, 2) := dk_54 5 (dk_at dksX0_inOrder_2 18 rfl rfl)
theorem dX0_inOrder_67 : decode cX0_inOrder 67 = .ok (.iconst 0, 1) := dk_3 (dk_at dksX0_inOrder_2 20 rfl rfl)
theorem dX0_inOrder_68 : decode cX0_inOrder 68 = .ok (.istore 6, 2) := dk_54 6 (dk_at dksX0_inOrder_2 21 rfl rfl)
theorem dX0_inOrder_70 : decode cX0_inOrder 70 = .ok (.iload 6, 2) := dk_21 6 (dk_at dksX0_inOrder_3 0 rfl rfl)
theorem dX0_inOrder_72 : decode cX0_inOrder 72 = .ok (.iload_n 1, 1) := dk_27 (dk_at dksX0_inOrder_3 2 rfl rfl)
theorem dX0_inOrder_73 : decode cX0_inOrder 73 = .ok (.if_icmp .gt 84, 3) := dk_163 0 84 (dk_at dksX0_inOrder_3 3 rfl rfl)
theorem dX0_inOrder_76 : decode cX0_inOrder 76 = .ok (.iload 4, 2) := dk_21 4 (dk_at dksX0_inOrder_3 6 rfl rfl)
theorem dX0_inOrder_78 : decode cX0_inOrder 78 = .ok (.iload 6, 2) := dk_21 6 (dk_at dksX0_inOrder_3 8 rfl rfl)
theorem dX0_inOrder_80 : decode cX0_inOrder 80 = .ok (.ifCond .ne 7, 3) := dk_154 0 7 (dk_at dksX0_inOrder_3 10 rfl rfl)
theorem dX0_inOrder_83 : decode cX0_inOrder 83 = .ok (.iconst 0, 1) := dk_3 (dk_at dksX0_inOrder_3 13 rfl rfl)
theorem dX0_inOrder_84 : decode cX0_inOrder 84 = .ok (.goto 7, 3) := dk_167 0 7 (dk_at dksX0_inOrder_3 14 rfl rfl)
theorem dX0_inOrder_87 : decode cX0_inOrder 87 = .ok (.iconst 1, 1) := dk_4 (dk_at dksX0_inOrder_3 17 rfl rfl)
theorem dX0_inOrder_88 : decode cX0_inOrder 88 = .ok (.iload 5, 2) := dk_21 5 (dk_at dksX0_inOrder_3 18 rfl rfl)
theorem dX0_inOrder_90 : decode cX0_inOrder 90 = .ok (.ishl, 1) := dk_120 (dk_at dksX0_inOrder_3 20 rfl rfl)
theorem dX0_inOrder_91 : decode cX0_inOrder 91 = .ok (.ior, 1) := dk_128 (dk_at dksX0_inOrder_3 21 rfl rfl)
theorem dX0_inOrder_92 : decode cX0_inOrder 92 = .ok (.istore 4, 2) := dk_54 4 (dk_at dksX0_inOrder_3 22 rfl rfl)
theorem dX0_inOrder_94 : decode cX0_inOrder 94 = .ok (.iconst 0, 1) := dk_3 (dk_at dksX0_inOrder_4 0 rfl rfl)
theorem dX0_inOrder_95 : decode cX0_inOrder 95 = .ok (.istore 5, 2) := dk_54 5 (dk_at dksX0_inOrder_4 1 rfl rfl)
theorem dX0_inOrder_97 : decode cX0_inOrder 97 = .ok (.iload_n 3, 1) := dk_29 (dk_at dksX0_inOrder_4 3 rfl rfl)
theorem dX0_inOrder_98 : decode cX0_inOrder 98 = .ok (.iload 4, 2) := dk_21 4 (dk_at dksX0_inOrder_4 4 rfl rfl)
theorem dX0_inOrder_100 : decode cX0_inOrder 100 = .ok (.iconst (-1), 1) := dk_2 (dk_at dksX0_inOrder_4 6 rfl rfl)
theorem dX0_inOrder_101 : decode cX0_inOrder 101 = .ok (.ixor, 1) := dk_130 (dk_at dksX0_inOrder_4 7 rfl rfl)
theorem dX0_inOrder_102 : decode cX0_inOrder 102 = .ok (.iand, 1) := dk_126 (dk_at dksX0_inOrder_4 8 rfl rfl)
theorem dX0_inOrder_103 : decode cX0_inOrder 103 = .ok (.iload 5, 2) := dk_21 5 (dk_at dksX0_inOrder_4 9 rfl rfl)
theorem dX0_inOrder_105 : decode cX0_inOrder 105 = .ok (.invokestatic 191, 3) := dk_184 0 191 (dk_at dksX0_inOrder_4 11 rfl rfl)
theorem dX0_inOrder_108 : decode cX0_inOrder 108 = .ok (.ifCond .eq 37, 3) := dk_153 0 37 (dk_at dksX0_inOrder_4 14 rfl rfl)
theorem dX0_inOrder_111 : decode cX0_inOrder 111 = .ok (.aload_n 0, 1) := dk_42 (dk_at dksX0_inOrder_4 17 rfl rfl)
theorem dX0_inOrder_112 : decode cX0_inOrder 112 = .ok (.getfield 16, 3) := dk_180 0 16 (dk_at dksX0_inOrder_4 18 rfl rfl)
theorem dX0_inOrder_115 : decode cX0_inOrder 115 = .ok (.iload 5, 2) := dk_21 5 (dk_at dksX0_inOrder_4 21 rfl rfl)
theorem dX0_inOrder_117 : decode cX0_inOrder 117 = .ok (.invokevirtual 200, 3) := dk_182 0 200 (dk_at dksX0_inOrder_5 0 rfl rfl)
theorem dX0_inOrder_120 : decode cX0_inOrder 120 = .ok (.iload 4, 2) := dk_21 4 (dk_at dksX0_inOrder_5 3 rfl rfl)
theorem dX0_inOrder_122 : decode cX0_inOrder 122 = .ok (.iconst (-1), 1) := dk_2 (dk_at dksX0_inOrder_5 5 rfl rfl)
theorem dX0_inOrder_123 : decode cX0_inOrder 123 = .ok (.ixor, 1) := dk_130 (dk_at dksX0_inOrder_5 6 rfl rfl)
theorem dX0_inOrder_124 : decode cX0_inOrder 124 = .ok (.iand, 1) := dk_126 (dk_at dksX0_inOrder_5 7 rfl rfl)
theorem dX0_inOrder_125 : decode cX0_inOrder 125 = .ok (.ifCond .eq 20, 3) := dk_153 0 20 (dk_at dksX0_inOrder_5 8 rfl rfl)
theorem dX0_inOrder_128 : decode cX0_inOrder 128 = .ok (.aload_n 0, 1) := dk_42 (dk_at dksX0_inOrder_5 11 rfl rfl)
theorem dX0_inOrder_129 : decode cX0_inOrder 129 = .ok (.getfield 79, 3) := dk_180 0 79 (dk_at dksX0_inOrder_5 12 rfl rfl)
theorem dX0_inOrder_132 : decode cX0_inOrder 132 = .ok (.iload 4, 2) := dk_21 4 (dk_at dksX0_inOrder_5 15 rfl rfl)
theorem dX0_inOrder_134 : decode cX0_inOrder 134 = .ok (.iconst 1, 1) := dk_4 (dk_at dksX0_inOrder_5 17 rfl rfl)
theorem dX0_inOrder_135 : decode cX0_inOrder 135 = .ok (.iload 5, 2) := dk_21 5 (dk_at dksX0_inOrder_5 18 rfl rfl)
theorem dX0_inOrder_137 : decode cX0_inOrder 137 = .ok (.ishl, 1) := dk_120 (dk_at dksX0_inOrder_5 20 rfl rfl)
theorem dX0_inOrder_138 : decode cX0_inOrder 138 = .ok (.ior, 1) := dk_128 (dk_at dksX0_inOrder_5 21 rfl rfl)
theorem dX0_inOrder_139 : decode cX0_inOrder 139 = .ok (.laload, 1) := dk_47 (dk_at dksX0_inOrder_5 22 rfl rfl)
theorem dX0_inOrder_140 : decode cX0_inOrder 140 = .ok (.lconst 0, 1) := dk_9 (dk_at dksX0_inOrder_5 23 rfl rfl)
theorem dX0_inOrder_141 : decode cX0_inOrder 141 = .ok (.lcmp, 1) := dk_148 (dk_at dksX0_inOrder_6 0 rfl rfl)
theorem dX0_inOrder_142 : decode cX0_inOrder 142 = .ok (.ifCond .ne 9, 3) := dk_154 0 9 (dk_at dksX0_inOrder_6 1 rfl rfl)
theorem dX0_inOrder_145 : decode cX0_inOrder 145 = .ok (.iinc 5 1, 3) := dk_132 5 1 (dk_at dksX0_inOrder_6 4 rfl rfl)
theorem dX0_inOrder_148 : decode cX0_inOrder 148 = .ok (.goto (-51), 3) := dk_167 255 205 (dk_at dksX0_inOrder_6 7 rfl rfl)
theorem dX0_inOrder_151 : decode cX0_inOrder 151 = .ok (.iinc 6 1, 3) := dk_132 6 1 (dk_at dksX0_inOrder_6 10 rfl rfl)
theorem dX0_inOrder_154 : decode cX0_inOrder 154 = .ok (.goto (-84), 3) := dk_167 255 172 (dk_at dksX0_inOrder_6 13 rfl rfl)
theorem dX0_inOrder_157 : decode cX0_inOrder 157 = .ok (.iload_n 2, 1) := dk_28 (dk_at dksX0_inOrder_6 16 rfl rfl)
theorem dX0_inOrder_158 : decode cX0_inOrder 158 = .ok (.ifCond .ne 8, 3) := dk_154 0 8 (dk_at dksX0_inOrder_6 17 rfl rfl)
theorem dX0_inOrder_161 : decode cX0_inOrder 161 = .ok (.iload 5, 2) := dk_21 5 (dk_at dksX0_inOrder_6 20 rfl rfl)
theorem dX0_inOrder_163 : decode cX0_inOrder 163 = .ok (.goto 20, 3) := dk_167 0 20 (dk_at dksX0_inOrder_7 0 rfl rfl)
theorem dX0_inOrder_166 : decode cX0_inOrder 166 = .ok (.aload_n 0, 1) := dk_42 (dk_at dksX0_inOrder_7 3 rfl rfl)
theorem dX0_inOrder_167 : decode cX0_inOrder 167 = .ok (.getfield 16, 3) := dk_180 0 16 (dk_at dksX0_inOrder_7 4 rfl rfl)
theorem dX0_inOrder_170 : decode cX0_inOrder 170 = .ok (.iload 5, 2) := dk_21 5 (dk_at dksX0_inOrder_7 7 rfl rfl)
theorem dX0_inOrder_172 : decode cX0_inOrder 172 = .ok (.invokevirtual 200, 3) := dk_182 0 200 (dk_at dksX0_inOrder_7 9 rfl rfl)
theorem dX0_inOrder_175 : decode cX0_inOrder 175 = .ok (.iload 4, 2) := dk_21 4 (dk_at dksX0_inOrder_7 12 rfl rfl)
theorem dX0_inOrder_177 : decode cX0_inOrder 177 = .ok (.iconst (-1), 1) := dk_2 (dk_at dksX0_inOrder_7 14 rfl rfl)
theorem dX0_inOrder_178 : decode cX0_inOrder 178 = .ok (.ixor, 1) := dk_130 (dk_at dksX0_inOrder_7 15 rfl rfl)
theorem dX0_inOrder_179 : decode cX0_inOrder 179 = .ok (.iand, 1) := dk_126 (dk_at dksX0_inOrder_7 16 rfl rfl)
theorem dX0_inOrder_180 : decode cX0_inOrder 180 = .ok (.invokestatic 207, 3) := dk_184 0 207 (dk_at dksX0_inOrder_7 17 rfl rfl)
theorem dX0_inOrder_183 : decode cX0_inOrder 183 = .ok (.ireturn, 1) := dk_172 (dk_at dksX0_inOrder_7 20 rfl rfl)
abbrev cX0_laysOrders : ByteArray := prog_1_method_21_code
def yX0_laysOrders : MethodName := ⟨RX0, "laysOrders", "(I)V"⟩
def dkwX0_laysOrders_4 : List UInt8 := [132, 2, 255, 167, 255, 162, 177]
abbrev dktX0_laysOrders_4 : List UInt8 := dkwX0_laysOrders_4 ++ []
def dkwX0_laysOrders_3 : List UInt8 := [180, 0, 79, 28, 92, 47, 42, 180, 0, 79, 28, 4, 29, 120, 128, 47, 97, 80, 132, 3, 1, 167, 255, 201]
abbrev dktX0_laysOrders_3 : List UInt8 := dkwX0_laysOrders_3 ++ dktX0_laysOrders_4
def dkwX0_laysOrders_2 : List UInt8 := [184, 0, 191, 153, 0, 37, 42, 180, 0, 16, 29, 182, 0, 200, 28, 2, 130, 126, 153, 0, 22, 42]
abbrev dktX0_laysOrders_2 : List UInt8 := dkwX0_laysOrders_2 ++ dktX0_laysOrders_3
def dkwX0_laysOrders_1 : List UInt8 := [160, 0, 7, 10, 167, 0, 4, 9, 80, 3, 62, 29, 16, 16, 162, 0, 55, 27, 28, 2, 130, 126, 29]
abbrev dktX0_laysOrders_1 : List UInt8 := dkwX0_laysOrders_1 ++ dktX0_laysOrders_2
def dkwX0_laysOrders_0 : List UInt8 := [27, 61, 28, 155, 0, 96, 28, 27, 2, 130, 126, 153, 0, 6, 167, 0, 79, 42, 180, 0, 79, 28, 28, 27]
abbrev dktX0_laysOrders_0 : List UInt8 := dkwX0_laysOrders_0 ++ dktX0_laysOrders_1
theorem dksX0_laysOrders_0 : cX0_laysOrders.data.toList.drop 0 = dktX0_laysOrders_0 := by decide +kernel
theorem dksX0_laysOrders_1 : cX0_laysOrders.data.toList.drop 24 = dktX0_laysOrders_1 := dk_seg dksX0_laysOrders_0 24 rfl rfl
theorem dksX0_laysOrders_2 : cX0_laysOrders.data.toList.drop 47 = dktX0_laysOrders_2 := dk_seg dksX0_laysOrders_1 23 rfl rfl
theorem dksX0_laysOrders_3 : cX0_laysOrders.data.toList.drop 69 = dktX0_laysOrders_3 := dk_seg dksX0_laysOrders_2 22 rfl rfl
theorem dksX0_laysOrders_4 : cX0_laysOrders.data.toList.drop 93 = dktX0_laysOrders_4 := dk_seg dksX0_laysOrders_3 24 rfl rfl
theorem dX0_laysOrders_0 : decode cX0_laysOrders 0 = .ok (.iload_n 1, 1) := dk_27 (dk_at dksX0_laysOrders_0 0 rfl rfl)
theorem dX0_laysOrders_1 : decode cX0_laysOrders 1 = .ok (.istore_n 2, 1) := dk_61 (dk_at dksX0_laysOrders_0 1 rfl rfl)
theorem dX0_laysOrders_2 : decode cX0_laysOrders 2 = .ok (.iload_n 2, 1) := dk_28 (dk_at dksX0_laysOrders_0 2 rfl rfl)
theorem dX0_laysOrders_3 : decode cX0_laysOrders 3 = .ok (.ifCond .lt 96, 3) := dk_155 0 96 (dk_at dksX0_laysOrders_0 3 rfl rfl)
theorem dX0_laysOrders_6 : decode cX0_laysOrders 6 = .ok (.iload_n 2, 1) := dk_28 (dk_at dksX0_laysOrders_0 6 rfl rfl)
theorem dX0_laysOrders_7 : decode cX0_laysOrders 7 = .ok (.iload_n 1, 1) := dk_27 (dk_at dksX0_laysOrders_0 7 rfl rfl)
theorem dX0_laysOrders_8 : decode cX0_laysOrders 8 = .ok (.iconst (-1), 1) := dk_2 (dk_at dksX0_laysOrders_0 8 rfl rfl)
theorem dX0_laysOrders_9 : decode cX0_laysOrders 9 = .ok (.ixor, 1) := dk_130 (dk_at dksX0_laysOrders_0 9 rfl rfl)
theorem dX0_laysOrders_10 : decode cX0_laysOrders 10 = .ok (.iand, 1) := dk_126 (dk_at dksX0_laysOrders_0 10 rfl rfl)
theorem dX0_laysOrders_11 : decode cX0_laysOrders 11 = .ok (.ifCond .eq 6, 3) := dk_153 0 6 (dk_at dksX0_laysOrders_0 11 rfl rfl)
theorem dX0_laysOrders_14 : decode cX0_laysOrders 14 = .ok (.goto 79, 3) := dk_167 0 79 (dk_at dksX0_laysOrders_0 14 rfl rfl)
theorem dX0_laysOrders_17 : decode cX0_laysOrders 17 = .ok (.aload_n 0, 1) := dk_42 (dk_at dksX0_laysOrders_0 17 rfl rfl)
theorem dX0_laysOrders_18 : decode cX0_laysOrders 18 = .ok (.getfield 79, 3) := dk_180 0 79 (dk_at dksX0_laysOrders_0 18 rfl rfl)
theorem dX0_laysOrders_21 : decode cX0_laysOrders 21 = .ok (.iload_n 2, 1) := dk_28 (dk_at dksX0_laysOrders_0 21 rfl rfl)
theorem dX0_laysOrders_22 : decode cX0_laysOrders 22 = .ok (.iload_n 2, 1) := dk_28 (dk_at dksX0_laysOrders_0 22 rfl rfl)
theorem dX0_laysOrders_23 : decode cX0_laysOrders 23 = .ok (.iload_n 1, 1) := dk_27 (dk_at dksX0_laysOrders_0 23 rfl rfl)
theorem dX0_laysOrders_24 : decode cX0_laysOrders 24 = .ok (.if_icmp .ne 7, 3) := dk_160 0 7 (dk_at dksX0_laysOrders_1 0 rfl rfl)
theorem dX0_laysOrders_27 : decode cX0_laysOrders 27 = .ok (.lconst 1, 1) := dk_10 (dk_at dksX0_laysOrders_1 3 rfl rfl)
theorem dX0_laysOrders_28 : decode cX0_laysOrders 28 = .ok (.goto 4, 3) := dk_167 0 4 (dk_at dksX0_laysOrders_1 4 rfl rfl)
theorem dX0_laysOrders_31 : decode cX0_laysOrders 31 = .ok (.lconst 0, 1) := dk_9 (dk_at dksX0_laysOrders_1 7 rfl rfl)
theorem dX0_laysOrders_32 : decode cX0_laysOrders 32 = .ok (.lastore, 1) := dk_80 (dk_at dksX0_laysOrders_1 8 rfl rfl)
theorem dX0_laysOrders_33 : decode cX0_laysOrders 33 = .ok (.iconst 0, 1) := dk_3 (dk_at dksX0_laysOrders_1 9 rfl rfl)
theorem dX0_laysOrders_34 : decode cX0_laysOrders 34 = .ok (.istore_n 3, 1) := dk_62 (dk_at dksX0_laysOrders_1 10 rfl rfl)
theorem dX0_laysOrders_35 : decode cX0_laysOrders 35 = .ok (.iload_n 3, 1) := dk_29 (dk_at dksX0_laysOrders_1 11 rfl rfl)
theorem dX0_laysOrders_36 : decode cX0_laysOrders 36 = .ok (.bipush 16, 2) := dk_16 16 (dk_at dksX0_laysOrders_1 12 rfl rfl)
theorem dX0_laysOrders_38 : decode cX0_laysOrders 38 = .ok (.if_icmp .ge 55, 3) := dk_162 0 55 (dk_at dksX0_laysOrders_1 14 rfl rfl)
theorem dX0_laysOrders_41 : decode cX0_laysOrders 41 = .ok (.iload_n 1, 1) := dk_27 (dk_at dksX0_laysOrders_1 17 rfl rfl)
theorem dX0_laysOrders_42 : decode cX0_laysOrders 42 = .ok (.iload_n 2, 1) := dk_28 (dk_at dksX0_laysOrders_1 18 rfl rfl)
theorem dX0_laysOrders_43 : decode cX0_laysOrders 43 = .ok (.iconst (-1), 1) := dk_2 (dk_at dksX0_laysOrders_1 19 rfl rfl)
theorem dX0_laysOrders_44 : decode cX0_laysOrders 44 = .ok (.ixor, 1) := dk_130 (dk_at dksX0_laysOrders_1 20 rfl rfl)
theorem dX0_laysOrders_45 : decode cX0_laysOrders 45 = .ok (.iand, 1) := dk_126 (dk_at dksX0_laysOrders_1 21 rfl rfl)
theorem dX0_laysOrders_46 : decode cX0_laysOrders 46 = .ok (.iload_n 3, 1) := dk_29 (dk_at dksX0_laysOrders_1 22 rfl rfl)
theorem dX0_laysOrders_47 : decode cX0_laysOrders 47 = .ok (.invokestatic 191, 3) := dk_184 0 191 (dk_at dksX0_laysOrders_2 0 rfl rfl)
theorem dX0_laysOrders_50 : decode cX0_laysOrders 50 = .ok (.ifCond .eq 37, 3) := dk_153 0 37 (dk_at dksX0_laysOrders_2 3 rfl rfl)
theorem dX0_laysOrders_53 : decode cX0_laysOrders 53 = .ok (.aload_n 0, 1) := dk_42 (dk_at dksX0_laysOrders_2 6 rfl rfl)
theorem dX0_laysOrders_54 : decode cX0_laysOrders 54 = .ok (.getfield 16, 3) := dk_180 0 16 (dk_at dksX0_laysOrders_2 7 rfl rfl)
theorem dX0_laysOrders_57 : decode cX0_laysOrders 57 = .ok (.iload_n 3, 1) := dk_29 (dk_at dksX0_laysOrders_2 10 rfl rfl)
theorem dX0_laysOrders_58 : decode cX0_laysOrders 58 = .ok (.invokevirtual 200, 3) := dk_182 0 200 (dk_at dksX0_laysOrders_2 11 rfl rfl)
theorem dX0_laysOrders_61 : decode cX0_laysOrders 61 = .ok (.iload_n 2, 1) := dk_28 (dk_at dksX0_laysOrders_2 14 rfl rfl)
theorem dX0_laysOrders_62 : decode cX0_laysOrders 62 = .ok (.iconst (-1), 1) := dk_2 (dk_at dksX0_laysOrders_2 15 rfl rfl)
theorem dX0_laysOrders_63 : decode cX0_laysOrders 63 = .ok (.ixor, 1) := dk_130 (dk_at dksX0_laysOrders_2 16 rfl rfl)
theorem dX0_laysOrders_64 : decode cX0_laysOrders 64 = .ok (.iand, 1) := dk_126 (dk_at dksX0_laysOrders_2 17 rfl rfl)
theorem dX0_laysOrders_65 : decode cX0_laysOrders 65 = .ok (.ifCond .eq 22, 3) := dk_153 0 22 (dk_at dksX0_laysOrders_2 18 rfl rfl)
theorem dX0_laysOrders_68 : decode cX0_laysOrders 68 = .ok (.aload_n 0, 1) := dk_42 (dk_at dksX0_laysOrders_2 21 rfl rfl)
theorem dX0_laysOrders_69 : decode cX0_laysOrders 69 = .ok (.getfield 79, 3) := dk_180 0 79 (dk_at dksX0_laysOrders_3 0 rfl rfl)
theorem dX0_laysOrders_72 : decode cX0_laysOrders 72 = .ok (.iload_n 2, 1) := dk_28 (dk_at dksX0_laysOrders_3 3 rfl rfl)
theorem dX0_laysOrders_73 : decode cX0_laysOrders 73 = .ok (.dup2, 1) := dk_92 (dk_at dksX0_laysOrders_3 4 rfl rfl)
theorem dX0_laysOrders_74 : decode cX0_laysOrders 74 = .ok (.laload, 1) := dk_47 (dk_at dksX0_laysOrders_3 5 rfl rfl)
theorem dX0_laysOrders_75 : decode cX0_laysOrders 75 = .ok (.aload_n 0, 1) := dk_42 (dk_at dksX0_laysOrders_3 6 rfl rfl)
theorem dX0_laysOrders_76 : decode cX0_laysOrders 76 = .ok (.getfield 79, 3) := dk_180 0 79 (dk_at dksX0_laysOrders_3 7 rfl rfl)
theorem dX0_laysOrders_79 : decode cX0_laysOrders 79 = .ok (.iload_n 2, 1) := dk_28 (dk_at dksX0_laysOrders_3 10 rfl rfl)
theorem dX0_laysOrders_80 : decode cX0_laysOrders 80 = .ok (.iconst 1, 1) := dk_4 (dk_at dksX0_laysOrders_3 11 rfl rfl)
theorem dX0_laysOrders_81 : decode cX0_laysOrders 81 = .ok (.iload_n 3, 1) := dk_29 (dk_at dksX0_laysOrders_3 12 rfl rfl)
theorem dX0_laysOrders_82 : decode cX0_laysOrders 82 = .ok (.ishl, 1) := dk_120 (dk_at dksX0_laysOrders_3 13 rfl rfl)
theorem dX0_laysOrders_83 : decode cX0_laysOrders 83 = .ok (.ior, 1) := dk_128 (dk_at dksX0_laysOrders_3 14 rfl rfl)
theorem dX0_laysOrders_84 : decode cX0_laysOrders 84 = .ok (.laload, 1) := dk_47 (dk_at dksX0_laysOrders_3 15 rfl rfl)
theorem dX0_laysOrders_85 : decode cX0_laysOrders 85 = .ok (.ladd, 1) := dk_97 (dk_at dksX0_laysOrders_3 16 rfl rfl)
theorem dX0_laysOrders_86 : decode cX0_laysOrders 86 = .ok (.lastore, 1) := dk_80 (dk_at dksX0_laysOrders_3 17 rfl rfl)
theorem dX0_laysOrders_87 : decode cX0_laysOrders 87 = .ok (.iinc 3 1, 3) := dk_132 3 1 (dk_at dksX0_laysOrders_3 18 rfl rfl)
theorem dX0_laysOrders_90 : decode cX0_laysOrders 90 = .ok (.goto (-55), 3) := dk_167 255 201 (dk_at dksX0_laysOrders_3 21 rfl rfl)
theorem dX0_laysOrders_93 : decode cX0_laysOrders 93 = .ok (.iinc 2 (-1), 3) := dk_132 2 255 (dk_at dksX0_laysOrders_4 0 rfl rfl)
theorem dX0_laysOrders_96 : decode cX0_laysOrders 96 = .ok (.goto (-94), 3) := dk_167 255 162 (dk_at dksX0_laysOrders_4 3 rfl rfl)
theorem dX0_laysOrders_99 : decode cX0_laysOrders 99 = .ok (.return_, 1) := dk_177 (dk_at dksX0_laysOrders_4 6 rfl rfl)
abbrev cX0_ways : ByteArray := prog_1_method_23_code
def yX0_ways : MethodName := ⟨RX0, "ways", "(I)J"⟩
def dkwX0_ways_1 : List UInt8 := [180, 0, 152, 126, 27, 2, 130, 126, 182, 0, 217, 42, 180, 0, 79, 3, 47, 173]
abbrev dktX0_ways_1 : List UInt8 := dkwX0_ways_1 ++ []
def dkwX0_ways_0 : List UInt8 := [42, 27, 182, 0, 220, 154, 0, 7, 20, 0, 223, 173, 42, 42, 180, 0, 16, 180, 0, 22, 42, 180, 0, 16]
abbrev dktX0_ways_0 : List UInt8 := dkwX0_ways_0 ++ dktX0_ways_1
theorem dksX0_ways_0 : cX0_ways.data.toList.drop 0 = dktX0_ways_0 := by decide +kernel
theorem dksX0_ways_1 : cX0_ways.data.toList.drop 24 = dktX0_ways_1 := dk_seg dksX0_ways_0 24 rfl rfl
theorem dX0_ways_0 : decode cX0_ways 0 = .ok (.aload_n 0, 1) := dk_42 (dk_at dksX0_ways_0 0 rfl rfl)
theorem dX0_ways_1 : decode cX0_ways 1 = .ok (.iload_n 1, 1) := dk_27 (dk_at dksX0_ways_0 1 rfl rfl)
theorem dX0_ways_2 : decode cX0_ways 2 = .ok (.invokevirtual 220, 3) := dk_182 0 220 (dk_at dksX0_ways_0 2 rfl rfl)
theorem dX0_ways_5 : decode cX0_ways 5 = .ok (.ifCond .ne 7, 3) := dk_154 0 7 (dk_at dksX0_ways_0 5 rfl rfl)
theorem dX0_ways_8 : decode cX0_ways 8 = .ok (.ldc2_w 223, 3) := dk_20 0 223 (dk_at dksX0_ways_0 8 rfl rfl)
theorem dX0_ways_11 : decode cX0_ways 11 = .ok (.lreturn, 1) := dk_173 (dk_at dksX0_ways_0 11 rfl rfl)
theorem dX0_ways_12 : decode cX0_ways 12 = .ok (.aload_n 0, 1) := dk_42 (dk_at dksX0_ways_0 12 rfl rfl)
theorem dX0_ways_13 : decode cX0_ways 13 = .ok (.aload_n 0, 1) := dk_42 (dk_at dksX0_ways_0 13 rfl rfl)
theorem dX0_ways_14 : decode cX0_ways 14 = .ok (.getfield 16, 3) := dk_180 0 16 (dk_at dksX0_ways_0 14 rfl rfl)
theorem dX0_ways_17 : decode cX0_ways 17 = .ok (.getfield 22, 3) := dk_180 0 22 (dk_at dksX0_ways_0 17 rfl rfl)
theorem dX0_ways_20 : decode cX0_ways 20 = .ok (.aload_n 0, 1) := dk_42 (dk_at dksX0_ways_0 20 rfl rfl)
theorem dX0_ways_21 : decode cX0_ways 21 = .ok (.getfield 16, 3) := dk_180 0 16 (dk_at dksX0_ways_0 21 rfl rfl)
theorem dX0_ways_24 : decode cX0_ways 24 = .ok (.getfield 152, 3) := dk_180 0 152 (dk_at dksX0_ways_1 0 rfl rfl)
theorem dX0_ways_27 : decode cX0_ways 27 = .ok (.iand, 1) := dk_126 (dk_at dksX0_ways_1 3 rfl rfl)
theorem dX0_ways_28 : decode cX0_ways 28 = .ok (.iload_n 1, 1) := dk_27 (dk_at dksX0_ways_1 4 rfl rfl)
theorem dX0_ways_29 : decode cX0_ways 29 = .ok (.iconst (-1), 1) := dk_2 (dk_at dksX0_ways_1 5 rfl rfl)
theorem dX0_ways_30 : decode cX0_ways 30 = .ok (.ixor, 1) := dk_130 (dk_at dksX0_ways_1 6 rfl rfl)
theorem dX0_ways_31 : decode cX0_ways 31 = .ok (.iand, 1) := dk_126 (dk_at dksX0_ways_1 7 rfl rfl)
theorem dX0_ways_32 : decode cX0_ways 32 = .ok (.invokevirtual 217, 3) := dk_182 0 217 (dk_at dksX0_ways_1 8 rfl rfl)
theorem dX0_ways_35 : decode cX0_ways 35 = .ok (.aload_n 0, 1) := dk_42 (dk_at dksX0_ways_1 11 rfl rfl)
theorem dX0_ways_36 : decode cX0_ways 36 = .ok (.getfield 79, 3) := dk_180 0 79 (dk_at dksX0_ways_1 12 rfl rfl)
theorem dX0_ways_39 : decode cX0_ways 39 = .ok (.iconst 0, 1) := dk_3 (dk_at dksX0_ways_1 15 rfl rfl)
theorem dX0_ways_40 : decode cX0_ways 40 = .ok (.laload, 1) := dk_47 (dk_at dksX0_ways_1 16 rfl rfl)
theorem dX0_ways_41 : decode cX0_ways 41 = .ok (.lreturn, 1) := dk_173 (dk_at dksX0_ways_1 17 rfl rfl)
abbrev cX0_areTold : ByteArray := prog_1_method_6_code
def yX0_areTold : MethodName := ⟨RX0, "areTold", "(I)Z"⟩
def dkwX0_areTold_0 : List UInt8 := [27, 155, 0, 21, 27, 42, 180, 0, 16, 180, 0, 22, 2, 130, 126, 154, 0, 7, 4, 167, 0, 4, 3, 172]
abbrev dktX0_areTold_0 : List UInt8 := dkwX0_areTold_0 ++ []
theorem dksX0_areTold_0 : cX0_areTold.data.toList.drop 0 = dktX0_areTold_0 := by decide +kernel
theorem dX0_areTold_0 : decode cX0_areTold 0 = .ok (.iload_n 1, 1) := dk_27 (dk_at dksX0_areTold_0 0 rfl rfl)
theorem dX0_areTold_1 : decode cX0_areTold 1 = .ok (.ifCond .lt 21, 3) := dk_155 0 21 (dk_at dksX0_areTold_0 1 rfl rfl)
theorem dX0_areTold_4 : decode cX0_areTold 4 = .ok (.iload_n 1, 1) := dk_27 (dk_at dksX0_areTold_0 4 rfl rfl)
theorem dX0_areTold_5 : decode cX0_areTold 5 = .ok (.aload_n 0, 1) := dk_42 (dk_at dksX0_areTold_0 5 rfl rfl)
theorem dX0_areTold_6 : decode cX0_areTold 6 = .ok (.getfield 16, 3) := dk_180 0 16 (dk_at dksX0_areTold_0 6 rfl rfl)
theorem dX0_areTold_9 : decode cX0_areTold 9 = .ok (.getfield 22, 3) := dk_180 0 22 (dk_at dksX0_areTold_0 9 rfl rfl)
theorem dX0_areTold_12 : decode cX0_areTold 12 = .ok (.iconst (-1), 1) := dk_2 (dk_at dksX0_areTold_0 12 rfl rfl)
theorem dX0_areTold_13 : decode cX0_areTold 13 = .ok (.ixor, 1) := dk_130 (dk_at dksX0_areTold_0 13 rfl rfl)
theorem dX0_areTold_14 : decode cX0_areTold 14 = .ok (.iand, 1) := dk_126 (dk_at dksX0_areTold_0 14 rfl rfl)
theorem dX0_areTold_15 : decode cX0_areTold 15 = .ok (.ifCond .ne 7, 3) := dk_154 0 7 (dk_at dksX0_areTold_0 15 rfl rfl)
theorem dX0_areTold_18 : decode cX0_areTold 18 = .ok (.iconst 1, 1) := dk_4 (dk_at dksX0_areTold_0 18 rfl rfl)
theorem dX0_areTold_19 : decode cX0_areTold 19 = .ok (.goto 4, 3) := dk_167 0 4 (dk_at dksX0_areTold_0 19 rfl rfl)
theorem dX0_areTold_22 : decode cX0_areTold 22 = .ok (.iconst 0, 1) := dk_3 (dk_at dksX0_areTold_0 22 rfl rfl)
theorem dX0_areTold_23 : decode cX0_areTold 23 = .ok (.ireturn, 1) := dk_172 (dk_at dksX0_areTold_0 23 rfl rfl)
abbrev cX0_keepsOut : ByteArray := prog_1_method_24_code
def yX0_keepsOut : MethodName := ⟨RX0, "keepsOut", "(I)I"⟩
def dkwX0_keepsOut_7 : List UInt8 := [167, 0, 5, 21, 4, 172]
abbrev dktX0_keepsOut_7 : List UInt8 := dkwX0_keepsOut_7 ++ []
def dkwX0_keepsOut_6 : List UInt8 := [167, 0, 5, 21, 4, 54, 4, 132, 6, 1, 167, 255, 149, 132, 5, 1, 167, 255, 130, 27, 154, 0, 7, 29]
abbrev dktX0_keepsOut_6 : List UInt8 := dkwX0_keepsOut_6 ++ dktX0_keepsOut_7
def dkwX0_keepsOut_5 : List UInt8 := [160, 0, 6, 167, 0, 28, 132, 3, 1, 21, 4, 16, 254, 160, 0, 14, 16, 16, 21, 5, 104, 21, 6, 96]
abbrev dktX0_keepsOut_5 : List UInt8 := dkwX0_keepsOut_5 ++ dktX0_keepsOut_6
def dkwX0_keepsOut_4 : List UInt8 := [180, 0, 52, 21, 5, 21, 6, 4, 182, 0, 225, 42, 180, 0, 52, 184, 0, 210, 184, 0, 214, 28]
abbrev dktX0_keepsOut_4 : List UInt8 := dkwX0_keepsOut_4 ++ dktX0_keepsOut_5
def dkwX0_keepsOut_3 : List UInt8 := [21, 6, 184, 0, 191, 154, 0, 6, 167, 0, 68, 42, 180, 0, 52, 42, 180, 0, 16, 182, 0, 140, 42]
abbrev dktX0_keepsOut_3 : List UInt8 := dkwX0_keepsOut_3 ++ dktX0_keepsOut_4
def dkwX0_keepsOut_2 : List UInt8 := [162, 0, 106, 42, 180, 0, 16, 21, 5, 182, 0, 168, 153, 0, 88, 42, 180, 0, 16, 21, 5, 182, 0, 200]
abbrev dktX0_keepsOut_2 : List UInt8 := dkwX0_keepsOut_2 ++ dktX0_keepsOut_3
def dkwX0_keepsOut_1 : List UInt8 := [16, 254, 54, 4, 3, 54, 5, 21, 5, 16, 16, 162, 0, 125, 21, 5, 4, 96, 54, 6, 21, 6, 16, 16]
abbrev dktX0_keepsOut_1 : List UInt8 := dkwX0_keepsOut_1 ++ dktX0_keepsOut_2
def dkwX0_keepsOut_0 : List UInt8 := [27, 5, 184, 0, 144, 154, 0, 5, 2, 172, 42, 180, 0, 16, 184, 0, 210, 184, 0, 214, 61, 3, 62]
abbrev dktX0_keepsOut_0 : List UInt8 := dkwX0_keepsOut_0 ++ dktX0_keepsOut_1
theorem dksX0_keepsOut_0 : cX0_keepsOut.data.toList.drop 0 = dktX0_keepsOut_0 := by decide +kernel
theorem dksX0_keepsOut_1 : cX0_keepsOut.data.toList.drop 23 = dktX0_keepsOut_1 := dk_seg dksX0_keepsOut_0 23 rfl rfl
theorem dksX0_keepsOut_2 : cX0_keepsOut.data.toList.drop 47 = dktX0_keepsOut_2 := dk_seg dksX0_keepsOut_1 24 rfl rfl
theorem dksX0_keepsOut_3 : cX0_keepsOut.data.toList.drop 71 = dktX0_keepsOut_3 := dk_seg dksX0_keepsOut_2 24 rfl rfl
theorem dksX0_keepsOut_4 : cX0_keepsOut.data.toList.drop 94 = dktX0_keepsOut_4 := dk_seg dksX0_keepsOut_3 23 rfl rfl
theorem dksX0_keepsOut_5 : cX0_keepsOut.data.toList.drop 116 = dktX0_keepsOut_5 := dk_seg dksX0_keepsOut_4 22 rfl rfl
theorem dksX0_keepsOut_6 : cX0_keepsOut.data.toList.drop 140 = dktX0_keepsOut_6 := dk_seg dksX0_keepsOut_5 24 rfl rfl
theorem dksX0_keepsOut_7 : cX0_keepsOut.data.toList.drop 164 = dktX0_keepsOut_7 := dk_seg dksX0_keepsOut_6 24 rfl rfl
theorem dX0_keepsOut_0 : decode cX0_keepsOut 0 = .ok (.iload_n 1, 1) := dk_27 (dk_at dksX0_keepsOut_0 0 rfl rfl)
theorem dX0_keepsOut_1 : decode cX0_keepsOut 1 = .ok (.iconst 2, 1) := dk_5 (dk_at dksX0_keepsOut_0 1 rfl rfl)
theorem dX0_keepsOut_2 : decode cX0_keepsOut 2 = .ok (.invokestatic 144, 3) := dk_184 0 144 (dk_at dksX0_keepsOut_0 2 rfl rfl)
theorem dX0_keepsOut_5 : decode cX0_keepsOut 5 = .ok (.ifCond .ne 5, 3) := dk_154 0 5 (dk_at dksX0_keepsOut_0 5 rfl rfl)
theorem dX0_keepsOut_8 : decode cX0_keepsOut 8 = .ok (.iconst (-1), 1) := dk_2 (dk_at dksX0_keepsOut_0 8 rfl rfl)
theorem dX0_keepsOut_9 : decode cX0_keepsOut 9 = .ok (.ireturn, 1) := dk_172 (dk_at dksX0_keepsOut_0 9 rfl rfl)
theorem dX0_keepsOut_10 : decode cX0_keepsOut 10 = .ok (.aload_n 0, 1) := dk_42 (dk_at dksX0_keepsOut_0 10 rfl rfl)
theorem dX0_keepsOut_11 : decode cX0_keepsOut 11 = .ok (.getfield 16, 3) := dk_180 0 16 (dk_at dksX0_keepsOut_0 11 rfl rfl)
theorem dX0_keepsOut_14 : decode cX0_keepsOut 14 = .ok (.invokestatic 210, 3) := dk_184 0 210 (dk_at dksX0_keepsOut_0 14 rfl rfl)
theorem dX0_keepsOut_17 : decode cX0_keepsOut 17 = .ok (.invokestatic 214, 3) := dk_184 0 214 (dk_at dksX0_keepsOut_0 17 rfl rfl)
theorem dX0_keepsOut_20 : decode cX0_keepsOut 20 = .ok (.istore_n 2, 1) := dk_61 (dk_at dksX0_keepsOut_0 20 rfl rfl)
theorem dX0_keepsOut_21 : decode cX0_keepsOut 21 = .ok (.iconst 0, 1) := dk_3 (dk_at dksX0_keepsOut_0 21 rfl rfl)
theorem dX0_keepsOut_22 : decode cX0_keepsOut 22 = .ok (.istore_n 3, 1) := dk_62 (dk_at dksX0_keepsOut_0 22 rfl rfl)
theorem dX0_keepsOut_23 : decode cX0_keepsOut 23 = .ok (.bipush (-2), 2) := dk_16 254 (dk_at dksX0_keepsOut_1 0 rfl rfl)
theorem dX0_keepsOut_25 : decode cX0_keepsOut 25 = .ok (.istore 4, 2) := dk_54 4 (dk_at dksX0_keepsOut_1 2 rfl rfl)
theorem dX0_keepsOut_27 : decode cX0_keepsOut 27 = .ok (.iconst 0, 1) := dk_3 (dk_at dksX0_keepsOut_1 4 rfl rfl)
theorem dX0_keepsOut_28 : decode cX0_keepsOut 28 = .ok (.istore 5, 2) := dk_54 5 (dk_at dksX0_keepsOut_1 5 rfl rfl)
theorem dX0_keepsOut_30 : decode cX0_keepsOut 30 = .ok (.iload 5, 2) := dk_21 5 (dk_at dksX0_keepsOut_1 7 rfl rfl)
theorem dX0_keepsOut_32 : decode cX0_keepsOut 32 = .ok (.bipush 16, 2) := dk_16 16 (dk_at dksX0_keepsOut_1 9 rfl rfl)
theorem dX0_keepsOut_34 : decode cX0_keepsOut 34 = .ok (.if_icmp .ge 125, 3) := dk_162 0 125 (dk_at dksX0_keepsOut_1 11 rfl rfl)
theorem dX0_keepsOut_37 : decode cX0_keepsOut 37 = .ok (.iload 5, 2) := dk_21 5 (dk_at dksX0_keepsOut_1 14 rfl rfl)
theorem dX0_keepsOut_39 : decode cX0_keepsOut 39 = .ok (.iconst 1, 1) := dk_4 (dk_at dksX0_keepsOut_1 16 rfl rfl)
theorem dX0_keepsOut_40 : decode cX0_keepsOut 40 = .ok (.iadd, 1) := dk_96 (dk_at dksX0_keepsOut_1 17 rfl rfl)
theorem dX0_keepsOut_41 : decode cX0_keepsOut 41 = .ok (.istore 6, 2) := dk_54 6 (dk_at dksX0_keepsOut_1 18 rfl rfl)
theorem dX0_keepsOut_43 : decode cX0_keepsOut 43 = .ok (.iload 6, 2) := dk_21 6 (dk_at dksX0_keepsOut_1 20 rfl rfl)
theorem dX0_keepsOut_45 : decode cX0_keepsOut 45 = .ok (.bipush 16, 2) := dk_16 16 (dk_at dksX0_keepsOut_1 22 rfl rfl)
theorem dX0_keepsOut_47 : decode cX0_keepsOut 47 = .ok (.if_icmp .ge 106, 3) := dk_162 0 106 (dk_at dksX0_keepsOut_2 0 rfl rfl)
theorem dX0_keepsOut_50 : decode cX0_keepsOut 50 = .ok (.aload_n 0, 1) := dk_42 (dk_at dksX0_keepsOut_2 3 rfl rfl)
theorem dX0_keepsOut_51 : decode cX0_keepsOut 51 = .ok (.getfield 16, 3) := dk_180 0 16 (dk_at dksX0_keepsOut_2 4 rfl rfl)
theorem dX0_keepsOut_54 : decode cX0_keepsOut 54 = .ok (.iload 5, 2) := dk_21 5 (dk_at dksX0_keepsOut_2 7 rfl rfl)
theorem dX0_keepsOut_56 : decode cX0_keepsOut 56 = .ok (.invokevirtual 168, 3) := dk_182 0 168 (dk_at dksX0_keepsOut_2 9 rfl rfl)
theorem dX0_keepsOut_59 : decode cX0_keepsOut 59 = .ok (.ifCond .eq 88, 3) := dk_153 0 88 (dk_at dksX0_keepsOut_2 12 rfl rfl)
theorem dX0_keepsOut_62 : decode cX0_keepsOut 62 = .ok (.aload_n 0, 1) := dk_42 (dk_at dksX0_keepsOut_2 15 rfl rfl)
theorem dX0_keepsOut_63 : decode cX0_keepsOut 63 = .ok (.getfield 16, 3) := dk_180 0 16 (dk_at dksX0_keepsOut_2 16 rfl rfl)
theorem dX0_keepsOut_66 : decode cX0_keepsOut 66 = .ok (.iload 5, 2) := dk_21 5 (dk_at dksX0_keepsOut_2 19 rfl rfl)
theorem dX0_keepsOut_68 : decode cX0_keepsOut 68 = .ok (.invokevirtual 200, 3) := dk_182 0 200 (dk_at dksX0_keepsOut_2 21 rfl rfl)
theorem dX0_keepsOut_71 : decode cX0_keepsOut 71 = .ok (.iload 6, 2) := dk_21 6 (dk_at dksX0_keepsOut_3 0 rfl rfl)
theorem dX0_keepsOut_73 : decode cX0_keepsOut 73 = .ok (.invokestatic 191, 3) := dk_184 0 191 (dk_at dksX0_keepsOut_3 2 rfl rfl)
theorem dX0_keepsOut_76 : decode cX0_keepsOut 76 = .ok (.ifCond .ne 6, 3) := dk_154 0 6 (dk_at dksX0_keepsOut_3 5 rfl rfl)
theorem dX0_keepsOut_79 : decode cX0_keepsOut 79 = .ok (.goto 68, 3) := dk_167 0 68 (dk_at dksX0_keepsOut_3 8 rfl rfl)
theorem dX0_keepsOut_82 : decode cX0_keepsOut 82 = .ok (.aload_n 0, 1) := dk_42 (dk_at dksX0_keepsOut_3 11 rfl rfl)
theorem dX0_keepsOut_83 : decode cX0_keepsOut 83 = .ok (.getfield 52, 3) := dk_180 0 52 (dk_at dksX0_keepsOut_3 12 rfl rfl)
theorem dX0_keepsOut_86 : decode cX0_keepsOut 86 = .ok (.aload_n 0, 1) := dk_42 (dk_at dksX0_keepsOut_3 15 rfl rfl)
theorem dX0_keepsOut_87 : decode cX0_keepsOut 87 = .ok (.getfield 16, 3) := dk_180 0 16 (dk_at dksX0_keepsOut_3 16 rfl rfl)
theorem dX0_keepsOut_90 : decode cX0_keepsOut 90 = .ok (.invokevirtual 140, 3) := dk_182 0 140 (dk_at dksX0_keepsOut_3 19 rfl rfl)
theorem dX0_keepsOut_93 : decode cX0_keepsOut 93 = .ok (.aload_n 0, 1) := dk_42 (dk_at dksX0_keepsOut_3 22 rfl rfl)
theorem dX0_keepsOut_94 : decode cX0_keepsOut 94 = .ok (.getfield 52, 3) := dk_180 0 52 (dk_at dksX0_keepsOut_4 0 rfl rfl)
theorem dX0_keepsOut_97 : decode cX0_keepsOut 97 = .ok (.iload 5, 2) := dk_21 5 (dk_at dksX0_keepsOut_4 3 rfl rfl)
theorem dX0_keepsOut_99 : decode cX0_keepsOut 99 = .ok (.iload 6, 2) := dk_21 6 (dk_at dksX0_keepsOut_4 5 rfl rfl)
theorem dX0_keepsOut_101 : decode cX0_keepsOut 101 = .ok (.iconst 1, 1) := dk_4 (dk_at dksX0_keepsOut_4 7 rfl rfl)
theorem dX0_keepsOut_102 : decode cX0_keepsOut 102 = .ok (.invokevirtual 225, 3) := dk_182 0 225 (dk_at dksX0_keepsOut_4 8 rfl rfl)
theorem dX0_keepsOut_105 : decode cX0_keepsOut 105 = .ok (.aload_n 0, 1) := dk_42 (dk_at dksX0_keepsOut_4 11 rfl rfl)
theorem dX0_keepsOut_106 : decode cX0_keepsOut 106 = .ok (.getfield 52, 3) := dk_180 0 52 (dk_at dksX0_keepsOut_4 12 rfl rfl)
theorem dX0_keepsOut_109 : decode cX0_keepsOut 109 = .ok (.invokestatic 210, 3) := dk_184 0 210 (dk_at dksX0_keepsOut_4 15 rfl rfl)
theorem dX0_keepsOut_112 : decode cX0_keepsOut 112 = .ok (.invokestatic 214, 3) := dk_184 0 214 (dk_at dksX0_keepsOut_4 18 rfl rfl)
theorem dX0_keepsOut_115 : decode cX0_keepsOut 115 = .ok (.iload_n 2, 1) := dk_28 (dk_at dksX0_keepsOut_4 21 rfl rfl)
theorem dX0_keepsOut_116 : decode cX0_keepsOut 116 = .ok (.if_icmp .ne 6, 3) := dk_160 0 6 (dk_at dksX0_keepsOut_5 0 rfl rfl)
theorem dX0_keepsOut_119 : decode cX0_keepsOut 119 = .ok (.goto 28, 3) := dk_167 0 28 (dk_at dksX0_keepsOut_5 3 rfl rfl)
theorem dX0_keepsOut_122 : decode cX0_keepsOut 122 = .ok (.iinc 3 1, 3) := dk_132 3 1 (dk_at dksX0_keepsOut_5 6 rfl rfl)
theorem dX0_keepsOut_125 : decode cX0_keepsOut 125 = .ok (.iload 4, 2) := dk_21 4 (dk_at dksX0_keepsOut_5 9 rfl rfl)
theorem dX0_keepsOut_127 : decode cX0_keepsOut 127 = .ok (.bipush (-2), 2) := dk_16 254 (dk_at dksX0_keepsOut_5 11 rfl rfl)
theorem dX0_keepsOut_129 : decode cX0_keepsOut 129 = .ok (.if_icmp .ne 14, 3) := dk_160 0 14 (dk_at dksX0_keepsOut_5 13 rfl rfl)
theorem dX0_keepsOut_132 : decode cX0_keepsOut 132 = .ok (.bipush 16, 2) := dk_16 16 (dk_at dksX0_keepsOut_5 16 rfl rfl)
theorem dX0_keepsOut_134 : decode cX0_keepsOut 134 = .ok (.iload 5, 2) := dk_21 5 (dk_at dksX0_keepsOut_5 18 rfl rfl)
theorem dX0_keepsOut_136 : decode cX0_keepsOut 136 = .ok (.imul, 1) := dk_104 (dk_at dksX0_keepsOut_5 20 rfl rfl)
theorem dX0_keepsOut_137 : decode cX0_keepsOut 137 = .ok (.iload 6, 2) := dk_21 6 (dk_at dksX0_keepsOut_5 21 rfl rfl)
theorem dX0_keepsOut_139 : decode cX0_keepsOut 139 = .ok (.iadd, 1) := dk_96 (dk_at dksX0_keepsOut_5 23 rfl rfl)
theorem dX0_keepsOut_140 : decode cX0_keepsOut 140 = .ok (.goto 5, 3) := dk_167 0 5 (dk_at dksX0_keepsOut_6 0 rfl rfl)
theorem dX0_keepsOut_143 : decode cX0_keepsOut 143 = .ok (.iload 4, 2) := dk_21 4 (dk_at dksX0_keepsOut_6 3 rfl rfl)
theorem dX0_keepsOut_145 : decode cX0_keepsOut 145 = .ok (.istore 4, 2) := dk_54 4 (dk_at dksX0_keepsOut_6 5 rfl rfl)
theorem dX0_keepsOut_147 : decode cX0_keepsOut 147 = .ok (.iinc 6 1, 3) := dk_132 6 1 (dk_at dksX0_keepsOut_6 7 rfl rfl)
theorem dX0_keepsOut_150 : decode cX0_keepsOut 150 = .ok (.goto (-107), 3) := dk_167 255 149 (dk_at dksX0_keepsOut_6 10 rfl rfl)
theorem dX0_keepsOut_153 : decode cX0_keepsOut 153 = .ok (.iinc 5 1, 3) := dk_132 5 1 (dk_at dksX0_keepsOut_6 13 rfl rfl)
theorem dX0_keepsOut_156 : decode cX0_keepsOut 156 = .ok (.goto (-126), 3) := dk_167 255 130 (dk_at dksX0_keepsOut_6 16 rfl rfl)
theorem dX0_keepsOut_159 : decode cX0_keepsOut 159 = .ok (.iload_n 1, 1) := dk_27 (dk_at dksX0_keepsOut_6 19 rfl rfl)
theorem dX0_keepsOut_160 : decode cX0_keepsOut 160 = .ok (.ifCond .ne 7, 3) := dk_154 0 7 (dk_at dksX0_keepsOut_6 20 rfl rfl)
theorem dX0_keepsOut_163 : decode cX0_keepsOut 163 = .ok (.iload_n 3, 1) := dk_29 (dk_at dksX0_keepsOut_6 23 rfl rfl)
theorem dX0_keepsOut_164 : decode cX0_keepsOut 164 = .ok (.goto 5, 3) := dk_167 0 5 (dk_at dksX0_keepsOut_7 0 rfl rfl)
theorem dX0_keepsOut_167 : decode cX0_keepsOut 167 = .ok (.iload 4, 2) := dk_21 4 (dk_at dksX0_keepsOut_7 3 rfl rfl)
theorem dX0_keepsOut_169 : decode cX0_keepsOut 169 = .ok (.ireturn, 1) := dk_172 (dk_at dksX0_keepsOut_7 5 rfl rfl)
abbrev cX0_chain : ByteArray := prog_1_method_25_code
def yX0_chain : MethodName := ⟨RX0, "chain", "(II)I"⟩
def dkwX0_chain_4 : List UInt8 := [167, 255, 219, 21, 5, 62, 132, 4, 1, 167, 255, 186, 16, 254, 172]
abbrev dktX0_chain_4 : List UInt8 := dkwX0_chain_4 ++ []
def dkwX0_chain_3 : List UInt8 := [153, 0, 15, 42, 180, 0, 16, 21, 6, 182, 0, 200, 167, 0, 4, 3, 128, 54, 5, 132, 6, 1]
abbrev dktX0_chain_3 : List UInt8 := dkwX0_chain_3 ++ dktX0_chain_4
def dkwX0_chain_2 : List UInt8 := [172, 29, 54, 5, 3, 54, 6, 21, 6, 16, 16, 162, 0, 36, 21, 5, 29, 21, 6, 184, 0, 191]
abbrev dktX0_chain_2 : List UInt8 := dkwX0_chain_2 ++ dktX0_chain_3
def dkwX0_chain_1 : List UInt8 := [4, 27, 120, 62, 3, 54, 4, 21, 4, 16, 16, 162, 0, 69, 29, 28, 184, 0, 191, 153, 0, 6, 21, 4]
abbrev dktX0_chain_1 : List UInt8 := dkwX0_chain_1 ++ dktX0_chain_2
def dkwX0_chain_0 : List UInt8 := [42, 180, 0, 16, 27, 182, 0, 168, 153, 0, 14, 42, 180, 0, 16, 28, 182, 0, 168, 154, 0, 5, 2, 172]
abbrev dktX0_chain_0 : List UInt8 := dkwX0_chain_0 ++ dktX0_chain_1
theorem dksX0_chain_0 : cX0_chain.data.toList.drop 0 = dktX0_chain_0 := by decide +kernel
theorem dksX0_chain_1 : cX0_chain.data.toList.drop 24 = dktX0_chain_1 := dk_seg dksX0_chain_0 24 rfl rfl
theorem dksX0_chain_2 : cX0_chain.data.toList.drop 48 = dktX0_chain_2 := dk_seg dksX0_chain_1 24 rfl rfl
theorem dksX0_chain_3 : cX0_chain.data.toList.drop 70 = dktX0_chain_3 := dk_seg dksX0_chain_2 22 rfl rfl
theorem dksX0_chain_4 : cX0_chain.data.toList.drop 92 = dktX0_chain_4 := dk_seg dksX0_chain_3 22 rfl rfl
theorem dX0_chain_0 : decode cX0_chain 0 = .ok (.aload_n 0, 1) := dk_42 (dk_at dksX0_chain_0 0 rfl rfl)
theorem dX0_chain_1 : decode cX0_chain 1 = .ok (.getfield 16, 3) := dk_180 0 16 (dk_at dksX0_chain_0 1 rfl rfl)
theorem dX0_chain_4 : decode cX0_chain 4 = .ok (.iload_n 1, 1) := dk_27 (dk_at dksX0_chain_0 4 rfl rfl)
theorem dX0_chain_5 : decode cX0_chain 5 = .ok (.invokevirtual 168, 3) := dk_182 0 168 (dk_at dksX0_chain_0 5 rfl rfl)
theorem dX0_chain_8 : decode cX0_chain 8 = .ok (.ifCond .eq 14, 3) := dk_153 0 14 (dk_at dksX0_chain_0 8 rfl rfl)
theorem dX0_chain_11 : decode cX0_chain 11 = .ok (.aload_n 0, 1) := dk_42 (dk_at dksX0_chain_0 11 rfl rfl)
theorem dX0_chain_12 : decode cX0_chain 12 = .ok (.getfield 16, 3) := dk_180 0 16 (dk_at dksX0_chain_0 12 rfl rfl)
theorem dX0_chain_15 : decode cX0_chain 15 = .ok (.iload_n 2, 1) := dk_28 (dk_at dksX0_chain_0 15 rfl rfl)
theorem dX0_chain_16 : decode cX0_chain 16 = .ok (.invokevirtual 168, 3) := dk_182 0 168 (dk_at dksX0_chain_0 16 rfl rfl)
theorem dX0_chain_19 : decode cX0_chain 19 = .ok (.ifCond .ne 5, 3) := dk_154 0 5 (dk_at dksX0_chain_0 19 rfl rfl)
theorem dX0_chain_22 : decode cX0_chain 22 = .ok (.iconst (-1), 1) := dk_2 (dk_at dksX0_chain_0 22 rfl rfl)
theorem dX0_chain_23 : decode cX0_chain 23 = .ok (.ireturn, 1) := dk_172 (dk_at dksX0_chain_0 23 rfl rfl)
theorem dX0_chain_24 : decode cX0_chain 24 = .ok (.iconst 1, 1) := dk_4 (dk_at dksX0_chain_1 0 rfl rfl)
theorem dX0_chain_25 : decode cX0_chain 25 = .ok (.iload_n 1, 1) := dk_27 (dk_at dksX0_chain_1 1 rfl rfl)
theorem dX0_chain_26 : decode cX0_chain 26 = .ok (.ishl, 1) := dk_120 (dk_at dksX0_chain_1 2 rfl rfl)
theorem dX0_chain_27 : decode cX0_chain 27 = .ok (.istore_n 3, 1) := dk_62 (dk_at dksX0_chain_1 3 rfl rfl)
theorem dX0_chain_28 : decode cX0_chain 28 = .ok (.iconst 0, 1) := dk_3 (dk_at dksX0_chain_1 4 rfl rfl)
theorem dX0_chain_29 : decode cX0_chain 29 = .ok (.istore 4, 2) := dk_54 4 (dk_at dksX0_chain_1 5 rfl rfl)
theorem dX0_chain_31 : decode cX0_chain 31 = .ok (.iload 4, 2) := dk_21 4 (dk_at dksX0_chain_1 7 rfl rfl)
theorem dX0_chain_33 : decode cX0_chain 33 = .ok (.bipush 16, 2) := dk_16 16 (dk_at dksX0_chain_1 9 rfl rfl)
theorem dX0_chain_35 : decode cX0_chain 35 = .ok (.if_icmp .ge 69, 3) := dk_162 0 69 (dk_at dksX0_chain_1 11 rfl rfl)
theorem dX0_chain_38 : decode cX0_chain 38 = .ok (.iload_n 3, 1) := dk_29 (dk_at dksX0_chain_1 14 rfl rfl)
theorem dX0_chain_39 : decode cX0_chain 39 = .ok (.iload_n 2, 1) := dk_28 (dk_at dksX0_chain_1 15 rfl rfl)
theorem dX0_chain_40 : decode cX0_chain 40 = .ok (.invokestatic 191, 3) := dk_184 0 191 (dk_at dksX0_chain_1 16 rfl rfl)
theorem dX0_chain_43 : decode cX0_chain 43 = .ok (.ifCond .eq 6, 3) := dk_153 0 6 (dk_at dksX0_chain_1 19 rfl rfl)
theorem dX0_chain_46 : decode cX0_chain 46 = .ok (.iload 4, 2) := dk_21 4 (dk_at dksX0_chain_1 22 rfl rfl)
theorem dX0_chain_48 : decode cX0_chain 48 = .ok (.ireturn, 1) := dk_172 (dk_at dksX0_chain_2 0 rfl rfl)
theorem dX0_chain_49 : decode cX0_chain 49 = .ok (.iload_n 3, 1) := dk_29 (dk_at dksX0_chain_2 1 rfl rfl)
theorem dX0_chain_50 : decode cX0_chain 50 = .ok (.istore 5, 2) := dk_54 5 (dk_at dksX0_chain_2 2 rfl rfl)
theorem dX0_chain_52 : decode cX0_chain 52 = .ok (.iconst 0, 1) := dk_3 (dk_at dksX0_chain_2 4 rfl rfl)
theorem dX0_chain_53 : decode cX0_chain 53 = .ok (.istore 6, 2) := dk_54 6 (dk_at dksX0_chain_2 5 rfl rfl)
theorem dX0_chain_55 : decode cX0_chain 55 = .ok (.iload 6, 2) := dk_21 6 (dk_at dksX0_chain_2 7 rfl rfl)
theorem dX0_chain_57 : decode cX0_chain 57 = .ok (.bipush 16, 2) := dk_16 16 (dk_at dksX0_chain_2 9 rfl rfl)
theorem dX0_chain_59 : decode cX0_chain 59 = .ok (.if_icmp .ge 36, 3) := dk_162 0 36 (dk_at dksX0_chain_2 11 rfl rfl)
theorem dX0_chain_62 : decode cX0_chain 62 = .ok (.iload 5, 2) := dk_21 5 (dk_at dksX0_chain_2 14 rfl rfl)
theorem dX0_chain_64 : decode cX0_chain 64 = .ok (.iload_n 3, 1) := dk_29 (dk_at dksX0_chain_2 16 rfl rfl)
theorem dX0_chain_65 : decode cX0_chain 65 = .ok (.iload 6, 2) := dk_21 6 (dk_at dksX0_chain_2 17 rfl rfl)
theorem dX0_chain_67 : decode cX0_chain 67 = .ok (.invokestatic 191, 3) := dk_184 0 191 (dk_at dksX0_chain_2 19 rfl rfl)
theorem dX0_chain_70 : decode cX0_chain 70 = .ok (.ifCond .eq 15, 3) := dk_153 0 15 (dk_at dksX0_chain_3 0 rfl rfl)
theorem dX0_chain_73 : decode cX0_chain 73 = .ok (.aload_n 0, 1) := dk_42 (dk_at dksX0_chain_3 3 rfl rfl)
theorem dX0_chain_74 : decode cX0_chain 74 = .ok (.getfield 16, 3) := dk_180 0 16 (dk_at dksX0_chain_3 4 rfl rfl)
theorem dX0_chain_77 : decode cX0_chain 77 = .ok (.iload 6, 2) := dk_21 6 (dk_at dksX0_chain_3 7 rfl rfl)
theorem dX0_chain_79 : decode cX0_chain 79 = .ok (.invokevirtual 200, 3) := dk_182 0 200 (dk_at dksX0_chain_3 9 rfl rfl)
theorem dX0_chain_82 : decode cX0_chain 82 = .ok (.goto 4, 3) := dk_167 0 4 (dk_at dksX0_chain_3 12 rfl rfl)
theorem dX0_chain_85 : decode cX0_chain 85 = .ok (.iconst 0, 1) := dk_3 (dk_at dksX0_chain_3 15 rfl rfl)
theorem dX0_chain_86 : decode cX0_chain 86 = .ok (.ior, 1) := dk_128 (dk_at dksX0_chain_3 16 rfl rfl)
theorem dX0_chain_87 : decode cX0_chain 87 = .ok (.istore 5, 2) := dk_54 5 (dk_at dksX0_chain_3 17 rfl rfl)
theorem dX0_chain_89 : decode cX0_chain 89 = .ok (.iinc 6 1, 3) := dk_132 6 1 (dk_at dksX0_chain_3 19 rfl rfl)
theorem dX0_chain_92 : decode cX0_chain 92 = .ok (.goto (-37), 3) := dk_167 255 219 (dk_at dksX0_chain_4 0 rfl rfl)
theorem dX0_chain_95 : decode cX0_chain 95 = .ok (.iload 5, 2) := dk_21 5 (dk_at dksX0_chain_4 3 rfl rfl)
theorem dX0_chain_97 : decode cX0_chain 97 = .ok (.istore_n 3, 1) := dk_62 (dk_at dksX0_chain_4 5 rfl rfl)
theorem dX0_chain_98 : decode cX0_chain 98 = .ok (.iinc 4 1, 3) := dk_132 4 1 (dk_at dksX0_chain_4 6 rfl rfl)
theorem dX0_chain_101 : decode cX0_chain 101 = .ok (.goto (-70), 3) := dk_167 255 186 (dk_at dksX0_chain_4 9 rfl rfl)
theorem dX0_chain_104 : decode cX0_chain 104 = .ok (.bipush (-2), 2) := dk_16 254 (dk_at dksX0_chain_4 12 rfl rfl)
theorem dX0_chain_106 : decode cX0_chain 106 = .ok (.ireturn, 1) := dk_172 (dk_at dksX0_chain_4 14 rfl rfl)
abbrev cX0_party : ByteArray := prog_1_method_27_code
def yX0_party : MethodName := ⟨RX0, "party", "(I)I"⟩
def dkwX0_party_3 : List UInt8 := [154, 0, 10, 28, 184, 0, 214, 167, 0, 4, 28, 172]
abbrev dktX0_party_3 : List UInt8 := dkwX0_party_3 ++ []
def dkwX0_party_2 : List UInt8 := [184, 0, 214, 164, 0, 13, 42, 29, 182, 0, 229, 153, 0, 5, 29, 61, 132, 3, 1, 167, 255, 207, 27]
abbrev dktX0_party_2 : List UInt8 := dkwX0_party_2 ++ dktX0_party_3
def dkwX0_party_1 : List UInt8 := [163, 0, 44, 29, 42, 180, 0, 16, 180, 0, 22, 2, 130, 126, 154, 0, 24, 29, 184, 0, 214, 28]
abbrev dktX0_party_1 : List UInt8 := dkwX0_party_1 ++ dktX0_party_2
def dkwX0_party_0 : List UInt8 := [27, 5, 184, 0, 144, 154, 0, 5, 2, 172, 3, 61, 4, 62, 29, 42, 180, 0, 16, 180, 0, 22]
abbrev dktX0_party_0 : List UInt8 := dkwX0_party_0 ++ dktX0_party_1
theorem dksX0_party_0 : cX0_party.data.toList.drop 0 = dktX0_party_0 := by decide +kernel
theorem dksX0_party_1 : cX0_party.data.toList.drop 22 = dktX0_party_1 := dk_seg dksX0_party_0 22 rfl rfl
theorem dksX0_party_2 : cX0_party.data.toList.drop 44 = dktX0_party_2 := dk_seg dksX0_party_1 22 rfl rfl
theorem dksX0_party_3 : cX0_party.data.toList.drop 67 = dktX0_party_3 := dk_seg dksX0_party_2 23 rfl rfl
theorem dX0_party_0 : decode cX0_party 0 = .ok (.iload_n 1, 1) := dk_27 (dk_at dksX0_party_0 0 rfl rfl)
theorem dX0_party_1 : decode cX0_party 1 = .ok (.iconst 2, 1) := dk_5 (dk_at dksX0_party_0 1 rfl rfl)
theorem dX0_party_2 : decode cX0_party 2 = .ok (.invokestatic 144, 3) := dk_184 0 144 (dk_at dksX0_party_0 2 rfl rfl)
theorem dX0_party_5 : decode cX0_party 5 = .ok (.ifCond .ne 5, 3) := dk_154 0 5 (dk_at dksX0_party_0 5 rfl rfl)
theorem dX0_party_8 : decode cX0_party 8 = .ok (.iconst (-1), 1) := dk_2 (dk_at dksX0_party_0 8 rfl rfl)
theorem dX0_party_9 : decode cX0_party 9 = .ok (.ireturn, 1) := dk_172 (dk_at dksX0_party_0 9 rfl rfl)
theorem dX0_party_10 : decode cX0_party 10 = .ok (.iconst 0, 1) := dk_3 (dk_at dksX0_party_0 10 rfl rfl)
theorem dX0_party_11 : decode cX0_party 11 = .ok (.istore_n 2, 1) := dk_61 (dk_at dksX0_party_0 11 rfl rfl)
theorem dX0_party_12 : decode cX0_party 12 = .ok (.iconst 1, 1) := dk_4 (dk_at dksX0_party_0 12 rfl rfl)
theorem dX0_party_13 : decode cX0_party 13 = .ok (.istore_n 3, 1) := dk_62 (dk_at dksX0_party_0 13 rfl rfl)
theorem dX0_party_14 : decode cX0_party 14 = .ok (.iload_n 3, 1) := dk_29 (dk_at dksX0_party_0 14 rfl rfl)
theorem dX0_party_15 : decode cX0_party 15 = .ok (.aload_n 0, 1) := dk_42 (dk_at dksX0_party_0 15 rfl rfl)
theorem dX0_party_16 : decode cX0_party 16 = .ok (.getfield 16, 3) := dk_180 0 16 (dk_at dksX0_party_0 16 rfl rfl)
theorem dX0_party_19 : decode cX0_party 19 = .ok (.getfield 22, 3) := dk_180 0 22 (dk_at dksX0_party_0 19 rfl rfl)
theorem dX0_party_22 : decode cX0_party 22 = .ok (.if_icmp .gt 44, 3) := dk_163 0 44 (dk_at dksX0_party_1 0 rfl rfl)
theorem dX0_party_25 : decode cX0_party 25 = .ok (.iload_n 3, 1) := dk_29 (dk_at dksX0_party_1 3 rfl rfl)
theorem dX0_party_26 : decode cX0_party 26 = .ok (.aload_n 0, 1) := dk_42 (dk_at dksX0_party_1 4 rfl rfl)
theorem dX0_party_27 : decode cX0_party 27 = .ok (.getfield 16, 3) := dk_180 0 16 (dk_at dksX0_party_1 5 rfl rfl)
theorem dX0_party_30 : decode cX0_party 30 = .ok (.getfield 22, 3) := dk_180 0 22 (dk_at dksX0_party_1 8 rfl rfl)
theorem dX0_party_33 : decode cX0_party 33 = .ok (.iconst (-1), 1) := dk_2 (dk_at dksX0_party_1 11 rfl rfl)
theorem dX0_party_34 : decode cX0_party 34 = .ok (.ixor, 1) := dk_130 (dk_at dksX0_party_1 12 rfl rfl)
theorem dX0_party_35 : decode cX0_party 35 = .ok (.iand, 1) := dk_126 (dk_at dksX0_party_1 13 rfl rfl)
theorem dX0_party_36 : decode cX0_party 36 = .ok (.ifCond .ne 24, 3) := dk_154 0 24 (dk_at dksX0_party_1 14 rfl rfl)
theorem dX0_party_39 : decode cX0_party 39 = .ok (.iload_n 3, 1) := dk_29 (dk_at dksX0_party_1 17 rfl rfl)
theorem dX0_party_40 : decode cX0_party 40 = .ok (.invokestatic 214, 3) := dk_184 0 214 (dk_at dksX0_party_1 18 rfl rfl)
theorem dX0_party_43 : decode cX0_party 43 = .ok (.iload_n 2, 1) := dk_28 (dk_at dksX0_party_1 21 rfl rfl)
theorem dX0_party_44 : decode cX0_party 44 = .ok (.invokestatic 214, 3) := dk_184 0 214 (dk_at dksX0_party_2 0 rfl rfl)
theorem dX0_party_47 : decode cX0_party 47 = .ok (.if_icmp .le 13, 3) := dk_164 0 13 (dk_at dksX0_party_2 3 rfl rfl)
theorem dX0_party_50 : decode cX0_party 50 = .ok (.aload_n 0, 1) := dk_42 (dk_at dksX0_party_2 6 rfl rfl)
theorem dX0_party_51 : decode cX0_party 51 = .ok (.iload_n 3, 1) := dk_29 (dk_at dksX0_party_2 7 rfl rfl)
theorem dX0_party_52 : decode cX0_party 52 = .ok (.invokevirtual 229, 3) := dk_182 0 229 (dk_at dksX0_party_2 8 rfl rfl)
theorem dX0_party_55 : decode cX0_party 55 = .ok (.ifCond .eq 5, 3) := dk_153 0 5 (dk_at dksX0_party_2 11 rfl rfl)
theorem dX0_party_58 : decode cX0_party 58 = .ok (.iload_n 3, 1) := dk_29 (dk_at dksX0_party_2 14 rfl rfl)
theorem dX0_party_59 : decode cX0_party 59 = .ok (.istore_n 2, 1) := dk_61 (dk_at dksX0_party_2 15 rfl rfl)
theorem dX0_party_60 : decode cX0_party 60 = .ok (.iinc 3 1, 3) := dk_132 3 1 (dk_at dksX0_party_2 16 rfl rfl)
theorem dX0_party_63 : decode cX0_party 63 = .ok (.goto (-49), 3) := dk_167 255 207 (dk_at dksX0_party_2 19 rfl rfl)
theorem dX0_party_66 : decode cX0_party 66 = .ok (.iload_n 1, 1) := dk_27 (dk_at dksX0_party_2 22 rfl rfl)
theorem dX0_party_67 : decode cX0_party 67 = .ok (.ifCond .ne 10, 3) := dk_154 0 10 (dk_at dksX0_party_3 0 rfl rfl)
theorem dX0_party_70 : decode cX0_party 70 = .ok (.iload_n 2, 1) := dk_28 (dk_at dksX0_party_3 3 rfl rfl)
theorem dX0_party_71 : decode cX0_party 71 = .ok (.invokestatic 214, 3) := dk_184 0 214 (dk_at dksX0_party_3 4 rfl rfl)
theorem dX0_party_74 : decode cX0_party 74 = .ok (.goto 4, 3) := dk_167 0 4 (dk_at dksX0_party_3 7 rfl rfl)
theorem dX0_party_77 : decode cX0_party 77 = .ok (.iload_n 2, 1) := dk_28 (dk_at dksX0_party_3 10 rfl rfl)
theorem dX0_party_78 : decode cX0_party 78 = .ok (.ireturn, 1) := dk_172 (dk_at dksX0_party_3 11 rfl rfl)
abbrev cX0_isParty : ByteArray := prog_1_method_26_code
def yX0_isParty : MethodName := ⟨RX0, "isParty", "(I)Z"⟩
def dkwX0_isParty_1 : List UInt8 := [46, 27, 126, 153, 0, 5, 3, 172, 132, 2, 1, 167, 255, 223, 4, 172]
abbrev dktX0_isParty_1 : List UInt8 := dkwX0_isParty_1 ++ []
def dkwX0_isParty_0 : List UInt8 := [3, 61, 28, 16, 16, 162, 0, 33, 27, 28, 184, 0, 191, 153, 0, 19, 42, 180, 0, 16, 180, 0, 194, 28]
abbrev dktX0_isParty_0 : List UInt8 := dkwX0_isParty_0 ++ dktX0_isParty_1
theorem dksX0_isParty_0 : cX0_isParty.data.toList.drop 0 = dktX0_isParty_0 := by decide +kernel
theorem dksX0_isParty_1 : cX0_isParty.data.toList.drop 24 = dktX0_isParty_1 := dk_seg dksX0_isParty_0 24 rfl rfl
theorem dX0_isParty_0 : decode cX0_isParty 0 = .ok (.iconst 0, 1) := dk_3 (dk_at dksX0_isParty_0 0 rfl rfl)
theorem dX0_isParty_1 : decode cX0_isParty 1 = .ok (.istore_n 2, 1) := dk_61 (dk_at dksX0_isParty_0 1 rfl rfl)
theorem dX0_isParty_2 : decode cX0_isParty 2 = .ok (.iload_n 2, 1) := dk_28 (dk_at dksX0_isParty_0 2 rfl rfl)
theorem dX0_isParty_3 : decode cX0_isParty 3 = .ok (.bipush 16, 2) := dk_16 16 (dk_at dksX0_isParty_0 3 rfl rfl)
theorem dX0_isParty_5 : decode cX0_isParty 5 = .ok (.if_icmp .ge 33, 3) := dk_162 0 33 (dk_at dksX0_isParty_0 5 rfl rfl)
theorem dX0_isParty_8 : decode cX0_isParty 8 = .ok (.iload_n 1, 1) := dk_27 (dk_at dksX0_isParty_0 8 rfl rfl)
theorem dX0_isParty_9 : decode cX0_isParty 9 = .ok (.iload_n 2, 1) := dk_28 (dk_at dksX0_isParty_0 9 rfl rfl)
theorem dX0_isParty_10 : decode cX0_isParty 10 = .ok (.invokestatic 191, 3) := dk_184 0 191 (dk_at dksX0_isParty_0 10 rfl rfl)
theorem dX0_isParty_13 : decode cX0_isParty 13 = .ok (.ifCond .eq 19, 3) := dk_153 0 19 (dk_at dksX0_isParty_0 13 rfl rfl)
theorem dX0_isParty_16 : decode cX0_isParty 16 = .ok (.aload_n 0, 1) := dk_42 (dk_at dksX0_isParty_0 16 rfl rfl)
theorem dX0_isParty_17 : decode cX0_isParty 17 = .ok (.getfield 16, 3) := dk_180 0 16 (dk_at dksX0_isParty_0 17 rfl rfl)
theorem dX0_isParty_20 : decode cX0_isParty 20 = .ok (.getfield 194, 3) := dk_180 0 194 (dk_at dksX0_isParty_0 20 rfl rfl)
theorem dX0_isParty_23 : decode cX0_isParty 23 = .ok (.iload_n 2, 1) := dk_28 (dk_at dksX0_isParty_0 23 rfl rfl)
theorem dX0_isParty_24 : decode cX0_isParty 24 = .ok (.iaload, 1) := dk_46 (dk_at dksX0_isParty_1 0 rfl rfl)
theorem dX0_isParty_25 : decode cX0_isParty 25 = .ok (.iload_n 1, 1) := dk_27 (dk_at dksX0_isParty_1 1 rfl rfl)
theorem dX0_isParty_26 : decode cX0_isParty 26 = .ok (.iand, 1) := dk_126 (dk_at dksX0_isParty_1 2 rfl rfl)
theorem dX0_isParty_27 : decode cX0_isParty 27 = .ok (.ifCond .eq 5, 3) := dk_153 0 5 (dk_at dksX0_isParty_1 3 rfl rfl)
theorem dX0_isParty_30 : decode cX0_isParty 30 = .ok (.iconst 0, 1) := dk_3 (dk_at dksX0_isParty_1 6 rfl rfl)
theorem dX0_isParty_31 : decode cX0_isParty 31 = .ok (.ireturn, 1) := dk_172 (dk_at dksX0_isParty_1 7 rfl rfl)
theorem dX0_isParty_32 : decode cX0_isParty 32 = .ok (.iinc 2 1, 3) := dk_132 2 1 (dk_at dksX0_isParty_1 8 rfl rfl)
theorem dX0_isParty_35 : decode cX0_isParty 35 = .ok (.goto (-33), 3) := dk_167 255 223 (dk_at dksX0_isParty_1 11 rfl rfl)
theorem dX0_isParty_38 : decode cX0_isParty 38 = .ok (.iconst 1, 1) := dk_4 (dk_at dksX0_isParty_1 14 rfl rfl)
theorem dX0_isParty_39 : decode cX0_isParty 39 = .ok (.ireturn, 1) := dk_172 (dk_at dksX0_isParty_1 15 rfl rfl)
abbrev cX0_parties : ByteArray := prog_1_method_29_code
def yX0_parties : MethodName := ⟨RX0, "parties", "(I)I"⟩
def dkwX0_parties_2 : List UInt8 := [180, 0, 83, 27, 46, 172]
abbrev dktX0_parties_2 : List UInt8 := dkwX0_parties_2 ++ []
def dkwX0_parties_1 : List UInt8 := [28, 182, 0, 232, 154, 0, 9, 132, 2, 1, 167, 255, 243, 27, 16, 100, 160, 0, 7, 28, 167, 0, 9, 42]
abbrev dktX0_parties_1 : List UInt8 := dkwX0_parties_1 ++ dktX0_parties_2
def dkwX0_parties_0 : List UInt8 := [27, 16, 100, 159, 0, 16, 42, 180, 0, 16, 27, 182, 0, 168, 154, 0, 5, 2, 172, 3, 61, 42, 3, 3]
abbrev dktX0_parties_0 : List UInt8 := dkwX0_parties_0 ++ dktX0_parties_1
theorem dksX0_parties_0 : cX0_parties.data.toList.drop 0 = dktX0_parties_0 := by decide +kernel
theorem dksX0_parties_1 : cX0_parties.data.toList.drop 24 = dktX0_parties_1 := dk_seg dksX0_parties_0 24 rfl rfl
theorem dksX0_parties_2 : cX0_parties.data.toList.drop 48 = dktX0_parties_2 := dk_seg dksX0_parties_1 24 rfl rfl
theorem dX0_parties_0 : decode cX0_parties 0 = .ok (.iload_n 1, 1) := dk_27 (dk_at dksX0_parties_0 0 rfl rfl)
theorem dX0_parties_1 : decode cX0_parties 1 = .ok (.bipush 100, 2) := dk_16 100 (dk_at dksX0_parties_0 1 rfl rfl)
theorem dX0_parties_3 : decode cX0_parties 3 = .ok (.if_icmp .eq 16, 3) := dk_159 0 16 (dk_at dksX0_parties_0 3 rfl rfl)
theorem dX0_parties_6 : decode cX0_parties 6 = .ok (.aload_n 0, 1) := dk_42 (dk_at dksX0_parties_0 6 rfl rfl)
theorem dX0_parties_7 : decode cX0_parties 7 = .ok (.getfield 16, 3) := dk_180 0 16 (dk_at dksX0_parties_0 7 rfl rfl)
theorem dX0_parties_10 : decode cX0_parties 10 = .ok (.iload_n 1, 1) := dk_27 (dk_at dksX0_parties_0 10 rfl rfl)
theorem dX0_parties_11 : decode cX0_parties 11 = .ok (.invokevirtual 168, 3) := dk_182 0 168 (dk_at dksX0_parties_0 11 rfl rfl)
theorem dX0_parties_14 : decode cX0_parties 14 = .ok (.ifCond .ne 5, 3) := dk_154 0 5 (dk_at dksX0_parties_0 14 rfl rfl)
theorem dX0_parties_17 : decode cX0_parties 17 = .ok (.iconst (-1), 1) := dk_2 (dk_at dksX0_parties_0 17 rfl rfl)
theorem dX0_parties_18 : decode cX0_parties 18 = .ok (.ireturn, 1) := dk_172 (dk_at dksX0_parties_0 18 rfl rfl)
theorem dX0_parties_19 : decode cX0_parties 19 = .ok (.iconst 0, 1) := dk_3 (dk_at dksX0_parties_0 19 rfl rfl)
theorem dX0_parties_20 : decode cX0_parties 20 = .ok (.istore_n 2, 1) := dk_61 (dk_at dksX0_parties_0 20 rfl rfl)
theorem dX0_parties_21 : decode cX0_parties 21 = .ok (.aload_n 0, 1) := dk_42 (dk_at dksX0_parties_0 21 rfl rfl)
theorem dX0_parties_22 : decode cX0_parties 22 = .ok (.iconst 0, 1) := dk_3 (dk_at dksX0_parties_0 22 rfl rfl)
theorem dX0_parties_23 : decode cX0_parties 23 = .ok (.iconst 0, 1) := dk_3 (dk_at dksX0_parties_0 23 rfl rfl)
theorem dX0_parties_24 : decode cX0_parties 24 = .ok (.iload_n 2, 1) := dk_28 (dk_at dksX0_parties_1 0 rfl rfl)
theorem dX0_parties_25 : decode cX0_parties 25 = .ok (.invokevirtual 232, 3) := dk_182 0 232 (dk_at dksX0_parties_1 1 rfl rfl)
theorem dX0_parties_28 : decode cX0_parties 28 = .ok (.ifCond .ne 9, 3) := dk_154 0 9 (dk_at dksX0_parties_1 4 rfl rfl)
theorem dX0_parties_31 : decode cX0_parties 31 = .ok (.iinc 2 1, 3) := dk_132 2 1 (dk_at dksX0_parties_1 7 rfl rfl)
theorem dX0_parties_34 : decode cX0_parties 34 = .ok (.goto (-13), 3) := dk_167 255 243 (dk_at dksX0_parties_1 10 rfl rfl)
theorem dX0_parties_37 : decode cX0_parties 37 = .ok (.iload_n 1, 1) := dk_27 (dk_at dksX0_parties_1 13 rfl rfl)
theorem dX0_parties_38 : decode cX0_parties 38 = .ok (.bipush 100, 2) := dk_16 100 (dk_at dksX0_parties_1 14 rfl rfl)
theorem dX0_parties_40 : decode cX0_parties 40 = .ok (.if_icmp .ne 7, 3) := dk_160 0 7 (dk_at dksX0_parties_1 16 rfl rfl)
theorem dX0_parties_43 : decode cX0_parties 43 = .ok (.iload_n 2, 1) := dk_28 (dk_at dksX0_parties_1 19 rfl rfl)
theorem dX0_parties_44 : decode cX0_parties 44 = .ok (.goto 9, 3) := dk_167 0 9 (dk_at dksX0_parties_1 20 rfl rfl)
theorem dX0_parties_47 : decode cX0_parties 47 = .ok (.aload_n 0, 1) := dk_42 (dk_at dksX0_parties_1 23 rfl rfl)
theorem dX0_parties_48 : decode cX0_parties 48 = .ok (.getfield 83, 3) := dk_180 0 83 (dk_at dksX0_parties_2 0 rfl rfl)
theorem dX0_parties_51 : decode cX0_parties 51 = .ok (.iload_n 1, 1) := dk_27 (dk_at dksX0_parties_2 3 rfl rfl)
theorem dX0_parties_52 : decode cX0_parties 52 = .ok (.iaload, 1) := dk_46 (dk_at dksX0_parties_2 4 rfl rfl)
theorem dX0_parties_53 : decode cX0_parties 53 = .ok (.ireturn, 1) := dk_172 (dk_at dksX0_parties_2 5 rfl rfl)
abbrev cX0_canParty : ByteArray := prog_1_method_28_code
def yX0_canParty : MethodName := ⟨RX0, "canParty", "(III)Z"⟩
def dkwX0_canParty_6 : List UInt8 := [29, 182, 0, 232, 153, 0, 5, 4, 172, 132, 4, 1, 167, 255, 136, 3, 172]
abbrev dktX0_canParty_6 : List UInt8 := dkwX0_canParty_6 ++ []
def dkwX0_canParty_5 : List UInt8 := [180, 0, 83, 27, 21, 4, 79, 21, 5, 153, 0, 24, 42, 27, 4, 96, 28, 21, 4, 4, 96, 184, 0, 7]
abbrev dktX0_canParty_5 : List UInt8 := dkwX0_canParty_5 ++ dktX0_canParty_6
def dkwX0_canParty_4 : List UInt8 := [21, 6, 184, 0, 191, 154, 0, 7, 4, 167, 0, 4, 3, 54, 5, 132, 6, 1, 167, 255, 194, 42]
abbrev dktX0_canParty_4 : List UInt8 := dkwX0_canParty_4 ++ dktX0_canParty_5
def dkwX0_canParty_3 : List UInt8 := [153, 0, 32, 42, 180, 0, 83, 21, 6, 46, 21, 4, 160, 0, 20, 42, 180, 0, 16, 180, 0, 194, 27, 46]
abbrev dktX0_canParty_3 : List UInt8 := dkwX0_canParty_3 ++ dktX0_canParty_4
def dkwX0_canParty_2 : List UInt8 := [54, 6, 21, 6, 27, 162, 0, 62, 21, 5, 153, 0, 48, 42, 180, 0, 16, 21, 6, 182, 0, 168]
abbrev dktX0_canParty_2 : List UInt8 := dkwX0_canParty_2 ++ dktX0_canParty_3
def dkwX0_canParty_1 : List UInt8 := [29, 182, 0, 232, 172, 3, 54, 4, 21, 4, 29, 162, 0, 120, 21, 4, 28, 163, 0, 114, 4, 54, 5, 3]
abbrev dktX0_canParty_1 : List UInt8 := dkwX0_canParty_1 ++ dktX0_canParty_2
def dkwX0_canParty_0 : List UInt8 := [27, 16, 16, 160, 0, 5, 4, 172, 42, 180, 0, 16, 27, 182, 0, 168, 154, 0, 13, 42, 27, 4, 96, 28]
abbrev dktX0_canParty_0 : List UInt8 := dkwX0_canParty_0 ++ dktX0_canParty_1
theorem dksX0_canParty_0 : cX0_canParty.data.toList.drop 0 = dktX0_canParty_0 := by decide +kernel
theorem dksX0_canParty_1 : cX0_canParty.data.toList.drop 24 = dktX0_canParty_1 := dk_seg dksX0_canParty_0 24 rfl rfl
theorem dksX0_canParty_2 : cX0_canParty.data.toList.drop 48 = dktX0_canParty_2 := dk_seg dksX0_canParty_1 24 rfl rfl
theorem dksX0_canParty_3 : cX0_canParty.data.toList.drop 70 = dktX0_canParty_3 := dk_seg dksX0_canParty_2 22 rfl rfl
theorem dksX0_canParty_4 : cX0_canParty.data.toList.drop 94 = dktX0_canParty_4 := dk_seg dksX0_canParty_3 24 rfl rfl
theorem dksX0_canParty_5 : cX0_canParty.data.toList.drop 116 = dktX0_canParty_5 := dk_seg dksX0_canParty_4 22 rfl rfl
theorem dksX0_canParty_6 : cX0_canParty.data.toList.drop 140 = dktX0_canParty_6 := dk_seg dksX0_canParty_5 24 rfl rfl
theorem dX0_canParty_0 : decode cX0_canParty 0 = .ok (.iload_n 1, 1) := dk_27 (dk_at dksX0_canParty_0 0 rfl rfl)
theorem dX0_canParty_1 : decode cX0_canParty 1 = .ok (.bipush 16, 2) := dk_16 16 (dk_at dksX0_canParty_0 1 rfl rfl)
theorem dX0_canParty_3 : decode cX0_canParty 3 = .ok (.if_icmp .ne 5, 3) := dk_160 0 5 (dk_at dksX0_canParty_0 3 rfl rfl)
theorem dX0_canParty_6 : decode cX0_canParty 6 = .ok (.iconst 1, 1) := dk_4 (dk_at dksX0_canParty_0 6 rfl rfl)
theorem dX0_canParty_7 : decode cX0_canParty 7 = .ok (.ireturn, 1) := dk_172 (dk_at dksX0_canParty_0 7 rfl rfl)
theorem dX0_canParty_8 : decode cX0_canParty 8 = .ok (.aload_n 0, 1) := dk_42 (dk_at dksX0_canParty_0 8 rfl rfl)
theorem dX0_canParty_9 : decode cX0_canParty 9 = .ok (.getfield 16, 3) := dk_180 0 16 (dk_at dksX0_canParty_0 9 rfl rfl)
theorem dX0_canParty_12 : decode cX0_canParty 12 = .ok (.iload_n 1, 1) := dk_27 (dk_at dksX0_canParty_0 12 rfl rfl)
theorem dX0_canParty_13 : decode cX0_canParty 13 = .ok (.invokevirtual 168, 3) := dk_182 0 168 (dk_at dksX0_canParty_0 13 rfl rfl)
theorem dX0_canParty_16 : decode cX0_canParty 16 = .ok (.ifCond .ne 13, 3) := dk_154 0 13 (dk_at dksX0_canParty_0 16 rfl rfl)
theorem dX0_canParty_19 : decode cX0_canParty 19 = .ok (.aload_n 0, 1) := dk_42 (dk_at dksX0_canParty_0 19 rfl rfl)
theorem dX0_canParty_20 : decode cX0_canParty 20 = .ok (.iload_n 1, 1) := dk_27 (dk_at dksX0_canParty_0 20 rfl rfl)
theorem dX0_canParty_21 : decode cX0_canParty 21 = .ok (.iconst 1, 1) := dk_4 (dk_at dksX0_canParty_0 21 rfl rfl)
theorem dX0_canParty_22 : decode cX0_canParty 22 = .ok (.iadd, 1) := dk_96 (dk_at dksX0_canParty_0 22 rfl rfl)
theorem dX0_canParty_23 : decode cX0_canParty 23 = .ok (.iload_n 2, 1) := dk_28 (dk_at dksX0_canParty_0 23 rfl rfl)
theorem dX0_canParty_24 : decode cX0_canParty 24 = .ok (.iload_n 3, 1) := dk_29 (dk_at dksX0_canParty_1 0 rfl rfl)
theorem dX0_canParty_25 : decode cX0_canParty 25 = .ok (.invokevirtual 232, 3) := dk_182 0 232 (dk_at dksX0_canParty_1 1 rfl rfl)
theorem dX0_canParty_28 : decode cX0_canParty 28 = .ok (.ireturn, 1) := dk_172 (dk_at dksX0_canParty_1 4 rfl rfl)
theorem dX0_canParty_29 : decode cX0_canParty 29 = .ok (.iconst 0, 1) := dk_3 (dk_at dksX0_canParty_1 5 rfl rfl)
theorem dX0_canParty_30 : decode cX0_canParty 30 = .ok (.istore 4, 2) := dk_54 4 (dk_at dksX0_canParty_1 6 rfl rfl)
theorem dX0_canParty_32 : decode cX0_canParty 32 = .ok (.iload 4, 2) := dk_21 4 (dk_at dksX0_canParty_1 8 rfl rfl)
theorem dX0_canParty_34 : decode cX0_canParty 34 = .ok (.iload_n 3, 1) := dk_29 (dk_at dksX0_canParty_1 10 rfl rfl)
theorem dX0_canParty_35 : decode cX0_canParty 35 = .ok (.if_icmp .ge 120, 3) := dk_162 0 120 (dk_at dksX0_canParty_1 11 rfl rfl)
theorem dX0_canParty_38 : decode cX0_canParty 38 = .ok (.iload 4, 2) := dk_21 4 (dk_at dksX0_canParty_1 14 rfl rfl)
theorem dX0_canParty_40 : decode cX0_canParty 40 = .ok (.iload_n 2, 1) := dk_28 (dk_at dksX0_canParty_1 16 rfl rfl)
theorem dX0_canParty_41 : decode cX0_canParty 41 = .ok (.if_icmp .gt 114, 3) := dk_163 0 114 (dk_at dksX0_canParty_1 17 rfl rfl)
theorem dX0_canParty_44 : decode cX0_canParty 44 = .ok (.iconst 1, 1) := dk_4 (dk_at dksX0_canParty_1 20 rfl rfl)
theorem dX0_canParty_45 : decode cX0_canParty 45 = .ok (.istore 5, 2) := dk_54 5 (dk_at dksX0_canParty_1 21 rfl rfl)
theorem dX0_canParty_47 : decode cX0_canParty 47 = .ok (.iconst 0, 1) := dk_3 (dk_at dksX0_canParty_1 23 rfl rfl)
theorem dX0_canParty_48 : decode cX0_canParty 48 = .ok (.istore 6, 2) := dk_54 6 (dk_at dksX0_canParty_2 0 rfl rfl)
theorem dX0_canParty_50 : decode cX0_canParty 50 = .ok (.iload 6, 2) := dk_21 6 (dk_at dksX0_canParty_2 2 rfl rfl)
theorem dX0_canParty_52 : decode cX0_canParty 52 = .ok (.iload_n 1, 1) := dk_27 (dk_at dksX0_canParty_2 4 rfl rfl)
theorem dX0_canParty_53 : decode cX0_canParty 53 = .ok (.if_icmp .ge 62, 3) := dk_162 0 62 (dk_at dksX0_canParty_2 5 rfl rfl)
theorem dX0_canParty_56 : decode cX0_canParty 56 = .ok (.iload 5, 2) := dk_21 5 (dk_at dksX0_canParty_2 8 rfl rfl)
theorem dX0_canParty_58 : decode cX0_canParty 58 = .ok (.ifCond .eq 48, 3) := dk_153 0 48 (dk_at dksX0_canParty_2 10 rfl rfl)
theorem dX0_canParty_61 : decode cX0_canParty 61 = .ok (.aload_n 0, 1) := dk_42 (dk_at dksX0_canParty_2 13 rfl rfl)
theorem dX0_canParty_62 : decode cX0_canParty 62 = .ok (.getfield 16, 3) := dk_180 0 16 (dk_at dksX0_canParty_2 14 rfl rfl)
theorem dX0_canParty_65 : decode cX0_canParty 65 = .ok (.iload 6, 2) := dk_21 6 (dk_at dksX0_canParty_2 17 rfl rfl)
theorem dX0_canParty_67 : decode cX0_canParty 67 = .ok (.invokevirtual 168, 3) := dk_182 0 168 (dk_at dksX0_canParty_2 19 rfl rfl)
theorem dX0_canParty_70 : decode cX0_canParty 70 = .ok (.ifCond .eq 32, 3) := dk_153 0 32 (dk_at dksX0_canParty_3 0 rfl rfl)
theorem dX0_canParty_73 : decode cX0_canParty 73 = .ok (.aload_n 0, 1) := dk_42 (dk_at dksX0_canParty_3 3 rfl rfl)
theorem dX0_canParty_74 : decode cX0_canParty 74 = .ok (.getfield 83, 3) := dk_180 0 83 (dk_at dksX0_canParty_3 4 rfl rfl)
theorem dX0_canParty_77 : decode cX0_canParty 77 = .ok (.iload 6, 2) := dk_21 6 (dk_at dksX0_canParty_3 7 rfl rfl)
theorem dX0_canParty_79 : decode cX0_canParty 79 = .ok (.iaload, 1) := dk_46 (dk_at dksX0_canParty_3 9 rfl rfl)
theorem dX0_canParty_80 : decode cX0_canParty 80 = .ok (.iload 4, 2) := dk_21 4 (dk_at dksX0_canParty_3 10 rfl rfl)
theorem dX0_canParty_82 : decode cX0_canParty 82 = .ok (.if_icmp .ne 20, 3) := dk_160 0 20 (dk_at dksX0_canParty_3 12 rfl rfl)
theorem dX0_canParty_85 : decode cX0_canParty 85 = .ok (.aload_n 0, 1) := dk_42 (dk_at dksX0_canParty_3 15 rfl rfl)
theorem dX0_canParty_86 : decode cX0_canParty 86 = .ok (.getfield 16, 3) := dk_180 0 16 (dk_at dksX0_canParty_3 16 rfl rfl)
theorem dX0_canParty_89 : decode cX0_canParty 89 = .ok (.getfield 194, 3) := dk_180 0 194 (dk_at dksX0_canParty_3 19 rfl rfl)
theorem dX0_canParty_92 : decode cX0_canParty 92 = .ok (.iload_n 1, 1) := dk_27 (dk_at dksX0_canParty_3 22 rfl rfl)
theorem dX0_canParty_93 : decode cX0_canParty 93 = .ok (.iaload, 1) := dk_46 (dk_at dksX0_canParty_3 23 rfl rfl)
theorem dX0_canParty_94 : decode cX0_canParty 94 = .ok (.iload 6, 2) := dk_21 6 (dk_at dksX0_canParty_4 0 rfl rfl)
theorem dX0_canParty_96 : decode cX0_canParty 96 = .ok (.invokestatic 191, 3) := dk_184 0 191 (dk_at dksX0_canParty_4 2 rfl rfl)
theorem dX0_canParty_99 : decode cX0_canParty 99 = .ok (.ifCond .ne 7, 3) := dk_154 0 7 (dk_at dksX0_canParty_4 5 rfl rfl)
theorem dX0_canParty_102 : decode cX0_canParty 102 = .ok (.iconst 1, 1) := dk_4 (dk_at dksX0_canParty_4 8 rfl rfl)
theorem dX0_canParty_103 : decode cX0_canParty 103 = .ok (.goto 4, 3) := dk_167 0 4 (dk_at dksX0_canParty_4 9 rfl rfl)
theorem dX0_canParty_106 : decode cX0_canParty 106 = .ok (.iconst 0, 1) := dk_3 (dk_at dksX0_canParty_4 12 rfl rfl)
theorem dX0_canParty_107 : decode cX0_canParty 107 = .ok (.istore 5, 2) := dk_54 5 (dk_at dksX0_canParty_4 13 rfl rfl)
theorem dX0_canParty_109 : decode cX0_canParty 109 = .ok (.iinc 6 1, 3) := dk_132 6 1 (dk_at dksX0_canParty_4 15 rfl rfl)
theorem dX0_canParty_112 : decode cX0_canParty 112 = .ok (.goto (-62), 3) := dk_167 255 194 (dk_at dksX0_canParty_4 18 rfl rfl)
theorem dX0_canParty_115 : decode cX0_canParty 115 = .ok (.aload_n 0, 1) := dk_42 (dk_at dksX0_canParty_4 21 rfl rfl)
theorem dX0_canParty_116 : decode cX0_canParty 116 = .ok (.getfield 83, 3) := dk_180 0 83 (dk_at dksX0_canParty_5 0 rfl rfl)
theorem dX0_canParty_119 : decode cX0_canParty 119 = .ok (.iload_n 1, 1) := dk_27 (dk_at dksX0_canParty_5 3 rfl rfl)
theorem dX0_canParty_120 : decode cX0_canParty 120 = .ok (.iload 4, 2) := dk_21 4 (dk_at dksX0_canParty_5 4 rfl rfl)
theorem dX0_canParty_122 : decode cX0_canParty 122 = .ok (.iastore, 1) := dk_79 (dk_at dksX0_canParty_5 6 rfl rfl)
theorem dX0_canParty_123 : decode cX0_canParty 123 = .ok (.iload 5, 2) := dk_21 5 (dk_at dksX0_canParty_5 7 rfl rfl)
theorem dX0_canParty_125 : decode cX0_canParty 125 = .ok (.ifCond .eq 24, 3) := dk_153 0 24 (dk_at dksX0_canParty_5 9 rfl rfl)
theorem dX0_canParty_128 : decode cX0_canParty 128 = .ok (.aload_n 0, 1) := dk_42 (dk_at dksX0_canParty_5 12 rfl rfl)
theorem dX0_canParty_129 : decode cX0_canParty 129 = .ok (.iload_n 1, 1) := dk_27 (dk_at dksX0_canParty_5 13 rfl rfl)
theorem dX0_canParty_130 : decode cX0_canParty 130 = .ok (.iconst 1, 1) := dk_4 (dk_at dksX0_canParty_5 14 rfl rfl)
theorem dX0_canParty_131 : decode cX0_canParty 131 = .ok (.iadd, 1) := dk_96 (dk_at dksX0_canParty_5 15 rfl rfl)
theorem dX0_canParty_132 : decode cX0_canParty 132 = .ok (.iload_n 2, 1) := dk_28 (dk_at dksX0_canParty_5 16 rfl rfl)
theorem dX0_canParty_133 : decode cX0_canParty 133 = .ok (.iload 4, 2) := dk_21 4 (dk_at dksX0_canParty_5 17 rfl rfl)
theorem dX0_canParty_135 : decode cX0_canParty 135 = .ok (.iconst 1, 1) := dk_4 (dk_at dksX0_canParty_5 19 rfl rfl)
theorem dX0_canParty_136 : decode cX0_canParty 136 = .ok (.iadd, 1) := dk_96 (dk_at dksX0_canParty_5 20 rfl rfl)
theorem dX0_canParty_137 : decode cX0_canParty 137 = .ok (.invokestatic 7, 3) := dk_184 0 7 (dk_at dksX0_canParty_5 21 rfl rfl)
theorem dX0_canParty_140 : decode cX0_canParty 140 = .ok (.iload_n 3, 1) := dk_29 (dk_at dksX0_canParty_6 0 rfl rfl)
theorem dX0_canParty_141 : decode cX0_canParty 141 = .ok (.invokevirtual 232, 3) := dk_182 0 232 (dk_at dksX0_canParty_6 1 rfl rfl)
theorem dX0_canParty_144 : decode cX0_canParty 144 = .ok (.ifCond .eq 5, 3) := dk_153 0 5 (dk_at dksX0_canParty_6 4 rfl rfl)
theorem dX0_canParty_147 : decode cX0_canParty 147 = .ok (.iconst 1, 1) := dk_4 (dk_at dksX0_canParty_6 7 rfl rfl)
theorem dX0_canParty_148 : decode cX0_canParty 148 = .ok (.ireturn, 1) := dk_172 (dk_at dksX0_canParty_6 8 rfl rfl)
theorem dX0_canParty_149 : decode cX0_canParty 149 = .ok (.iinc 4 1, 3) := dk_132 4 1 (dk_at dksX0_canParty_6 9 rfl rfl)
theorem dX0_canParty_152 : decode cX0_canParty 152 = .ok (.goto (-120), 3) := dk_167 255 136 (dk_at dksX0_canParty_6 12 rfl rfl)
theorem dX0_canParty_155 : decode cX0_canParty 155 = .ok (.iconst 0, 1) := dk_3 (dk_at dksX0_canParty_6 15 rfl rfl)
theorem dX0_canParty_156 : decode cX0_canParty 156 = .ok (.ireturn, 1) := dk_172 (dk_at dksX0_canParty_6 16 rfl rfl)
abbrev cX0_mended : ByteArray := prog_1_method_31_code
def yX0_mended : MethodName := ⟨RX0, "mended", "(I)I"⟩
def dkwX0_mended_4 : List UInt8 := [167, 255, 198, 132, 2, 1, 167, 255, 182, 16, 254, 172]
abbrev dktX0_mended_4 : List UInt8 := dkwX0_mended_4 ++ []
def dkwX0_mended_3 : List UInt8 := [180, 0, 16, 28, 184, 0, 203, 29, 184, 0, 191, 154, 0, 10, 16, 16, 28, 104, 29, 96, 172, 132, 3, 1]
abbrev dktX0_mended_3 : List UInt8 := dkwX0_mended_3 ++ dktX0_mended_4
def dkwX0_mended_2 : List UInt8 := [182, 0, 168, 153, 0, 41, 42, 180, 0, 16, 180, 0, 194, 28, 46, 29, 184, 0, 191, 153, 0, 25, 42]
abbrev dktX0_mended_2 : List UInt8 := dkwX0_mended_2 ++ dktX0_mended_3
def dkwX0_mended_1 : List UInt8 := [172, 3, 61, 28, 16, 16, 162, 0, 74, 28, 4, 96, 62, 29, 16, 16, 162, 0, 58, 42, 180, 0, 16, 28]
abbrev dktX0_mended_1 : List UInt8 := dkwX0_mended_1 ++ dktX0_mended_2
def dkwX0_mended_0 : List UInt8 := [27, 5, 184, 0, 144, 154, 0, 5, 2, 172, 27, 154, 0, 14, 3, 42, 182, 0, 235, 4, 100, 184, 0, 7]
abbrev dktX0_mended_0 : List UInt8 := dkwX0_mended_0 ++ dktX0_mended_1
theorem dksX0_mended_0 : cX0_mended.data.toList.drop 0 = dktX0_mended_0 := by decide +kernel
theorem dksX0_mended_1 : cX0_mended.data.toList.drop 24 = dktX0_mended_1 := dk_seg dksX0_mended_0 24 rfl rfl
theorem dksX0_mended_2 : cX0_mended.data.toList.drop 48 = dktX0_mended_2 := dk_seg dksX0_mended_1 24 rfl rfl
theorem dksX0_mended_3 : cX0_mended.data.toList.drop 71 = dktX0_mended_3 := dk_seg dksX0_mended_2 23 rfl rfl
theorem dksX0_mended_4 : cX0_mended.data.toList.drop 95 = dktX0_mended_4 := dk_seg dksX0_mended_3 24 rfl rfl
theorem dX0_mended_0 : decode cX0_mended 0 = .ok (.iload_n 1, 1) := dk_27 (dk_at dksX0_mended_0 0 rfl rfl)
theorem dX0_mended_1 : decode cX0_mended 1 = .ok (.iconst 2, 1) := dk_5 (dk_at dksX0_mended_0 1 rfl rfl)
theorem dX0_mended_2 : decode cX0_mended 2 = .ok (.invokestatic 144, 3) := dk_184 0 144 (dk_at dksX0_mended_0 2 rfl rfl)
theorem dX0_mended_5 : decode cX0_mended 5 = .ok (.ifCond .ne 5, 3) := dk_154 0 5 (dk_at dksX0_mended_0 5 rfl rfl)
theorem dX0_mended_8 : decode cX0_mended 8 = .ok (.iconst (-1), 1) := dk_2 (dk_at dksX0_mended_0 8 rfl rfl)
theorem dX0_mended_9 : decode cX0_mended 9 = .ok (.ireturn, 1) := dk_172 (dk_at dksX0_mended_0 9 rfl rfl)
theorem dX0_mended_10 : decode cX0_mended 10 = .ok (.iload_n 1, 1) := dk_27 (dk_at dksX0_mended_0 10 rfl rfl)
theorem dX0_mended_11 : decode cX0_mended 11 = .ok (.ifCond .ne 14, 3) := dk_154 0 14 (dk_at dksX0_mended_0 11 rfl rfl)
theorem dX0_mended_14 : decode cX0_mended 14 = .ok (.iconst 0, 1) := dk_3 (dk_at dksX0_mended_0 14 rfl rfl)
theorem dX0_mended_15 : decode cX0_mended 15 = .ok (.aload_n 0, 1) := dk_42 (dk_at dksX0_mended_0 15 rfl rfl)
theorem dX0_mended_16 : decode cX0_mended 16 = .ok (.invokevirtual 235, 3) := dk_182 0 235 (dk_at dksX0_mended_0 16 rfl rfl)
theorem dX0_mended_19 : decode cX0_mended 19 = .ok (.iconst 1, 1) := dk_4 (dk_at dksX0_mended_0 19 rfl rfl)
theorem dX0_mended_20 : decode cX0_mended 20 = .ok (.isub, 1) := dk_100 (dk_at dksX0_mended_0 20 rfl rfl)
theorem dX0_mended_21 : decode cX0_mended 21 = .ok (.invokestatic 7, 3) := dk_184 0 7 (dk_at dksX0_mended_0 21 rfl rfl)
theorem dX0_mended_24 : decode cX0_mended 24 = .ok (.ireturn, 1) := dk_172 (dk_at dksX0_mended_1 0 rfl rfl)
theorem dX0_mended_25 : decode cX0_mended 25 = .ok (.iconst 0, 1) := dk_3 (dk_at dksX0_mended_1 1 rfl rfl)
theorem dX0_mended_26 : decode cX0_mended 26 = .ok (.istore_n 2, 1) := dk_61 (dk_at dksX0_mended_1 2 rfl rfl)
theorem dX0_mended_27 : decode cX0_mended 27 = .ok (.iload_n 2, 1) := dk_28 (dk_at dksX0_mended_1 3 rfl rfl)
theorem dX0_mended_28 : decode cX0_mended 28 = .ok (.bipush 16, 2) := dk_16 16 (dk_at dksX0_mended_1 4 rfl rfl)
theorem dX0_mended_30 : decode cX0_mended 30 = .ok (.if_icmp .ge 74, 3) := dk_162 0 74 (dk_at dksX0_mended_1 6 rfl rfl)
theorem dX0_mended_33 : decode cX0_mended 33 = .ok (.iload_n 2, 1) := dk_28 (dk_at dksX0_mended_1 9 rfl rfl)
theorem dX0_mended_34 : decode cX0_mended 34 = .ok (.iconst 1, 1) := dk_4 (dk_at dksX0_mended_1 10 rfl rfl)
theorem dX0_mended_35 : decode cX0_mended 35 = .ok (.iadd, 1) := dk_96 (dk_at dksX0_mended_1 11 rfl rfl)
theorem dX0_mended_36 : decode cX0_mended 36 = .ok (.istore_n 3, 1) := dk_62 (dk_at dksX0_mended_1 12 rfl rfl)
theorem dX0_mended_37 : decode cX0_mended 37 = .ok (.iload_n 3, 1) := dk_29 (dk_at dksX0_mended_1 13 rfl rfl)
theorem dX0_mended_38 : decode cX0_mended 38 = .ok (.bipush 16, 2) := dk_16 16 (dk_at dksX0_mended_1 14 rfl rfl)
theorem dX0_mended_40 : decode cX0_mended 40 = .ok (.if_icmp .ge 58, 3) := dk_162 0 58 (dk_at dksX0_mended_1 16 rfl rfl)
theorem dX0_mended_43 : decode cX0_mended 43 = .ok (.aload_n 0, 1) := dk_42 (dk_at dksX0_mended_1 19 rfl rfl)
theorem dX0_mended_44 : decode cX0_mended 44 = .ok (.getfield 16, 3) := dk_180 0 16 (dk_at dksX0_mended_1 20 rfl rfl)
theorem dX0_mended_47 : decode cX0_mended 47 = .ok (.iload_n 2, 1) := dk_28 (dk_at dksX0_mended_1 23 rfl rfl)
theorem dX0_mended_48 : decode cX0_mended 48 = .ok (.invokevirtual 168, 3) := dk_182 0 168 (dk_at dksX0_mended_2 0 rfl rfl)
theorem dX0_mended_51 : decode cX0_mended 51 = .ok (.ifCond .eq 41, 3) := dk_153 0 41 (dk_at dksX0_mended_2 3 rfl rfl)
theorem dX0_mended_54 : decode cX0_mended 54 = .ok (.aload_n 0, 1) := dk_42 (dk_at dksX0_mended_2 6 rfl rfl)
theorem dX0_mended_55 : decode cX0_mended 55 = .ok (.getfield 16, 3) := dk_180 0 16 (dk_at dksX0_mended_2 7 rfl rfl)
theorem dX0_mended_58 : decode cX0_mended 58 = .ok (.getfield 194, 3) := dk_180 0 194 (dk_at dksX0_mended_2 10 rfl rfl)
theorem dX0_mended_61 : decode cX0_mended 61 = .ok (.iload_n 2, 1) := dk_28 (dk_at dksX0_mended_2 13 rfl rfl)
theorem dX0_mended_62 : decode cX0_mended 62 = .ok (.iaload, 1) := dk_46 (dk_at dksX0_mended_2 14 rfl rfl)
theorem dX0_mended_63 : decode cX0_mended 63 = .ok (.iload_n 3, 1) := dk_29 (dk_at dksX0_mended_2 15 rfl rfl)
theorem dX0_mended_64 : decode cX0_mended 64 = .ok (.invokestatic 191, 3) := dk_184 0 191 (dk_at dksX0_mended_2 16 rfl rfl)
theorem dX0_mended_67 : decode cX0_mended 67 = .ok (.ifCond .eq 25, 3) := dk_153 0 25 (dk_at dksX0_mended_2 19 rfl rfl)
theorem dX0_mended_70 : decode cX0_mended 70 = .ok (.aload_n 0, 1) := dk_42 (dk_at dksX0_mended_2 22 rfl rfl)
theorem dX0_mended_71 : decode cX0_mended 71 = .ok (.getfield 16, 3) := dk_180 0 16 (dk_at dksX0_mended_3 0 rfl rfl)
theorem dX0_mended_74 : decode cX0_mended 74 = .ok (.iload_n 2, 1) := dk_28 (dk_at dksX0_mended_3 3 rfl rfl)
theorem dX0_mended_75 : decode cX0_mended 75 = .ok (.invokestatic 203, 3) := dk_184 0 203 (dk_at dksX0_mended_3 4 rfl rfl)
theorem dX0_mended_78 : decode cX0_mended 78 = .ok (.iload_n 3, 1) := dk_29 (dk_at dksX0_mended_3 7 rfl rfl)
theorem dX0_mended_79 : decode cX0_mended 79 = .ok (.invokestatic 191, 3) := dk_184 0 191 (dk_at dksX0_mended_3 8 rfl rfl)
theorem dX0_mended_82 : decode cX0_mended 82 = .ok (.ifCond .ne 10, 3) := dk_154 0 10 (dk_at dksX0_mended_3 11 rfl rfl)
theorem dX0_mended_85 : decode cX0_mended 85 = .ok (.bipush 16, 2) := dk_16 16 (dk_at dksX0_mended_3 14 rfl rfl)
theorem dX0_mended_87 : decode cX0_mended 87 = .ok (.iload_n 2, 1) := dk_28 (dk_at dksX0_mended_3 16 rfl rfl)
theorem dX0_mended_88 : decode cX0_mended 88 = .ok (.imul, 1) := dk_104 (dk_at dksX0_mended_3 17 rfl rfl)
theorem dX0_mended_89 : decode cX0_mended 89 = .ok (.iload_n 3, 1) := dk_29 (dk_at dksX0_mended_3 18 rfl rfl)
theorem dX0_mended_90 : decode cX0_mended 90 = .ok (.iadd, 1) := dk_96 (dk_at dksX0_mended_3 19 rfl rfl)
theorem dX0_mended_91 : decode cX0_mended 91 = .ok (.ireturn, 1) := dk_172 (dk_at dksX0_mended_3 20 rfl rfl)
theorem dX0_mended_92 : decode cX0_mended 92 = .ok (.iinc 3 1, 3) := dk_132 3 1 (dk_at dksX0_mended_3 21 rfl rfl)
theorem dX0_mended_95 : decode cX0_mended 95 = .ok (.goto (-58), 3) := dk_167 255 198 (dk_at dksX0_mended_4 0 rfl rfl)
theorem dX0_mended_98 : decode cX0_mended 98 = .ok (.iinc 2 1, 3) := dk_132 2 1 (dk_at dksX0_mended_4 3 rfl rfl)
theorem dX0_mended_101 : decode cX0_mended 101 = .ok (.goto (-74), 3) := dk_167 255 182 (dk_at dksX0_mended_4 6 rfl rfl)
theorem dX0_mended_104 : decode cX0_mended 104 = .ok (.bipush (-2), 2) := dk_16 254 (dk_at dksX0_mended_4 9 rfl rfl)
theorem dX0_mended_106 : decode cX0_mended 106 = .ok (.ireturn, 1) := dk_172 (dk_at dksX0_mended_4 11 rfl rfl)
abbrev cX0_groups : ByteArray := prog_1_method_30_code
def yX0_groups : MethodName := ⟨RX0, "groups", "()I"⟩
def dkwX0_groups_2 : List UInt8 := [167, 255, 213, 27, 172]
abbrev dktX0_groups_2 : List UInt8 := dkwX0_groups_2 ++ []
def dkwX0_groups_1 : List UInt8 := [180, 0, 16, 28, 184, 0, 203, 184, 0, 207, 28, 160, 0, 7, 4, 167, 0, 4, 3, 96, 60, 132, 2, 1]
abbrev dktX0_groups_1 : List UInt8 := dkwX0_groups_1 ++ dktX0_groups_2
def dkwX0_groups_0 : List UInt8 := [3, 60, 3, 61, 28, 16, 16, 162, 0, 43, 27, 42, 180, 0, 16, 28, 182, 0, 168, 153, 0, 22, 42]
abbrev dktX0_groups_0 : List UInt8 := dkwX0_groups_0 ++ dktX0_groups_1
theorem dksX0_groups_0 : cX0_groups.data.toList.drop 0 = dktX0_groups_0 := by decide +kernel
theorem dksX0_groups_1 : cX0_groups.data.toList.drop 23 = dktX0_groups_1 := dk_seg dksX0_groups_0 23 rfl rfl
theorem dksX0_groups_2 : cX0_groups.data.toList.drop 47 = dktX0_groups_2 := dk_seg dksX0_groups_1 24 rfl rfl
theorem dX0_groups_0 : decode cX0_groups 0 = .ok (.iconst 0, 1) := dk_3 (dk_at dksX0_groups_0 0 rfl rfl)
theorem dX0_groups_1 : decode cX0_groups 1 = .ok (.istore_n 1, 1) := dk_60 (dk_at dksX0_groups_0 1 rfl rfl)
theorem dX0_groups_2 : decode cX0_groups 2 = .ok (.iconst 0, 1) := dk_3 (dk_at dksX0_groups_0 2 rfl rfl)
theorem dX0_groups_3 : decode cX0_groups 3 = .ok (.istore_n 2, 1) := dk_61 (dk_at dksX0_groups_0 3 rfl rfl)
theorem dX0_groups_4 : decode cX0_groups 4 = .ok (.iload_n 2, 1) := dk_28 (dk_at dksX0_groups_0 4 rfl rfl)
theorem dX0_groups_5 : decode cX0_groups 5 = .ok (.bipush 16, 2) := dk_16 16 (dk_at dksX0_groups_0 5 rfl rfl)
theorem dX0_groups_7 : decode cX0_groups 7 = .ok (.if_icmp .ge 43, 3) := dk_162 0 43 (dk_at dksX0_groups_0 7 rfl rfl)
theorem dX0_groups_10 : decode cX0_groups 10 = .ok (.iload_n 1, 1) := dk_27 (dk_at dksX0_groups_0 10 rfl rfl)
theorem dX0_groups_11 : decode cX0_groups 11 = .ok (.aload_n 0, 1) := dk_42 (dk_at dksX0_groups_0 11 rfl rfl)
theorem dX0_groups_12 : decode cX0_groups 12 = .ok (.getfield 16, 3) := dk_180 0 16 (dk_at dksX0_groups_0 12 rfl rfl)
theorem dX0_groups_15 : decode cX0_groups 15 = .ok (.iload_n 2, 1) := dk_28 (dk_at dksX0_groups_0 15 rfl rfl)
theorem dX0_groups_16 : decode cX0_groups 16 = .ok (.invokevirtual 168, 3) := dk_182 0 168 (dk_at dksX0_groups_0 16 rfl rfl)
theorem dX0_groups_19 : decode cX0_groups 19 = .ok (.ifCond .eq 22, 3) := dk_153 0 22 (dk_at dksX0_groups_0 19 rfl rfl)
theorem dX0_groups_22 : decode cX0_groups 22 = .ok (.aload_n 0, 1) := dk_42 (dk_at dksX0_groups_0 22 rfl rfl)
theorem dX0_groups_23 : decode cX0_groups 23 = .ok (.getfield 16, 3) := dk_180 0 16 (dk_at dksX0_groups_1 0 rfl rfl)
theorem dX0_groups_26 : decode cX0_groups 26 = .ok (.iload_n 2, 1) := dk_28 (dk_at dksX0_groups_1 3 rfl rfl)
theorem dX0_groups_27 : decode cX0_groups 27 = .ok (.invokestatic 203, 3) := dk_184 0 203 (dk_at dksX0_groups_1 4 rfl rfl)
theorem dX0_groups_30 : decode cX0_groups 30 = .ok (.invokestatic 207, 3) := dk_184 0 207 (dk_at dksX0_groups_1 7 rfl rfl)
theorem dX0_groups_33 : decode cX0_groups 33 = .ok (.iload_n 2, 1) := dk_28 (dk_at dksX0_groups_1 10 rfl rfl)
theorem dX0_groups_34 : decode cX0_groups 34 = .ok (.if_icmp .ne 7, 3) := dk_160 0 7 (dk_at dksX0_groups_1 11 rfl rfl)
theorem dX0_groups_37 : decode cX0_groups 37 = .ok (.iconst 1, 1) := dk_4 (dk_at dksX0_groups_1 14 rfl rfl)
theorem dX0_groups_38 : decode cX0_groups 38 = .ok (.goto 4, 3) := dk_167 0 4 (dk_at dksX0_groups_1 15 rfl rfl)
theorem dX0_groups_41 : decode cX0_groups 41 = .ok (.iconst 0, 1) := dk_3 (dk_at dksX0_groups_1 18 rfl rfl)
theorem dX0_groups_42 : decode cX0_groups 42 = .ok (.iadd, 1) := dk_96 (dk_at dksX0_groups_1 19 rfl rfl)
theorem dX0_groups_43 : decode cX0_groups 43 = .ok (.istore_n 1, 1) := dk_60 (dk_at dksX0_groups_1 20 rfl rfl)
theorem dX0_groups_44 : decode cX0_groups 44 = .ok (.iinc 2 1, 3) := dk_132 2 1 (dk_at dksX0_groups_1 21 rfl rfl)
theorem dX0_groups_47 : decode cX0_groups 47 = .ok (.goto (-43), 3) := dk_167 255 213 (dk_at dksX0_groups_2 0 rfl rfl)
theorem dX0_groups_50 : decode cX0_groups 50 = .ok (.iload_n 1, 1) := dk_27 (dk_at dksX0_groups_2 3 rfl rfl)
theorem dX0_groups_51 : decode cX0_groups 51 = .ok (.ireturn, 1) := dk_172 (dk_at dksX0_groups_2 4 rfl rfl)
abbrev cX0_longest : ByteArray := prog_1_method_32_code
def yX0_longest : MethodName := ⟨RX0, "longest", "(I)I"⟩
def dkwX0_longest_9 : List UInt8 := [167, 0, 12, 42, 180, 0, 87, 28, 46, 184, 0, 207, 172]
abbrev dktX0_longest_9 : List UInt8 := dkwX0_longest_9 ++ []
def dkwX0_longest_8 : List UInt8 := [132, 3, 1, 167, 255, 80, 27, 154, 0, 10, 28, 184, 0, 214, 167, 0, 21, 28, 154, 0, 8, 16, 254]
abbrev dktX0_longest_8 : List UInt8 := dkwX0_longest_8 ++ dktX0_longest_9
def dkwX0_longest_7 : List UInt8 := [42, 180, 0, 87, 29, 46, 184, 0, 207, 42, 180, 0, 87, 28, 46, 184, 0, 207, 162, 0, 5, 29, 61]
abbrev dktX0_longest_7 : List UInt8 := dkwX0_longest_7 ++ dktX0_longest_8
def dkwX0_longest_6 : List UInt8 := [167, 0, 12, 29, 184, 0, 214, 28, 184, 0, 214, 100, 54, 4, 21, 4, 157, 0, 29, 21, 4, 154, 0, 26]
abbrev dktX0_longest_6 : List UInt8 := dkwX0_longest_6 ++ dktX0_longest_7
def dkwX0_longest_5 : List UInt8 := [4, 21, 4, 120, 128, 79, 132, 4, 1, 167, 255, 190, 42, 180, 0, 87, 29, 46, 154, 0, 7, 2]
abbrev dktX0_longest_5 : List UInt8 := dkwX0_longest_5 ++ dktX0_longest_6
def dkwX0_longest_4 : List UInt8 := [2, 130, 126, 46, 42, 180, 0, 16, 21, 4, 182, 0, 200, 126, 153, 0, 16, 42, 180, 0, 87, 29, 92, 46]
abbrev dktX0_longest_4 : List UInt8 := dkwX0_longest_4 ++ dktX0_longest_5
def dkwX0_longest_3 : List UInt8 := [180, 0, 16, 180, 0, 22, 126, 21, 4, 184, 0, 191, 153, 0, 42, 42, 180, 0, 87, 29, 4, 21, 4, 120]
abbrev dktX0_longest_3 : List UInt8 := dkwX0_longest_3 ++ dktX0_longest_4
def dkwX0_longest_2 : List UInt8 := [2, 130, 126, 154, 0, 7, 29, 167, 0, 4, 3, 79, 3, 54, 4, 21, 4, 16, 16, 162, 0, 65, 29, 42]
abbrev dktX0_longest_2 : List UInt8 := dkwX0_longest_2 ++ dktX0_longest_3
def dkwX0_longest_1 : List UInt8 := [163, 0, 171, 42, 180, 0, 87, 29, 29, 184, 0, 214, 4, 160, 0, 21, 29, 42, 180, 0, 16, 180, 0, 22]
abbrev dktX0_longest_1 : List UInt8 := dkwX0_longest_1 ++ dktX0_longest_2
def dkwX0_longest_0 : List UInt8 := [27, 5, 184, 0, 144, 154, 0, 5, 2, 172, 3, 61, 4, 62, 29, 42, 180, 0, 16, 180, 0, 22]
abbrev dktX0_longest_0 : List UInt8 := dkwX0_longest_0 ++ dktX0_longest_1
theorem dksX0_longest_0 : cX0_longest.data.toList.drop 0 = dktX0_longest_0 := by decide +kernel
theorem dksX0_longest_1 : cX0_longest.data.toList.drop 22 = dktX0_longest_1 := dk_seg dksX0_longest_0 22 rfl rfl
theorem dksX0_longest_2 : cX0_longest.data.toList.drop 46 = dktX0_longest_2 := dk_seg dksX0_longest_1 24 rfl rfl
theorem dksX0_longest_3 : cX0_longest.data.toList.drop 70 = dktX0_longest_3 := dk_seg dksX0_longest_2 24 rfl rfl
theorem dksX0_longest_4 : cX0_longest.data.toList.drop 94 = dktX0_longest_4 := dk_seg dksX0_longest_3 24 rfl rfl
theorem dksX0_longest_5 : cX0_longest.data.toList.drop 118 = dktX0_longest_5 := dk_seg dksX0_longest_4 24 rfl rfl
theorem dksX0_longest_6 : cX0_longest.data.toList.drop 140 = dktX0_longest_6 := dk_seg dksX0_longest_5 22 rfl rfl
theorem dksX0_longest_7 : cX0_longest.data.toList.drop 164 = dktX0_longest_7 := dk_seg dksX0_longest_6 24 rfl rfl
theorem dksX0_longest_8 : cX0_longest.data.toList.drop 187 = dktX0_longest_8 := dk_seg dksX0_longest_7 23 rfl rfl
theorem dksX0_longest_9 : cX0_longest.data.toList.drop 210 = dktX0_longest_9 := dk_seg dksX0_longest_8 23 rfl rfl
theorem dX0_longest_0 : decode cX0_longest 0 = .ok (.iload_n 1, 1) := dk_27 (dk_at dksX0_longest_0 0 rfl rfl)
theorem dX0_longest_1 : decode cX0_longest 1 = .ok (.iconst 2, 1) := dk_5 (dk_at dksX0_longest_0 1 rfl rfl)
theorem dX0_longest_2 : decode cX0_longest 2 = .ok (.invokestatic 144, 3) := dk_184 0 144 (dk_at dksX0_longest_0 2 rfl rfl)
theorem dX0_longest_5 : decode cX0_longest 5 = .ok (.ifCond .ne 5, 3) := dk_154 0 5 (dk_at dksX0_longest_0 5 rfl rfl)
theorem dX0_longest_8 : decode cX0_longest 8 = .ok (.iconst (-1), 1) := dk_2 (dk_at dksX0_longest_0 8 rfl rfl)
theorem dX0_longest_9 : decode cX0_longest 9 = .ok (.ireturn, 1) := dk_172 (dk_at dksX0_longest_0 9 rfl rfl)
theorem dX0_longest_10 : decode cX0_longest 10 = .ok (.iconst 0, 1) := dk_3 (dk_at dksX0_longest_0 10 rfl rfl)
theorem dX0_longest_11 : decode cX0_longest 11 = .ok (.istore_n 2, 1) := dk_61 (dk_at dksX0_longest_0 11 rfl rfl)
theorem dX0_longest_12 : decode cX0_longest 12 = .ok (.iconst 1, 1) := dk_4 (dk_at dksX0_longest_0 12 rfl rfl)
theorem dX0_longest_13 : decode cX0_longest 13 = .ok (.istore_n 3, 1) := dk_62 (dk_at dksX0_longest_0 13 rfl rfl)
theorem dX0_longest_14 : decode cX0_longest 14 = .ok (.iload_n 3, 1) := dk_29 (dk_at dksX0_longest_0 14 rfl rfl)
theorem dX0_longest_15 : decode cX0_longest 15 = .ok (.aload_n 0, 1) := dk_42 (dk_at dksX0_longest_0 15 rfl rfl)
theorem dX0_longest_16 : decode cX0_longest 16 = .ok (.getfield 16, 3) := dk_180 0 16 (dk_at dksX0_longest_0 16 rfl rfl)
theorem dX0_longest_19 : decode cX0_longest 19 = .ok (.getfield 22, 3) := dk_180 0 22 (dk_at dksX0_longest_0 19 rfl rfl)
theorem dX0_longest_22 : decode cX0_longest 22 = .ok (.if_icmp .gt 171, 3) := dk_163 0 171 (dk_at dksX0_longest_1 0 rfl rfl)
theorem dX0_longest_25 : decode cX0_longest 25 = .ok (.aload_n 0, 1) := dk_42 (dk_at dksX0_longest_1 3 rfl rfl)
theorem dX0_longest_26 : decode cX0_longest 26 = .ok (.getfield 87, 3) := dk_180 0 87 (dk_at dksX0_longest_1 4 rfl rfl)
theorem dX0_longest_29 : decode cX0_longest 29 = .ok (.iload_n 3, 1) := dk_29 (dk_at dksX0_longest_1 7 rfl rfl)
theorem dX0_longest_30 : decode cX0_longest 30 = .ok (.iload_n 3, 1) := dk_29 (dk_at dksX0_longest_1 8 rfl rfl)
theorem dX0_longest_31 : decode cX0_longest 31 = .ok (.invokestatic 214, 3) := dk_184 0 214 (dk_at dksX0_longest_1 9 rfl rfl)
theorem dX0_longest_34 : decode cX0_longest 34 = .ok (.iconst 1, 1) := dk_4 (dk_at dksX0_longest_1 12 rfl rfl)
theorem dX0_longest_35 : decode cX0_longest 35 = .ok (.if_icmp .ne 21, 3) := dk_160 0 21 (dk_at dksX0_longest_1 13 rfl rfl)
theorem dX0_longest_38 : decode cX0_longest 38 = .ok (.iload_n 3, 1) := dk_29 (dk_at dksX0_longest_1 16 rfl rfl)
theorem dX0_longest_39 : decode cX0_longest 39 = .ok (.aload_n 0, 1) := dk_42 (dk_at dksX0_longest_1 17 rfl rfl)
theorem dX0_longest_40 : decode cX0_longest 40 = .ok (.getfield 16, 3) := dk_180 0 16 (dk_at dksX0_longest_1 18 rfl rfl)
theorem dX0_longest_43 : decode cX0_longest 43 = .ok (.getfield 22, 3) := dk_180 0 22 (dk_at dksX0_longest_1 21 rfl rfl)
theorem dX0_longest_46 : decode cX0_longest 46 = .ok (.iconst (-1), 1) := dk_2 (dk_at dksX0_longest_2 0 rfl rfl)
theorem dX0_longest_47 : decode cX0_longest 47 = .ok (.ixor, 1) := dk_130 (dk_at dksX0_longest_2 1 rfl rfl)
theorem dX0_longest_48 : decode cX0_longest 48 = .ok (.iand, 1) := dk_126 (dk_at dksX0_longest_2 2 rfl rfl)
theorem dX0_longest_49 : decode cX0_longest 49 = .ok (.ifCond .ne 7, 3) := dk_154 0 7 (dk_at dksX0_longest_2 3 rfl rfl)
theorem dX0_longest_52 : decode cX0_longest 52 = .ok (.iload_n 3, 1) := dk_29 (dk_at dksX0_longest_2 6 rfl rfl)
theorem dX0_longest_53 : decode cX0_longest 53 = .ok (.goto 4, 3) := dk_167 0 4 (dk_at dksX0_longest_2 7 rfl rfl)
theorem dX0_longest_56 : decode cX0_longest 56 = .ok (.iconst 0, 1) := dk_3 (dk_at dksX0_longest_2 10 rfl rfl)
theorem dX0_longest_57 : decode cX0_longest 57 = .ok (.iastore, 1) := dk_79 (dk_at dksX0_longest_2 11 rfl rfl)
theorem dX0_longest_58 : decode cX0_longest 58 = .ok (.iconst 0, 1) := dk_3 (dk_at dksX0_longest_2 12 rfl rfl)
theorem dX0_longest_59 : decode cX0_longest 59 = .ok (.istore 4, 2) := dk_54 4 (dk_at dksX0_longest_2 13 rfl rfl)
theorem dX0_longest_61 : decode cX0_longest 61 = .ok (.iload 4, 2) := dk_21 4 (dk_at dksX0_longest_2 15 rfl rfl)
theorem dX0_longest_63 : decode cX0_longest 63 = .ok (.bipush 16, 2) := dk_16 16 (dk_at dksX0_longest_2 17 rfl rfl)
theorem dX0_longest_65 : decode cX0_longest 65 = .ok (.if_icmp .ge 65, 3) := dk_162 0 65 (dk_at dksX0_longest_2 19 rfl rfl)
theorem dX0_longest_68 : decode cX0_longest 68 = .ok (.iload_n 3, 1) := dk_29 (dk_at dksX0_longest_2 22 rfl rfl)
theorem dX0_longest_69 : decode cX0_longest 69 = .ok (.aload_n 0, 1) := dk_42 (dk_at dksX0_longest_2 23 rfl rfl)
theorem dX0_longest_70 : decode cX0_longest 70 = .ok (.getfield 16, 3) := dk_180 0 16 (dk_at dksX0_longest_3 0 rfl rfl)
theorem dX0_longest_73 : decode cX0_longest 73 = .ok (.getfield 22, 3) := dk_180 0 22 (dk_at dksX0_longest_3 3 rfl rfl)
theorem dX0_longest_76 : decode cX0_longest 76 = .ok (.iand, 1) := dk_126 (dk_at dksX0_longest_3 6 rfl rfl)
theorem dX0_longest_77 : decode cX0_longest 77 = .ok (.iload 4, 2) := dk_21 4 (dk_at dksX0_longest_3 7 rfl rfl)
theorem dX0_longest_79 : decode cX0_longest 79 = .ok (.invokestatic 191, 3) := dk_184 0 191 (dk_at dksX0_longest_3 9 rfl rfl)
theorem dX0_longest_82 : decode cX0_longest 82 = .ok (.ifCond .eq 42, 3) := dk_153 0 42 (dk_at dksX0_longest_3 12 rfl rfl)
theorem dX0_longest_85 : decode cX0_longest 85 = .ok (.aload_n 0, 1) := dk_42 (dk_at dksX0_longest_3 15 rfl rfl)
theorem dX0_longest_86 : decode cX0_longest 86 = .ok (.getfield 87, 3) := dk_180 0 87 (dk_at dksX0_longest_3 16 rfl rfl)
theorem dX0_longest_89 : decode cX0_longest 89 = .ok (.iload_n 3, 1) := dk_29 (dk_at dksX0_longest_3 19 rfl rfl)
theorem dX0_longest_90 : decode cX0_longest 90 = .ok (.iconst 1, 1) := dk_4 (dk_at dksX0_longest_3 20 rfl rfl)
theorem dX0_longest_91 : decode cX0_longest 91 = .ok (.iload 4, 2) := dk_21 4 (dk_at dksX0_longest_3 21 rfl rfl)
theorem dX0_longest_93 : decode cX0_longest 93 = .ok (.ishl, 1) := dk_120 (dk_at dksX0_longest_3 23 rfl rfl)
theorem dX0_longest_94 : decode cX0_longest 94 = .ok (.iconst (-1), 1) := dk_2 (dk_at dksX0_longest_4 0 rfl rfl)
theorem dX0_longest_95 : decode cX0_longest 95 = .ok (.ixor, 1) := dk_130 (dk_at dksX0_longest_4 1 rfl rfl)
theorem dX0_longest_96 : decode cX0_longest 96 = .ok (.iand, 1) := dk_126 (dk_at dksX0_longest_4 2 rfl rfl)
theorem dX0_longest_97 : decode cX0_longest 97 = .ok (.iaload, 1) := dk_46 (dk_at dksX0_longest_4 3 rfl rfl)
theorem dX0_longest_98 : decode cX0_longest 98 = .ok (.aload_n 0, 1) := dk_42 (dk_at dksX0_longest_4 4 rfl rfl)
theorem dX0_longest_99 : decode cX0_longest 99 = .ok (.getfield 16, 3) := dk_180 0 16 (dk_at dksX0_longest_4 5 rfl rfl)
theorem dX0_longest_102 : decode cX0_longest 102 = .ok (.iload 4, 2) := dk_21 4 (dk_at dksX0_longest_4 8 rfl rfl)
theorem dX0_longest_104 : decode cX0_longest 104 = .ok (.invokevirtual 200, 3) := dk_182 0 200 (dk_at dksX0_longest_4 10 rfl rfl)
theorem dX0_longest_107 : decode cX0_longest 107 = .ok (.iand, 1) := dk_126 (dk_at dksX0_longest_4 13 rfl rfl)
theorem dX0_longest_108 : decode cX0_longest 108 = .ok (.ifCond .eq 16, 3) := dk_153 0 16 (dk_at dksX0_longest_4 14 rfl rfl)
theorem dX0_longest_111 : decode cX0_longest 111 = .ok (.aload_n 0, 1) := dk_42 (dk_at dksX0_longest_4 17 rfl rfl)
theorem dX0_longest_112 : decode cX0_longest 112 = .ok (.getfield 87, 3) := dk_180 0 87 (dk_at dksX0_longest_4 18 rfl rfl)
theorem dX0_longest_115 : decode cX0_longest 115 = .ok (.iload_n 3, 1) := dk_29 (dk_at dksX0_longest_4 21 rfl rfl)
theorem dX0_longest_116 : decode cX0_longest 116 = .ok (.dup2, 1) := dk_92 (dk_at dksX0_longest_4 22 rfl rfl)
theorem dX0_longest_117 : decode cX0_longest 117 = .ok (.iaload, 1) := dk_46 (dk_at dksX0_longest_4 23 rfl rfl)
theorem dX0_longest_118 : decode cX0_longest 118 = .ok (.iconst 1, 1) := dk_4 (dk_at dksX0_longest_5 0 rfl rfl)
theorem dX0_longest_119 : decode cX0_longest 119 = .ok (.iload 4, 2) := dk_21 4 (dk_at dksX0_longest_5 1 rfl rfl)
theorem dX0_longest_121 : decode cX0_longest 121 = .ok (.ishl, 1) := dk_120 (dk_at dksX0_longest_5 3 rfl rfl)
theorem dX0_longest_122 : decode cX0_longest 122 = .ok (.ior, 1) := dk_128 (dk_at dksX0_longest_5 4 rfl rfl)
theorem dX0_longest_123 : decode cX0_longest 123 = .ok (.iastore, 1) := dk_79 (dk_at dksX0_longest_5 5 rfl rfl)
theorem dX0_longest_124 : decode cX0_longest 124 = .ok (.iinc 4 1, 3) := dk_132 4 1 (dk_at dksX0_longest_5 6 rfl rfl)
theorem dX0_longest_127 : decode cX0_longest 127 = .ok (.goto (-66), 3) := dk_167 255 190 (dk_at dksX0_longest_5 9 rfl rfl)
theorem dX0_longest_130 : decode cX0_longest 130 = .ok (.aload_n 0, 1) := dk_42 (dk_at dksX0_longest_5 12 rfl rfl)
theorem dX0_longest_131 : decode cX0_longest 131 = .ok (.getfield 87, 3) := dk_180 0 87 (dk_at dksX0_longest_5 13 rfl rfl)
theorem dX0_longest_134 : decode cX0_longest 134 = .ok (.iload_n 3, 1) := dk_29 (dk_at dksX0_longest_5 16 rfl rfl)
theorem dX0_longest_135 : decode cX0_longest 135 = .ok (.iaload, 1) := dk_46 (dk_at dksX0_longest_5 17 rfl rfl)
theorem dX0_longest_136 : decode cX0_longest 136 = .ok (.ifCond .ne 7, 3) := dk_154 0 7 (dk_at dksX0_longest_5 18 rfl rfl)
theorem dX0_longest_139 : decode cX0_longest 139 = .ok (.iconst (-1), 1) := dk_2 (dk_at dksX0_longest_5 21 rfl rfl)
theorem dX0_longest_140 : decode cX0_longest 140 = .ok (.goto 12, 3) := dk_167 0 12 (dk_at dksX0_longest_6 0 rfl rfl)
theorem dX0_longest_143 : decode cX0_longest 143 = .ok (.iload_n 3, 1) := dk_29 (dk_at dksX0_longest_6 3 rfl rfl)
theorem dX0_longest_144 : decode cX0_longest 144 = .ok (.invokestatic 214, 3) := dk_184 0 214 (dk_at dksX0_longest_6 4 rfl rfl)
theorem dX0_longest_147 : decode cX0_longest 147 = .ok (.iload_n 2, 1) := dk_28 (dk_at dksX0_longest_6 7 rfl rfl)
theorem dX0_longest_148 : decode cX0_longest 148 = .ok (.invokestatic 214, 3) := dk_184 0 214 (dk_at dksX0_longest_6 8 rfl rfl)
theorem dX0_longest_151 : decode cX0_longest 151 = .ok (.isub, 1) := dk_100 (dk_at dksX0_longest_6 11 rfl rfl)
theorem dX0_longest_152 : decode cX0_longest 152 = .ok (.istore 4, 2) := dk_54 4 (dk_at dksX0_longest_6 12 rfl rfl)
theorem dX0_longest_154 : decode cX0_longest 154 = .ok (.iload 4, 2) := dk_21 4 (dk_at dksX0_longest_6 14 rfl rfl)
theorem dX0_longest_156 : decode cX0_longest 156 = .ok (.ifCond .gt 29, 3) := dk_157 0 29 (dk_at dksX0_longest_6 16 rfl rfl)
theorem dX0_longest_159 : decode cX0_longest 159 = .ok (.iload 4, 2) := dk_21 4 (dk_at dksX0_longest_6 19 rfl rfl)
theorem dX0_longest_161 : decode cX0_longest 161 = .ok (.ifCond .ne 26, 3) := dk_154 0 26 (dk_at dksX0_longest_6 21 rfl rfl)
theorem dX0_longest_164 : decode cX0_longest 164 = .ok (.aload_n 0, 1) := dk_42 (dk_at dksX0_longest_7 0 rfl rfl)
theorem dX0_longest_165 : decode cX0_longest 165 = .ok (.getfield 87, 3) := dk_180 0 87 (dk_at dksX0_longest_7 1 rfl rfl)
theorem dX0_longest_168 : decode cX0_longest 168 = .ok (.iload_n 3, 1) := dk_29 (dk_at dksX0_longest_7 4 rfl rfl)
theorem dX0_longest_169 : decode cX0_longest 169 = .ok (.iaload, 1) := dk_46 (dk_at dksX0_longest_7 5 rfl rfl)
theorem dX0_longest_170 : decode cX0_longest 170 = .ok (.invokestatic 207, 3) := dk_184 0 207 (dk_at dksX0_longest_7 6 rfl rfl)
theorem dX0_longest_173 : decode cX0_longest 173 = .ok (.aload_n 0, 1) := dk_42 (dk_at dksX0_longest_7 9 rfl rfl)
theorem dX0_longest_174 : decode cX0_longest 174 = .ok (.getfield 87, 3) := dk_180 0 87 (dk_at dksX0_longest_7 10 rfl rfl)
theorem dX0_longest_177 : decode cX0_longest 177 = .ok (.iload_n 2, 1) := dk_28 (dk_at dksX0_longest_7 13 rfl rfl)
theorem dX0_longest_178 : decode cX0_longest 178 = .ok (.iaload, 1) := dk_46 (dk_at dksX0_longest_7 14 rfl rfl)
theorem dX0_longest_179 : decode cX0_longest 179 = .ok (.invokestatic 207, 3) := dk_184 0 207 (dk_at dksX0_longest_7 15 rfl rfl)
theorem dX0_longest_182 : decode cX0_longest 182 = .ok (.if_icmp .ge 5, 3) := dk_162 0 5 (dk_at dksX0_longest_7 18 rfl rfl)
theorem dX0_longest_185 : decode cX0_longest 185 = .ok (.iload_n 3, 1) := dk_29 (dk_at dksX0_longest_7 21 rfl rfl)
theorem dX0_longest_186 : decode cX0_longest 186 = .ok (.istore_n 2, 1) := dk_61 (dk_at dksX0_longest_7 22 rfl rfl)
theorem dX0_longest_187 : decode cX0_longest 187 = .ok (.iinc 3 1, 3) := dk_132 3 1 (dk_at dksX0_longest_8 0 rfl rfl)
theorem dX0_longest_190 : decode cX0_longest 190 = .ok (.goto (-176), 3) := dk_167 255 80 (dk_at dksX0_longest_8 3 rfl rfl)
theorem dX0_longest_193 : decode cX0_longest 193 = .ok (.iload_n 1, 1) := dk_27 (dk_at dksX0_longest_8 6 rfl rfl)
theorem dX0_longest_194 : decode cX0_longest 194 = .ok (.ifCond .ne 10, 3) := dk_154 0 10 (dk_at dksX0_longest_8 7 rfl rfl)
theorem dX0_longest_197 : decode cX0_longest 197 = .ok (.iload_n 2, 1) := dk_28 (dk_at dksX0_longest_8 10 rfl rfl)
theorem dX0_longest_198 : decode cX0_longest 198 = .ok (.invokestatic 214, 3) := dk_184 0 214 (dk_at dksX0_longest_8 11 rfl rfl)
theorem dX0_longest_201 : decode cX0_longest 201 = .ok (.goto 21, 3) := dk_167 0 21 (dk_at dksX0_longest_8 14 rfl rfl)
theorem dX0_longest_204 : decode cX0_longest 204 = .ok (.iload_n 2, 1) := dk_28 (dk_at dksX0_longest_8 17 rfl rfl)
theorem dX0_longest_205 : decode cX0_longest 205 = .ok (.ifCond .ne 8, 3) := dk_154 0 8 (dk_at dksX0_longest_8 18 rfl rfl)
theorem dX0_longest_208 : decode cX0_longest 208 = .ok (.bipush (-2), 2) := dk_16 254 (dk_at dksX0_longest_8 21 rfl rfl)
theorem dX0_longest_210 : decode cX0_longest 210 = .ok (.goto 12, 3) := dk_167 0 12 (dk_at dksX0_longest_9 0 rfl rfl)
theorem dX0_longest_213 : decode cX0_longest 213 = .ok (.aload_n 0, 1) := dk_42 (dk_at dksX0_longest_9 3 rfl rfl)
theorem dX0_longest_214 : decode cX0_longest 214 = .ok (.getfield 87, 3) := dk_180 0 87 (dk_at dksX0_longest_9 4 rfl rfl)
theorem dX0_longest_217 : decode cX0_longest 217 = .ok (.iload_n 2, 1) := dk_28 (dk_at dksX0_longest_9 7 rfl rfl)
theorem dX0_longest_218 : decode cX0_longest 218 = .ok (.iaload, 1) := dk_46 (dk_at dksX0_longest_9 8 rfl rfl)
theorem dX0_longest_219 : decode cX0_longest 219 = .ok (.invokestatic 207, 3) := dk_184 0 207 (dk_at dksX0_longest_9 9 rfl rfl)
theorem dX0_longest_222 : decode cX0_longest 222 = .ok (.ireturn, 1) := dk_172 (dk_at dksX0_longest_9 12 rfl rfl)
abbrev cX0_luckless : ByteArray := prog_1_method_33_code
def yX0_luckless : MethodName := ⟨RX0, "luckless", "(I)I"⟩
def dkwX0_luckless_4 : List UInt8 := [28, 29, 16, 252, 160, 0, 7, 3, 167, 0, 6, 4, 29, 120, 128, 61, 132, 4, 1, 167, 255, 162, 29, 172]
abbrev dktX0_luckless_4 : List UInt8 := dkwX0_luckless_4 ++ []
def dkwX0_luckless_3 : List UInt8 := [21, 5, 46, 42, 180, 0, 63, 180, 0, 181, 29, 46, 164, 0, 6, 21, 5, 62, 132, 5, 1, 167, 255, 196]
abbrev dktX0_luckless_3 : List UInt8 := dkwX0_luckless_3 ++ dktX0_luckless_4
def dkwX0_luckless_2 : List UInt8 := [2, 130, 126, 21, 5, 184, 0, 191, 153, 0, 34, 29, 16, 252, 159, 0, 25, 42, 180, 0, 63, 180, 0, 181]
abbrev dktX0_luckless_2 : List UInt8 := dkwX0_luckless_2 ++ dktX0_luckless_3
def dkwX0_luckless_1 : List UInt8 := [163, 0, 94, 16, 252, 62, 3, 54, 5, 21, 5, 16, 16, 162, 0, 59, 42, 180, 0, 16, 180, 0, 22, 28]
abbrev dktX0_luckless_1 : List UInt8 := dkwX0_luckless_1 ++ dktX0_luckless_2
def dkwX0_luckless_0 : List UInt8 := [27, 16, 16, 184, 0, 144, 154, 0, 5, 2, 172, 3, 61, 16, 252, 62, 3, 54, 4, 21, 4, 27]
abbrev dktX0_luckless_0 : List UInt8 := dkwX0_luckless_0 ++ dktX0_luckless_1
theorem dksX0_luckless_0 : cX0_luckless.data.toList.drop 0 = dktX0_luckless_0 := by decide +kernel
theorem dksX0_luckless_1 : cX0_luckless.data.toList.drop 22 = dktX0_luckless_1 := dk_seg dksX0_luckless_0 22 rfl rfl
theorem dksX0_luckless_2 : cX0_luckless.data.toList.drop 46 = dktX0_luckless_2 := dk_seg dksX0_luckless_1 24 rfl rfl
theorem dksX0_luckless_3 : cX0_luckless.data.toList.drop 70 = dktX0_luckless_3 := dk_seg dksX0_luckless_2 24 rfl rfl
theorem dksX0_luckless_4 : cX0_luckless.data.toList.drop 94 = dktX0_luckless_4 := dk_seg dksX0_luckless_3 24 rfl rfl
theorem dX0_luckless_0 : decode cX0_luckless 0 = .ok (.iload_n 1, 1) := dk_27 (dk_at dksX0_luckless_0 0 rfl rfl)
theorem dX0_luckless_1 : decode cX0_luckless 1 = .ok (.bipush 16, 2) := dk_16 16 (dk_at dksX0_luckless_0 1 rfl rfl)
theorem dX0_luckless_3 : decode cX0_luckless 3 = .ok (.invokestatic 144, 3) := dk_184 0 144 (dk_at dksX0_luckless_0 3 rfl rfl)
theorem dX0_luckless_6 : decode cX0_luckless 6 = .ok (.ifCond .ne 5, 3) := dk_154 0 5 (dk_at dksX0_luckless_0 6 rfl rfl)
theorem dX0_luckless_9 : decode cX0_luckless 9 = .ok (.iconst (-1), 1) := dk_2 (dk_at dksX0_luckless_0 9 rfl rfl)
theorem dX0_luckless_10 : decode cX0_luckless 10 = .ok (.ireturn, 1) := dk_172 (dk_at dksX0_luckless_0 10 rfl rfl)
theorem dX0_luckless_11 : decode cX0_luckless 11 = .ok (.iconst 0, 1) := dk_3 (dk_at dksX0_luckless_0 11 rfl rfl)
theorem dX0_luckless_12 : decode cX0_luckless 12 = .ok (.istore_n 2, 1) := dk_61 (dk_at dksX0_luckless_0 12 rfl rfl)
theorem dX0_luckless_13 : decode cX0_luckless 13 = .ok (.bipush (-4), 2) := dk_16 252 (dk_at dksX0_luckless_0 13 rfl rfl)
theorem dX0_luckless_15 : decode cX0_luckless 15 = .ok (.istore_n 3, 1) := dk_62 (dk_at dksX0_luckless_0 15 rfl rfl)
theorem dX0_luckless_16 : decode cX0_luckless 16 = .ok (.iconst 0, 1) := dk_3 (dk_at dksX0_luckless_0 16 rfl rfl)
theorem dX0_luckless_17 : decode cX0_luckless 17 = .ok (.istore 4, 2) := dk_54 4 (dk_at dksX0_luckless_0 17 rfl rfl)
theorem dX0_luckless_19 : decode cX0_luckless 19 = .ok (.iload 4, 2) := dk_21 4 (dk_at dksX0_luckless_0 19 rfl rfl)
theorem dX0_luckless_21 : decode cX0_luckless 21 = .ok (.iload_n 1, 1) := dk_27 (dk_at dksX0_luckless_0 21 rfl rfl)
theorem dX0_luckless_22 : decode cX0_luckless 22 = .ok (.if_icmp .gt 94, 3) := dk_163 0 94 (dk_at dksX0_luckless_1 0 rfl rfl)
theorem dX0_luckless_25 : decode cX0_luckless 25 = .ok (.bipush (-4), 2) := dk_16 252 (dk_at dksX0_luckless_1 3 rfl rfl)
theorem dX0_luckless_27 : decode cX0_luckless 27 = .ok (.istore_n 3, 1) := dk_62 (dk_at dksX0_luckless_1 5 rfl rfl)
theorem dX0_luckless_28 : decode cX0_luckless 28 = .ok (.iconst 0, 1) := dk_3 (dk_at dksX0_luckless_1 6 rfl rfl)
theorem dX0_luckless_29 : decode cX0_luckless 29 = .ok (.istore 5, 2) := dk_54 5 (dk_at dksX0_luckless_1 7 rfl rfl)
theorem dX0_luckless_31 : decode cX0_luckless 31 = .ok (.iload 5, 2) := dk_21 5 (dk_at dksX0_luckless_1 9 rfl rfl)
theorem dX0_luckless_33 : decode cX0_luckless 33 = .ok (.bipush 16, 2) := dk_16 16 (dk_at dksX0_luckless_1 11 rfl rfl)
theorem dX0_luckless_35 : decode cX0_luckless 35 = .ok (.if_icmp .ge 59, 3) := dk_162 0 59 (dk_at dksX0_luckless_1 13 rfl rfl)
theorem dX0_luckless_38 : decode cX0_luckless 38 = .ok (.aload_n 0, 1) := dk_42 (dk_at dksX0_luckless_1 16 rfl rfl)
theorem dX0_luckless_39 : decode cX0_luckless 39 = .ok (.getfield 16, 3) := dk_180 0 16 (dk_at dksX0_luckless_1 17 rfl rfl)
theorem dX0_luckless_42 : decode cX0_luckless 42 = .ok (.getfield 22, 3) := dk_180 0 22 (dk_at dksX0_luckless_1 20 rfl rfl)
theorem dX0_luckless_45 : decode cX0_luckless 45 = .ok (.iload_n 2, 1) := dk_28 (dk_at dksX0_luckless_1 23 rfl rfl)
theorem dX0_luckless_46 : decode cX0_luckless 46 = .ok (.iconst (-1), 1) := dk_2 (dk_at dksX0_luckless_2 0 rfl rfl)
theorem dX0_luckless_47 : decode cX0_luckless 47 = .ok (.ixor, 1) := dk_130 (dk_at dksX0_luckless_2 1 rfl rfl)
theorem dX0_luckless_48 : decode cX0_luckless 48 = .ok (.iand, 1) := dk_126 (dk_at dksX0_luckless_2 2 rfl rfl)
theorem dX0_luckless_49 : decode cX0_luckless 49 = .ok (.iload 5, 2) := dk_21 5 (dk_at dksX0_luckless_2 3 rfl rfl)
theorem dX0_luckless_51 : decode cX0_luckless 51 = .ok (.invokestatic 191, 3) := dk_184 0 191 (dk_at dksX0_luckless_2 5 rfl rfl)
theorem dX0_luckless_54 : decode cX0_luckless 54 = .ok (.ifCond .eq 34, 3) := dk_153 0 34 (dk_at dksX0_luckless_2 8 rfl rfl)
theorem dX0_luckless_57 : decode cX0_luckless 57 = .ok (.iload_n 3, 1) := dk_29 (dk_at dksX0_luckless_2 11 rfl rfl)
theorem dX0_luckless_58 : decode cX0_luckless 58 = .ok (.bipush (-4), 2) := dk_16 252 (dk_at dksX0_luckless_2 12 rfl rfl)
theorem dX0_luckless_60 : decode cX0_luckless 60 = .ok (.if_icmp .eq 25, 3) := dk_159 0 25 (dk_at dksX0_luckless_2 14 rfl rfl)
theorem dX0_luckless_63 : decode cX0_luckless 63 = .ok (.aload_n 0, 1) := dk_42 (dk_at dksX0_luckless_2 17 rfl rfl)
theorem dX0_luckless_64 : decode cX0_luckless 64 = .ok (.getfield 63, 3) := dk_180 0 63 (dk_at dksX0_luckless_2 18 rfl rfl)
theorem dX0_luckless_67 : decode cX0_luckless 67 = .ok (.getfield 181, 3) := dk_180 0 181 (dk_at dksX0_luckless_2 21 rfl rfl)
theorem dX0_luckless_70 : decode cX0_luckless 70 = .ok (.iload 5, 2) := dk_21 5 (dk_at dksX0_luckless_3 0 rfl rfl)
theorem dX0_luckless_72 : decode cX0_luckless 72 = .ok (.iaload, 1) := dk_46 (dk_at dksX0_luckless_3 2 rfl rfl)
theorem dX0_luckless_73 : decode cX0_luckless 73 = .ok (.aload_n 0, 1) := dk_42 (dk_at dksX0_luckless_3 3 rfl rfl)
theorem dX0_luckless_74 : decode cX0_luckless 74 = .ok (.getfield 63, 3) := dk_180 0 63 (dk_at dksX0_luckless_3 4 rfl rfl)
theorem dX0_luckless_77 : decode cX0_luckless 77 = .ok (.getfield 181, 3) := dk_180 0 181 (dk_at dksX0_luckless_3 7 rfl rfl)
theorem dX0_luckless_80 : decode cX0_luckless 80 = .ok (.iload_n 3, 1) := dk_29 (dk_at dksX0_luckless_3 10 rfl rfl)
theorem dX0_luckless_81 : decode cX0_luckless 81 = .ok (.iaload, 1) := dk_46 (dk_at dksX0_luckless_3 11 rfl rfl)
theorem dX0_luckless_82 : decode cX0_luckless 82 = .ok (.if_icmp .le 6, 3) := dk_164 0 6 (dk_at dksX0_luckless_3 12 rfl rfl)
theorem dX0_luckless_85 : decode cX0_luckless 85 = .ok (.iload 5, 2) := dk_21 5 (dk_at dksX0_luckless_3 15 rfl rfl)
theorem dX0_luckless_87 : decode cX0_luckless 87 = .ok (.istore_n 3, 1) := dk_62 (dk_at dksX0_luckless_3 17 rfl rfl)
theorem dX0_luckless_88 : decode cX0_luckless 88 = .ok (.iinc 5 1, 3) := dk_132 5 1 (dk_at dksX0_luckless_3 18 rfl rfl)
theorem dX0_luckless_91 : decode cX0_luckless 91 = .ok (.goto (-60), 3) := dk_167 255 196 (dk_at dksX0_luckless_3 21 rfl rfl)
theorem dX0_luckless_94 : decode cX0_luckless 94 = .ok (.iload_n 2, 1) := dk_28 (dk_at dksX0_luckless_4 0 rfl rfl)
theorem dX0_luckless_95 : decode cX0_luckless 95 = .ok (.iload_n 3, 1) := dk_29 (dk_at dksX0_luckless_4 1 rfl rfl)
theorem dX0_luckless_96 : decode cX0_luckless 96 = .ok (.bipush (-4), 2) := dk_16 252 (dk_at dksX0_luckless_4 2 rfl rfl)
theorem dX0_luckless_98 : decode cX0_luckless 98 = .ok (.if_icmp .ne 7, 3) := dk_160 0 7 (dk_at dksX0_luckless_4 4 rfl rfl)
theorem dX0_luckless_101 : decode cX0_luckless 101 = .ok (.iconst 0, 1) := dk_3 (dk_at dksX0_luckless_4 7 rfl rfl)
theorem dX0_luckless_102 : decode cX0_luckless 102 = .ok (.goto 6, 3) := dk_167 0 6 (dk_at dksX0_luckless_4 8 rfl rfl)
theorem dX0_luckless_105 : decode cX0_luckless 105 = .ok (.iconst 1, 1) := dk_4 (dk_at dksX0_luckless_4 11 rfl rfl)
theorem dX0_luckless_106 : decode cX0_luckless 106 = .ok (.iload_n 3, 1) := dk_29 (dk_at dksX0_luckless_4 12 rfl rfl)
theorem dX0_luckless_107 : decode cX0_luckless 107 = .ok (.ishl, 1) := dk_120 (dk_at dksX0_luckless_4 13 rfl rfl)
theorem dX0_luckless_108 : decode cX0_luckless 108 = .ok (.ior, 1) := dk_128 (dk_at dksX0_luckless_4 14 rfl rfl)
theorem dX0_luckless_109 : decode cX0_luckless 109 = .ok (.istore_n 2, 1) := dk_61 (dk_at dksX0_luckless_4 15 rfl rfl)
theorem dX0_luckless_110 : decode cX0_luckless 110 = .ok (.iinc 4 1, 3) := dk_132 4 1 (dk_at dksX0_luckless_4 16 rfl rfl)
theorem dX0_luckless_113 : decode cX0_luckless 113 = .ok (.goto (-94), 3) := dk_167 255 162 (dk_at dksX0_luckless_4 19 rfl rfl)
theorem dX0_luckless_116 : decode cX0_luckless 116 = .ok (.iload_n 3, 1) := dk_29 (dk_at dksX0_luckless_4 22 rfl rfl)
theorem dX0_luckless_117 : decode cX0_luckless 117 = .ok (.ireturn, 1) := dk_172 (dk_at dksX0_luckless_4 23 rfl rfl)
abbrev cX0_meeting : ByteArray := prog_1_method_35_code
def yX0_meeting : MethodName := ⟨RX0, "meeting", "(I)I"⟩
def dkwX0_meeting_2 : List UInt8 := [167, 0, 8, 42, 28, 182, 0, 241, 172]
abbrev dktX0_meeting_2 : List UInt8 := dkwX0_meeting_2 ++ []
def dkwX0_meeting_1 : List UInt8 := [182, 0, 241, 42, 28, 182, 0, 241, 162, 0, 5, 29, 61, 132, 3, 1, 167, 255, 232, 27, 154, 0, 7, 28]
abbrev dktX0_meeting_1 : List UInt8 := dkwX0_meeting_1 ++ dktX0_meeting_2
def dkwX0_meeting_0 : List UInt8 := [27, 5, 184, 0, 144, 154, 0, 5, 2, 172, 3, 61, 4, 62, 29, 16, 100, 162, 0, 24, 42, 29]
abbrev dktX0_meeting_0 : List UInt8 := dkwX0_meeting_0 ++ dktX0_meeting_1
theorem dksX0_meeting_0 : cX0_meeting.data.toList.drop 0 = dktX0_meeting_0 := by decide +kernel
theorem dksX0_meeting_1 : cX0_meeting.data.toList.drop 22 = dktX0_meeting_1 := dk_seg dksX0_meeting_0 22 rfl rfl
theorem dksX0_meeting_2 : cX0_meeting.data.toList.drop 46 = dktX0_meeting_2 := dk_seg dksX0_meeting_1 24 rfl rfl
theorem dX0_meeting_0 : decode cX0_meeting 0 = .ok (.iload_n 1, 1) := dk_27 (dk_at dksX0_meeting_0 0 rfl rfl)
theorem dX0_meeting_1 : decode cX0_meeting 1 = .ok (.iconst 2, 1) := dk_5 (dk_at dksX0_meeting_0 1 rfl rfl)
theorem dX0_meeting_2 : decode cX0_meeting 2 = .ok (.invokestatic 144, 3) := dk_184 0 144 (dk_at dksX0_meeting_0 2 rfl rfl)
theorem dX0_meeting_5 : decode cX0_meeting 5 = .ok (.ifCond .ne 5, 3) := dk_154 0 5 (dk_at dksX0_meeting_0 5 rfl rfl)
theorem dX0_meeting_8 : decode cX0_meeting 8 = .ok (.iconst (-1), 1) := dk_2 (dk_at dksX0_meeting_0 8 rfl rfl)
theorem dX0_meeting_9 : decode cX0_meeting 9 = .ok (.ireturn, 1) := dk_172 (dk_at dksX0_meeting_0 9 rfl rfl)
theorem dX0_meeting_10 : decode cX0_meeting 10 = .ok (.iconst 0, 1) := dk_3 (dk_at dksX0_meeting_0 10 rfl rfl)
theorem dX0_meeting_11 : decode cX0_meeting 11 = .ok (.istore_n 2, 1) := dk_61 (dk_at dksX0_meeting_0 11 rfl rfl)
theorem dX0_meeting_12 : decode cX0_meeting 12 = .ok (.iconst 1, 1) := dk_4 (dk_at dksX0_meeting_0 12 rfl rfl)
theorem dX0_meeting_13 : decode cX0_meeting 13 = .ok (.istore_n 3, 1) := dk_62 (dk_at dksX0_meeting_0 13 rfl rfl)
theorem dX0_meeting_14 : decode cX0_meeting 14 = .ok (.iload_n 3, 1) := dk_29 (dk_at dksX0_meeting_0 14 rfl rfl)
theorem dX0_meeting_15 : decode cX0_meeting 15 = .ok (.bipush 100, 2) := dk_16 100 (dk_at dksX0_meeting_0 15 rfl rfl)
theorem dX0_meeting_17 : decode cX0_meeting 17 = .ok (.if_icmp .ge 24, 3) := dk_162 0 24 (dk_at dksX0_meeting_0 17 rfl rfl)
theorem dX0_meeting_20 : decode cX0_meeting 20 = .ok (.aload_n 0, 1) := dk_42 (dk_at dksX0_meeting_0 20 rfl rfl)
theorem dX0_meeting_21 : decode cX0_meeting 21 = .ok (.iload_n 3, 1) := dk_29 (dk_at dksX0_meeting_0 21 rfl rfl)
theorem dX0_meeting_22 : decode cX0_meeting 22 = .ok (.invokevirtual 241, 3) := dk_182 0 241 (dk_at dksX0_meeting_1 0 rfl rfl)
theorem dX0_meeting_25 : decode cX0_meeting 25 = .ok (.aload_n 0, 1) := dk_42 (dk_at dksX0_meeting_1 3 rfl rfl)
theorem dX0_meeting_26 : decode cX0_meeting 26 = .ok (.iload_n 2, 1) := dk_28 (dk_at dksX0_meeting_1 4 rfl rfl)
theorem dX0_meeting_27 : decode cX0_meeting 27 = .ok (.invokevirtual 241, 3) := dk_182 0 241 (dk_at dksX0_meeting_1 5 rfl rfl)
theorem dX0_meeting_30 : decode cX0_meeting 30 = .ok (.if_icmp .ge 5, 3) := dk_162 0 5 (dk_at dksX0_meeting_1 8 rfl rfl)
theorem dX0_meeting_33 : decode cX0_meeting 33 = .ok (.iload_n 3, 1) := dk_29 (dk_at dksX0_meeting_1 11 rfl rfl)
theorem dX0_meeting_34 : decode cX0_meeting 34 = .ok (.istore_n 2, 1) := dk_61 (dk_at dksX0_meeting_1 12 rfl rfl)
theorem dX0_meeting_35 : decode cX0_meeting 35 = .ok (.iinc 3 1, 3) := dk_132 3 1 (dk_at dksX0_meeting_1 13 rfl rfl)
theorem dX0_meeting_38 : decode cX0_meeting 38 = .ok (.goto (-24), 3) := dk_167 255 232 (dk_at dksX0_meeting_1 16 rfl rfl)
theorem dX0_meeting_41 : decode cX0_meeting 41 = .ok (.iload_n 1, 1) := dk_27 (dk_at dksX0_meeting_1 19 rfl rfl)
theorem dX0_meeting_42 : decode cX0_meeting 42 = .ok (.ifCond .ne 7, 3) := dk_154 0 7 (dk_at dksX0_meeting_1 20 rfl rfl)
theorem dX0_meeting_45 : decode cX0_meeting 45 = .ok (.iload_n 2, 1) := dk_28 (dk_at dksX0_meeting_1 23 rfl rfl)
theorem dX0_meeting_46 : decode cX0_meeting 46 = .ok (.goto 8, 3) := dk_167 0 8 (dk_at dksX0_meeting_2 0 rfl rfl)
theorem dX0_meeting_49 : decode cX0_meeting 49 = .ok (.aload_n 0, 1) := dk_42 (dk_at dksX0_meeting_2 3 rfl rfl)
theorem dX0_meeting_50 : decode cX0_meeting 50 = .ok (.iload_n 2, 1) := dk_28 (dk_at dksX0_meeting_2 4 rfl rfl)
theorem dX0_meeting_51 : decode cX0_meeting 51 = .ok (.invokevirtual 241, 3) := dk_182 0 241 (dk_at dksX0_meeting_2 5 rfl rfl)
theorem dX0_meeting_54 : decode cX0_meeting 54 = .ok (.ireturn, 1) := dk_172 (dk_at dksX0_meeting_2 8 rfl rfl)
abbrev cX0_stepsTo : ByteArray := prog_1_method_34_code
def yX0_stepsTo : MethodName := ⟨RX0, "stepsTo", "(I)I"⟩
def dkwX0_stepsTo_2 : List UInt8 := [167, 255, 215, 28, 172]
abbrev dktX0_stepsTo_2 : List UInt8 := dkwX0_stepsTo_2 ++ []
def dkwX0_stepsTo_1 : List UInt8 := [180, 0, 16, 180, 0, 188, 29, 46, 27, 100, 184, 0, 238, 167, 0, 4, 3, 96, 61, 132, 3, 1]
abbrev dktX0_stepsTo_1 : List UInt8 := dkwX0_stepsTo_1 ++ dktX0_stepsTo_2
def dkwX0_stepsTo_0 : List UInt8 := [3, 61, 3, 62, 29, 16, 16, 162, 0, 41, 28, 42, 180, 0, 16, 29, 182, 0, 168, 153, 0, 20, 42]
abbrev dktX0_stepsTo_0 : List UInt8 := dkwX0_stepsTo_0 ++ dktX0_stepsTo_1
theorem dksX0_stepsTo_0 : cX0_stepsTo.data.toList.drop 0 = dktX0_stepsTo_0 := by decide +kernel
theorem dksX0_stepsTo_1 : cX0_stepsTo.data.toList.drop 23 = dktX0_stepsTo_1 := dk_seg dksX0_stepsTo_0 23 rfl rfl
theorem dksX0_stepsTo_2 : cX0_stepsTo.data.toList.drop 45 = dktX0_stepsTo_2 := dk_seg dksX0_stepsTo_1 22 rfl rfl
theorem dX0_stepsTo_0 : decode cX0_stepsTo 0 = .ok (.iconst 0, 1) := dk_3 (dk_at dksX0_stepsTo_0 0 rfl rfl)
theorem dX0_stepsTo_1 : decode cX0_stepsTo 1 = .ok (.istore_n 2, 1) := dk_61 (dk_at dksX0_stepsTo_0 1 rfl rfl)
theorem dX0_stepsTo_2 : decode cX0_stepsTo 2 = .ok (.iconst 0, 1) := dk_3 (dk_at dksX0_stepsTo_0 2 rfl rfl)
theorem dX0_stepsTo_3 : decode cX0_stepsTo 3 = .ok (.istore_n 3, 1) := dk_62 (dk_at dksX0_stepsTo_0 3 rfl rfl)
theorem dX0_stepsTo_4 : decode cX0_stepsTo 4 = .ok (.iload_n 3, 1) := dk_29 (dk_at dksX0_stepsTo_0 4 rfl rfl)
theorem dX0_stepsTo_5 : decode cX0_stepsTo 5 = .ok (.bipush 16, 2) := dk_16 16 (dk_at dksX0_stepsTo_0 5 rfl rfl)
theorem dX0_stepsTo_7 : decode cX0_stepsTo 7 = .ok (.if_icmp .ge 41, 3) := dk_162 0 41 (dk_at dksX0_stepsTo_0 7 rfl rfl)
theorem dX0_stepsTo_10 : decode cX0_stepsTo 10 = .ok (.iload_n 2, 1) := dk_28 (dk_at dksX0_stepsTo_0 10 rfl rfl)
theorem dX0_stepsTo_11 : decode cX0_stepsTo 11 = .ok (.aload_n 0, 1) := dk_42 (dk_at dksX0_stepsTo_0 11 rfl rfl)
theorem dX0_stepsTo_12 : decode cX0_stepsTo 12 = .ok (.getfield 16, 3) := dk_180 0 16 (dk_at dksX0_stepsTo_0 12 rfl rfl)
theorem dX0_stepsTo_15 : decode cX0_stepsTo 15 = .ok (.iload_n 3, 1) := dk_29 (dk_at dksX0_stepsTo_0 15 rfl rfl)
theorem dX0_stepsTo_16 : decode cX0_stepsTo 16 = .ok (.invokevirtual 168, 3) := dk_182 0 168 (dk_at dksX0_stepsTo_0 16 rfl rfl)
theorem dX0_stepsTo_19 : decode cX0_stepsTo 19 = .ok (.ifCond .eq 20, 3) := dk_153 0 20 (dk_at dksX0_stepsTo_0 19 rfl rfl)
theorem dX0_stepsTo_22 : decode cX0_stepsTo 22 = .ok (.aload_n 0, 1) := dk_42 (dk_at dksX0_stepsTo_0 22 rfl rfl)
theorem dX0_stepsTo_23 : decode cX0_stepsTo 23 = .ok (.getfield 16, 3) := dk_180 0 16 (dk_at dksX0_stepsTo_1 0 rfl rfl)
theorem dX0_stepsTo_26 : decode cX0_stepsTo 26 = .ok (.getfield 188, 3) := dk_180 0 188 (dk_at dksX0_stepsTo_1 3 rfl rfl)
theorem dX0_stepsTo_29 : decode cX0_stepsTo 29 = .ok (.iload_n 3, 1) := dk_29 (dk_at dksX0_stepsTo_1 6 rfl rfl)
theorem dX0_stepsTo_30 : decode cX0_stepsTo 30 = .ok (.iaload, 1) := dk_46 (dk_at dksX0_stepsTo_1 7 rfl rfl)
theorem dX0_stepsTo_31 : decode cX0_stepsTo 31 = .ok (.iload_n 1, 1) := dk_27 (dk_at dksX0_stepsTo_1 8 rfl rfl)
theorem dX0_stepsTo_32 : decode cX0_stepsTo 32 = .ok (.isub, 1) := dk_100 (dk_at dksX0_stepsTo_1 9 rfl rfl)
theorem dX0_stepsTo_33 : decode cX0_stepsTo 33 = .ok (.invokestatic 238, 3) := dk_184 0 238 (dk_at dksX0_stepsTo_1 10 rfl rfl)
theorem dX0_stepsTo_36 : decode cX0_stepsTo 36 = .ok (.goto 4, 3) := dk_167 0 4 (dk_at dksX0_stepsTo_1 13 rfl rfl)
theorem dX0_stepsTo_39 : decode cX0_stepsTo 39 = .ok (.iconst 0, 1) := dk_3 (dk_at dksX0_stepsTo_1 16 rfl rfl)
theorem dX0_stepsTo_40 : decode cX0_stepsTo 40 = .ok (.iadd, 1) := dk_96 (dk_at dksX0_stepsTo_1 17 rfl rfl)
theorem dX0_stepsTo_41 : decode cX0_stepsTo 41 = .ok (.istore_n 2, 1) := dk_61 (dk_at dksX0_stepsTo_1 18 rfl rfl)
theorem dX0_stepsTo_42 : decode cX0_stepsTo 42 = .ok (.iinc 3 1, 3) := dk_132 3 1 (dk_at dksX0_stepsTo_1 19 rfl rfl)
theorem dX0_stepsTo_45 : decode cX0_stepsTo 45 = .ok (.goto (-41), 3) := dk_167 255 215 (dk_at dksX0_stepsTo_2 0 rfl rfl)
theorem dX0_stepsTo_48 : decode cX0_stepsTo 48 = .ok (.iload_n 2, 1) := dk_28 (dk_at dksX0_stepsTo_2 3 rfl rfl)
theorem dX0_stepsTo_49 : decode cX0_stepsTo 49 = .ok (.ireturn, 1) := dk_172 (dk_at dksX0_stepsTo_2 4 rfl rfl)
abbrev cX0_stretch : ByteArray := prog_1_method_36_code
def yX0_stretch : MethodName := ⟨RX0, "stretch", "(I)I"⟩
def dkwX0_stretch_3 : List UInt8 := [54, 4, 132, 5, 1, 167, 255, 204, 27, 154, 0, 7, 28, 167, 0, 4, 29, 172]
abbrev dktX0_stretch_3 : List UInt8 := dkwX0_stretch_3 ++ []
def dkwX0_stretch_2 : List UInt8 := [159, 0, 21, 21, 5, 21, 4, 100, 28, 164, 0, 12, 21, 5, 21, 4, 100, 61, 21, 4, 62, 21, 5]
abbrev dktX0_stretch_2 : List UInt8 := dkwX0_stretch_2 ++ dktX0_stretch_3
def dkwX0_stretch_1 : List UInt8 := [16, 100, 162, 0, 51, 42, 21, 5, 21, 5, 182, 0, 244, 154, 0, 6, 167, 0, 31, 21, 4, 2]
abbrev dktX0_stretch_1 : List UInt8 := dkwX0_stretch_1 ++ dktX0_stretch_2
def dkwX0_stretch_0 : List UInt8 := [27, 5, 184, 0, 144, 154, 0, 5, 2, 172, 3, 61, 16, 254, 62, 2, 54, 4, 3, 54, 5, 21, 5]
abbrev dktX0_stretch_0 : List UInt8 := dkwX0_stretch_0 ++ dktX0_stretch_1
theorem dksX0_stretch_0 : cX0_stretch.data.toList.drop 0 = dktX0_stretch_0 := by decide +kernel
theorem dksX0_stretch_1 : cX0_stretch.data.toList.drop 23 = dktX0_stretch_1 := dk_seg dksX0_stretch_0 23 rfl rfl
theorem dksX0_stretch_2 : cX0_stretch.data.toList.drop 45 = dktX0_stretch_2 := dk_seg dksX0_stretch_1 22 rfl rfl
theorem dksX0_stretch_3 : cX0_stretch.data.toList.drop 68 = dktX0_stretch_3 := dk_seg dksX0_stretch_2 23 rfl rfl
theorem dX0_stretch_0 : decode cX0_stretch 0 = .ok (.iload_n 1, 1) := dk_27 (dk_at dksX0_stretch_0 0 rfl rfl)
theorem dX0_stretch_1 : decode cX0_stretch 1 = .ok (.iconst 2, 1) := dk_5 (dk_at dksX0_stretch_0 1 rfl rfl)
theorem dX0_stretch_2 : decode cX0_stretch 2 = .ok (.invokestatic 144, 3) := dk_184 0 144 (dk_at dksX0_stretch_0 2 rfl rfl)
theorem dX0_stretch_5 : decode cX0_stretch 5 = .ok (.ifCond .ne 5, 3) := dk_154 0 5 (dk_at dksX0_stretch_0 5 rfl rfl)
theorem dX0_stretch_8 : decode cX0_stretch 8 = .ok (.iconst (-1), 1) := dk_2 (dk_at dksX0_stretch_0 8 rfl rfl)
theorem dX0_stretch_9 : decode cX0_stretch 9 = .ok (.ireturn, 1) := dk_172 (dk_at dksX0_stretch_0 9 rfl rfl)
theorem dX0_stretch_10 : decode cX0_stretch 10 = .ok (.iconst 0, 1) := dk_3 (dk_at dksX0_stretch_0 10 rfl rfl)
theorem dX0_stretch_11 : decode cX0_stretch 11 = .ok (.istore_n 2, 1) := dk_61 (dk_at dksX0_stretch_0 11 rfl rfl)
theorem dX0_stretch_12 : decode cX0_stretch 12 = .ok (.bipush (-2), 2) := dk_16 254 (dk_at dksX0_stretch_0 12 rfl rfl)
theorem dX0_stretch_14 : decode cX0_stretch 14 = .ok (.istore_n 3, 1) := dk_62 (dk_at dksX0_stretch_0 14 rfl rfl)
theorem dX0_stretch_15 : decode cX0_stretch 15 = .ok (.iconst (-1), 1) := dk_2 (dk_at dksX0_stretch_0 15 rfl rfl)
theorem dX0_stretch_16 : decode cX0_stretch 16 = .ok (.istore 4, 2) := dk_54 4 (dk_at dksX0_stretch_0 16 rfl rfl)
theorem dX0_stretch_18 : decode cX0_stretch 18 = .ok (.iconst 0, 1) := dk_3 (dk_at dksX0_stretch_0 18 rfl rfl)
theorem dX0_stretch_19 : decode cX0_stretch 19 = .ok (.istore 5, 2) := dk_54 5 (dk_at dksX0_stretch_0 19 rfl rfl)
theorem dX0_stretch_21 : decode cX0_stretch 21 = .ok (.iload 5, 2) := dk_21 5 (dk_at dksX0_stretch_0 21 rfl rfl)
theorem dX0_stretch_23 : decode cX0_stretch 23 = .ok (.bipush 100, 2) := dk_16 100 (dk_at dksX0_stretch_1 0 rfl rfl)
theorem dX0_stretch_25 : decode cX0_stretch 25 = .ok (.if_icmp .ge 51, 3) := dk_162 0 51 (dk_at dksX0_stretch_1 2 rfl rfl)
theorem dX0_stretch_28 : decode cX0_stretch 28 = .ok (.aload_n 0, 1) := dk_42 (dk_at dksX0_stretch_1 5 rfl rfl)
theorem dX0_stretch_29 : decode cX0_stretch 29 = .ok (.iload 5, 2) := dk_21 5 (dk_at dksX0_stretch_1 6 rfl rfl)
theorem dX0_stretch_31 : decode cX0_stretch 31 = .ok (.iload 5, 2) := dk_21 5 (dk_at dksX0_stretch_1 8 rfl rfl)
theorem dX0_stretch_33 : decode cX0_stretch 33 = .ok (.invokevirtual 244, 3) := dk_182 0 244 (dk_at dksX0_stretch_1 10 rfl rfl)
theorem dX0_stretch_36 : decode cX0_stretch 36 = .ok (.ifCond .ne 6, 3) := dk_154 0 6 (dk_at dksX0_stretch_1 13 rfl rfl)
theorem dX0_stretch_39 : decode cX0_stretch 39 = .ok (.goto 31, 3) := dk_167 0 31 (dk_at dksX0_stretch_1 16 rfl rfl)
theorem dX0_stretch_42 : decode cX0_stretch 42 = .ok (.iload 4, 2) := dk_21 4 (dk_at dksX0_stretch_1 19 rfl rfl)
theorem dX0_stretch_44 : decode cX0_stretch 44 = .ok (.iconst (-1), 1) := dk_2 (dk_at dksX0_stretch_1 21 rfl rfl)
theorem dX0_stretch_45 : decode cX0_stretch 45 = .ok (.if_icmp .eq 21, 3) := dk_159 0 21 (dk_at dksX0_stretch_2 0 rfl rfl)
theorem dX0_stretch_48 : decode cX0_stretch 48 = .ok (.iload 5, 2) := dk_21 5 (dk_at dksX0_stretch_2 3 rfl rfl)
theorem dX0_stretch_50 : decode cX0_stretch 50 = .ok (.iload 4, 2) := dk_21 4 (dk_at dksX0_stretch_2 5 rfl rfl)
theorem dX0_stretch_52 : decode cX0_stretch 52 = .ok (.isub, 1) := dk_100 (dk_at dksX0_stretch_2 7 rfl rfl)
theorem dX0_stretch_53 : decode cX0_stretch 53 = .ok (.iload_n 2, 1) := dk_28 (dk_at dksX0_stretch_2 8 rfl rfl)
theorem dX0_stretch_54 : decode cX0_stretch 54 = .ok (.if_icmp .le 12, 3) := dk_164 0 12 (dk_at dksX0_stretch_2 9 rfl rfl)
theorem dX0_stretch_57 : decode cX0_stretch 57 = .ok (.iload 5, 2) := dk_21 5 (dk_at dksX0_stretch_2 12 rfl rfl)
theorem dX0_stretch_59 : decode cX0_stretch 59 = .ok (.iload 4, 2) := dk_21 4 (dk_at dksX0_stretch_2 14 rfl rfl)
theorem dX0_stretch_61 : decode cX0_stretch 61 = .ok (.isub, 1) := dk_100 (dk_at dksX0_stretch_2 16 rfl rfl)
theorem dX0_stretch_62 : decode cX0_stretch 62 = .ok (.istore_n 2, 1) := dk_61 (dk_at dksX0_stretch_2 17 rfl rfl)
theorem dX0_stretch_63 : decode cX0_stretch 63 = .ok (.iload 4, 2) := dk_21 4 (dk_at dksX0_stretch_2 18 rfl rfl)
theorem dX0_stretch_65 : decode cX0_stretch 65 = .ok (.istore_n 3, 1) := dk_62 (dk_at dksX0_stretch_2 20 rfl rfl)
theorem dX0_stretch_66 : decode cX0_stretch 66 = .ok (.iload 5, 2) := dk_21 5 (dk_at dksX0_stretch_2 21 rfl rfl)
theorem dX0_stretch_68 : decode cX0_stretch 68 = .ok (.istore 4, 2) := dk_54 4 (dk_at dksX0_stretch_3 0 rfl rfl)
theorem dX0_stretch_70 : decode cX0_stretch 70 = .ok (.iinc 5 1, 3) := dk_132 5 1 (dk_at dksX0_stretch_3 2 rfl rfl)
theorem dX0_stretch_73 : decode cX0_stretch 73 = .ok (.goto (-52), 3) := dk_167 255 204 (dk_at dksX0_stretch_3 5 rfl rfl)
theorem dX0_stretch_76 : decode cX0_stretch 76 = .ok (.iload_n 1, 1) := dk_27 (dk_at dksX0_stretch_3 8 rfl rfl)
theorem dX0_stretch_77 : decode cX0_stretch 77 = .ok (.ifCond .ne 7, 3) := dk_154 0 7 (dk_at dksX0_stretch_3 9 rfl rfl)
theorem dX0_stretch_80 : decode cX0_stretch 80 = .ok (.iload_n 2, 1) := dk_28 (dk_at dksX0_stretch_3 12 rfl rfl)
theorem dX0_stretch_81 : decode cX0_stretch 81 = .ok (.goto 4, 3) := dk_167 0 4 (dk_at dksX0_stretch_3 13 rfl rfl)
theorem dX0_stretch_84 : decode cX0_stretch 84 = .ok (.iload_n 3, 1) := dk_29 (dk_at dksX0_stretch_3 16 rfl rfl)
theorem dX0_stretch_85 : decode cX0_stretch 85 = .ok (.ireturn, 1) := dk_172 (dk_at dksX0_stretch_3 17 rfl rfl)
abbrev cX0_between : ByteArray := prog_1_method_53_code
def yX0_between : MethodName := ⟨RX0, "between", "(II)I"⟩
def dkwX0_between_3 : List UInt8 := [153, 0, 10, 4, 21, 4, 120, 167, 0, 4, 3, 128, 62, 132, 4, 1, 167, 255, 197, 29, 172]
abbrev dktX0_between_3 : List UInt8 := dkwX0_between_3 ++ []
def dkwX0_between_2 : List UInt8 := [180, 0, 16, 180, 0, 188, 21, 4, 46, 27, 28, 184, 0, 1, 27, 28, 184, 0, 7, 184, 0, 120]
abbrev dktX0_between_2 : List UInt8 := dkwX0_between_2 ++ dktX0_between_3
def dkwX0_between_1 : List UInt8 := [54, 4, 21, 4, 16, 16, 162, 0, 58, 29, 42, 180, 0, 16, 21, 4, 182, 0, 168, 153, 0, 36, 42]
abbrev dktX0_between_1 : List UInt8 := dkwX0_between_1 ++ dktX0_between_2
def dkwX0_between_0 : List UInt8 := [27, 16, 100, 184, 0, 144, 153, 0, 12, 28, 16, 100, 184, 0, 144, 154, 0, 5, 2, 172, 3, 62, 3]
abbrev dktX0_between_0 : List UInt8 := dkwX0_between_0 ++ dktX0_between_1
theorem dksX0_between_0 : cX0_between.data.toList.drop 0 = dktX0_between_0 := by decide +kernel
theorem dksX0_between_1 : cX0_between.data.toList.drop 23 = dktX0_between_1 := dk_seg dksX0_between_0 23 rfl rfl
theorem dksX0_between_2 : cX0_between.data.toList.drop 46 = dktX0_between_2 := dk_seg dksX0_between_1 23 rfl rfl
theorem dksX0_between_3 : cX0_between.data.toList.drop 68 = dktX0_between_3 := dk_seg dksX0_between_2 22 rfl rfl
theorem dX0_between_0 : decode cX0_between 0 = .ok (.iload_n 1, 1) := dk_27 (dk_at dksX0_between_0 0 rfl rfl)
theorem dX0_between_1 : decode cX0_between 1 = .ok (.bipush 100, 2) := dk_16 100 (dk_at dksX0_between_0 1 rfl rfl)
theorem dX0_between_3 : decode cX0_between 3 = .ok (.invokestatic 144, 3) := dk_184 0 144 (dk_at dksX0_between_0 3 rfl rfl)
theorem dX0_between_6 : decode cX0_between 6 = .ok (.ifCond .eq 12, 3) := dk_153 0 12 (dk_at dksX0_between_0 6 rfl rfl)
theorem dX0_between_9 : decode cX0_between 9 = .ok (.iload_n 2, 1) := dk_28 (dk_at dksX0_between_0 9 rfl rfl)
theorem dX0_between_10 : decode cX0_between 10 = .ok (.bipush 100, 2) := dk_16 100 (dk_at dksX0_between_0 10 rfl rfl)
theorem dX0_between_12 : decode cX0_between 12 = .ok (.invokestatic 144, 3) := dk_184 0 144 (dk_at dksX0_between_0 12 rfl rfl)
theorem dX0_between_15 : decode cX0_between 15 = .ok (.ifCond .ne 5, 3) := dk_154 0 5 (dk_at dksX0_between_0 15 rfl rfl)
theorem dX0_between_18 : decode cX0_between 18 = .ok (.iconst (-1), 1) := dk_2 (dk_at dksX0_between_0 18 rfl rfl)
theorem dX0_between_19 : decode cX0_between 19 = .ok (.ireturn, 1) := dk_172 (dk_at dksX0_between_0 19 rfl rfl)
theorem dX0_between_20 : decode cX0_between 20 = .ok (.iconst 0, 1) := dk_3 (dk_at dksX0_between_0 20 rfl rfl)
theorem dX0_between_21 : decode cX0_between 21 = .ok (.istore_n 3, 1) := dk_62 (dk_at dksX0_between_0 21 rfl rfl)
theorem dX0_between_22 : decode cX0_between 22 = .ok (.iconst 0, 1) := dk_3 (dk_at dksX0_between_0 22 rfl rfl)
theorem dX0_between_23 : decode cX0_between 23 = .ok (.istore 4, 2) := dk_54 4 (dk_at dksX0_between_1 0 rfl rfl)
theorem dX0_between_25 : decode cX0_between 25 = .ok (.iload 4, 2) := dk_21 4 (dk_at dksX0_between_1 2 rfl rfl)
theorem dX0_between_27 : decode cX0_between 27 = .ok (.bipush 16, 2) := dk_16 16 (dk_at dksX0_between_1 4 rfl rfl)
theorem dX0_between_29 : decode cX0_between 29 = .ok (.if_icmp .ge 58, 3) := dk_162 0 58 (dk_at dksX0_between_1 6 rfl rfl)
theorem dX0_between_32 : decode cX0_between 32 = .ok (.iload_n 3, 1) := dk_29 (dk_at dksX0_between_1 9 rfl rfl)
theorem dX0_between_33 : decode cX0_between 33 = .ok (.aload_n 0, 1) := dk_42 (dk_at dksX0_between_1 10 rfl rfl)
theorem dX0_between_34 : decode cX0_between 34 = .ok (.getfield 16, 3) := dk_180 0 16 (dk_at dksX0_between_1 11 rfl rfl)
theorem dX0_between_37 : decode cX0_between 37 = .ok (.iload 4, 2) := dk_21 4 (dk_at dksX0_between_1 14 rfl rfl)
theorem dX0_between_39 : decode cX0_between 39 = .ok (.invokevirtual 168, 3) := dk_182 0 168 (dk_at dksX0_between_1 16 rfl rfl)
theorem dX0_between_42 : decode cX0_between 42 = .ok (.ifCond .eq 36, 3) := dk_153 0 36 (dk_at dksX0_between_1 19 rfl rfl)
theorem dX0_between_45 : decode cX0_between 45 = .ok (.aload_n 0, 1) := dk_42 (dk_at dksX0_between_1 22 rfl rfl)
theorem dX0_between_46 : decode cX0_between 46 = .ok (.getfield 16, 3) := dk_180 0 16 (dk_at dksX0_between_2 0 rfl rfl)
theorem dX0_between_49 : decode cX0_between 49 = .ok (.getfield 188, 3) := dk_180 0 188 (dk_at dksX0_between_2 3 rfl rfl)
theorem dX0_between_52 : decode cX0_between 52 = .ok (.iload 4, 2) := dk_21 4 (dk_at dksX0_between_2 6 rfl rfl)
theorem dX0_between_54 : decode cX0_between 54 = .ok (.iaload, 1) := dk_46 (dk_at dksX0_between_2 8 rfl rfl)
theorem dX0_between_55 : decode cX0_between 55 = .ok (.iload_n 1, 1) := dk_27 (dk_at dksX0_between_2 9 rfl rfl)
theorem dX0_between_56 : decode cX0_between 56 = .ok (.iload_n 2, 1) := dk_28 (dk_at dksX0_between_2 10 rfl rfl)
theorem dX0_between_57 : decode cX0_between 57 = .ok (.invokestatic 1, 3) := dk_184 0 1 (dk_at dksX0_between_2 11 rfl rfl)
theorem dX0_between_60 : decode cX0_between 60 = .ok (.iload_n 1, 1) := dk_27 (dk_at dksX0_between_2 14 rfl rfl)
theorem dX0_between_61 : decode cX0_between 61 = .ok (.iload_n 2, 1) := dk_28 (dk_at dksX0_between_2 15 rfl rfl)
theorem dX0_between_62 : decode cX0_between 62 = .ok (.invokestatic 7, 3) := dk_184 0 7 (dk_at dksX0_between_2 16 rfl rfl)
theorem dX0_between_65 : decode cX0_between 65 = .ok (.invokestatic 120, 3) := dk_184 0 120 (dk_at dksX0_between_2 19 rfl rfl)
theorem dX0_between_68 : decode cX0_between 68 = .ok (.ifCond .eq 10, 3) := dk_153 0 10 (dk_at dksX0_between_3 0 rfl rfl)
theorem dX0_between_71 : decode cX0_between 71 = .ok (.iconst 1, 1) := dk_4 (dk_at dksX0_between_3 3 rfl rfl)
theorem dX0_between_72 : decode cX0_between 72 = .ok (.iload 4, 2) := dk_21 4 (dk_at dksX0_between_3 4 rfl rfl)
theorem dX0_between_74 : decode cX0_between 74 = .ok (.ishl, 1) := dk_120 (dk_at dksX0_between_3 6 rfl rfl)
theorem dX0_between_75 : decode cX0_between 75 = .ok (.goto 4, 3) := dk_167 0 4 (dk_at dksX0_between_3 7 rfl rfl)
theorem dX0_between_78 : decode cX0_between 78 = .ok (.iconst 0, 1) := dk_3 (dk_at dksX0_between_3 10 rfl rfl)
theorem dX0_between_79 : decode cX0_between 79 = .ok (.ior, 1) := dk_128 (dk_at dksX0_between_3 11 rfl rfl)
theorem dX0_between_80 : decode cX0_between 80 = .ok (.istore_n 3, 1) := dk_62 (dk_at dksX0_between_3 12 rfl rfl)
theorem dX0_between_81 : decode cX0_between 81 = .ok (.iinc 4 1, 3) := dk_132 4 1 (dk_at dksX0_between_3 13 rfl rfl)
theorem dX0_between_84 : decode cX0_between 84 = .ok (.goto (-59), 3) := dk_167 255 197 (dk_at dksX0_between_3 16 rfl rfl)
theorem dX0_between_87 : decode cX0_between 87 = .ok (.iload_n 3, 1) := dk_29 (dk_at dksX0_between_3 19 rfl rfl)
theorem dX0_between_88 : decode cX0_between 88 = .ok (.ireturn, 1) := dk_172 (dk_at dksX0_between_3 20 rfl rfl)
abbrev cX0_inDebt : ByteArray := prog_1_method_37_code
def yX0_inDebt : MethodName := ⟨RX0, "inDebt", "(I)I"⟩
def dkwX0_inDebt_3 : List UInt8 := [132, 3, 1, 167, 255, 201, 28, 172]
abbrev dktX0_inDebt_3 : List UInt8 := dkwX0_inDebt_3 ++ []
def dkwX0_inDebt_2 : List UInt8 := [180, 0, 63, 180, 0, 197, 29, 50, 27, 46, 164, 0, 9, 4, 29, 120, 167, 0, 4, 3, 128, 61]
abbrev dktX0_inDebt_2 : List UInt8 := dkwX0_inDebt_2 ++ dktX0_inDebt_3
def dkwX0_inDebt_1 : List UInt8 := [42, 180, 0, 16, 29, 182, 0, 168, 153, 0, 34, 42, 180, 0, 63, 180, 0, 197, 27, 50, 29, 46, 42]
abbrev dktX0_inDebt_1 : List UInt8 := dkwX0_inDebt_1 ++ dktX0_inDebt_2
def dkwX0_inDebt_0 : List UInt8 := [42, 180, 0, 16, 27, 182, 0, 168, 154, 0, 5, 2, 172, 3, 61, 3, 62, 29, 16, 16, 162, 0, 55, 28]
abbrev dktX0_inDebt_0 : List UInt8 := dkwX0_inDebt_0 ++ dktX0_inDebt_1
theorem dksX0_inDebt_0 : cX0_inDebt.data.toList.drop 0 = dktX0_inDebt_0 := by decide +kernel
theorem dksX0_inDebt_1 : cX0_inDebt.data.toList.drop 24 = dktX0_inDebt_1 := dk_seg dksX0_inDebt_0 24 rfl rfl
theorem dksX0_inDebt_2 : cX0_inDebt.data.toList.drop 47 = dktX0_inDebt_2 := dk_seg dksX0_inDebt_1 23 rfl rfl
theorem dksX0_inDebt_3 : cX0_inDebt.data.toList.drop 69 = dktX0_inDebt_3 := dk_seg dksX0_inDebt_2 22 rfl rfl
theorem dX0_inDebt_0 : decode cX0_inDebt 0 = .ok (.aload_n 0, 1) := dk_42 (dk_at dksX0_inDebt_0 0 rfl rfl)
theorem dX0_inDebt_1 : decode cX0_inDebt 1 = .ok (.getfield 16, 3) := dk_180 0 16 (dk_at dksX0_inDebt_0 1 rfl rfl)
theorem dX0_inDebt_4 : decode cX0_inDebt 4 = .ok (.iload_n 1, 1) := dk_27 (dk_at dksX0_inDebt_0 4 rfl rfl)
theorem dX0_inDebt_5 : decode cX0_inDebt 5 = .ok (.invokevirtual 168, 3) := dk_182 0 168 (dk_at dksX0_inDebt_0 5 rfl rfl)
theorem dX0_inDebt_8 : decode cX0_inDebt 8 = .ok (.ifCond .ne 5, 3) := dk_154 0 5 (dk_at dksX0_inDebt_0 8 rfl rfl)
theorem dX0_inDebt_11 : decode cX0_inDebt 11 = .ok (.iconst (-1), 1) := dk_2 (dk_at dksX0_inDebt_0 11 rfl rfl)
theorem dX0_inDebt_12 : decode cX0_inDebt 12 = .ok (.ireturn, 1) := dk_172 (dk_at dksX0_inDebt_0 12 rfl rfl)
theorem dX0_inDebt_13 : decode cX0_inDebt 13 = .ok (.iconst 0, 1) := dk_3 (dk_at dksX0_inDebt_0 13 rfl rfl)
theorem dX0_inDebt_14 : decode cX0_inDebt 14 = .ok (.istore_n 2, 1) := dk_61 (dk_at dksX0_inDebt_0 14 rfl rfl)
theorem dX0_inDebt_15 : decode cX0_inDebt 15 = .ok (.iconst 0, 1) := dk_3 (dk_at dksX0_inDebt_0 15 rfl rfl)
theorem dX0_inDebt_16 : decode cX0_inDebt 16 = .ok (.istore_n 3, 1) := dk_62 (dk_at dksX0_inDebt_0 16 rfl rfl)
theorem dX0_inDebt_17 : decode cX0_inDebt 17 = .ok (.iload_n 3, 1) := dk_29 (dk_at dksX0_inDebt_0 17 rfl rfl)
theorem dX0_inDebt_18 : decode cX0_inDebt 18 = .ok (.bipush 16, 2) := dk_16 16 (dk_at dksX0_inDebt_0 18 rfl rfl)
theorem dX0_inDebt_20 : decode cX0_inDebt 20 = .ok (.if_icmp .ge 55, 3) := dk_162 0 55 (dk_at dksX0_inDebt_0 20 rfl rfl)
theorem dX0_inDebt_23 : decode cX0_inDebt 23 = .ok (.iload_n 2, 1) := dk_28 (dk_at dksX0_inDebt_0 23 rfl rfl)
theorem dX0_inDebt_24 : decode cX0_inDebt 24 = .ok (.aload_n 0, 1) := dk_42 (dk_at dksX0_inDebt_1 0 rfl rfl)
theorem dX0_inDebt_25 : decode cX0_inDebt 25 = .ok (.getfield 16, 3) := dk_180 0 16 (dk_at dksX0_inDebt_1 1 rfl rfl)
theorem dX0_inDebt_28 : decode cX0_inDebt 28 = .ok (.iload_n 3, 1) := dk_29 (dk_at dksX0_inDebt_1 4 rfl rfl)
theorem dX0_inDebt_29 : decode cX0_inDebt 29 = .ok (.invokevirtual 168, 3) := dk_182 0 168 (dk_at dksX0_inDebt_1 5 rfl rfl)
theorem dX0_inDebt_32 : decode cX0_inDebt 32 = .ok (.ifCond .eq 34, 3) := dk_153 0 34 (dk_at dksX0_inDebt_1 8 rfl rfl)
theorem dX0_inDebt_35 : decode cX0_inDebt 35 = .ok (.aload_n 0, 1) := dk_42 (dk_at dksX0_inDebt_1 11 rfl rfl)
theorem dX0_inDebt_36 : decode cX0_inDebt 36 = .ok (.getfield 63, 3) := dk_180 0 63 (dk_at dksX0_inDebt_1 12 rfl rfl)
theorem dX0_inDebt_39 : decode cX0_inDebt 39 = .ok (.getfield 197, 3) := dk_180 0 197 (dk_at dksX0_inDebt_1 15 rfl rfl)
theorem dX0_inDebt_42 : decode cX0_inDebt 42 = .ok (.iload_n 1, 1) := dk_27 (dk_at dksX0_inDebt_1 18 rfl rfl)
theorem dX0_inDebt_43 : decode cX0_inDebt 43 = .ok (.aaload, 1) := dk_50 (dk_at dksX0_inDebt_1 19 rfl rfl)
theorem dX0_inDebt_44 : decode cX0_inDebt 44 = .ok (.iload_n 3, 1) := dk_29 (dk_at dksX0_inDebt_1 20 rfl rfl)
theorem dX0_inDebt_45 : decode cX0_inDebt 45 = .ok (.iaload, 1) := dk_46 (dk_at dksX0_inDebt_1 21 rfl rfl)
theorem dX0_inDebt_46 : decode cX0_inDebt 46 = .ok (.aload_n 0, 1) := dk_42 (dk_at dksX0_inDebt_1 22 rfl rfl)
theorem dX0_inDebt_47 : decode cX0_inDebt 47 = .ok (.getfield 63, 3) := dk_180 0 63 (dk_at dksX0_inDebt_2 0 rfl rfl)
theorem dX0_inDebt_50 : decode cX0_inDebt 50 = .ok (.getfield 197, 3) := dk_180 0 197 (dk_at dksX0_inDebt_2 3 rfl rfl)
theorem dX0_inDebt_53 : decode cX0_inDebt 53 = .ok (.iload_n 3, 1) := dk_29 (dk_at dksX0_inDebt_2 6 rfl rfl)
theorem dX0_inDebt_54 : decode cX0_inDebt 54 = .ok (.aaload, 1) := dk_50 (dk_at dksX0_inDebt_2 7 rfl rfl)
theorem dX0_inDebt_55 : decode cX0_inDebt 55 = .ok (.iload_n 1, 1) := dk_27 (dk_at dksX0_inDebt_2 8 rfl rfl)
theorem dX0_inDebt_56 : decode cX0_inDebt 56 = .ok (.iaload, 1) := dk_46 (dk_at dksX0_inDebt_2 9 rfl rfl)
theorem dX0_inDebt_57 : decode cX0_inDebt 57 = .ok (.if_icmp .le 9, 3) := dk_164 0 9 (dk_at dksX0_inDebt_2 10 rfl rfl)
theorem dX0_inDebt_60 : decode cX0_inDebt 60 = .ok (.iconst 1, 1) := dk_4 (dk_at dksX0_inDebt_2 13 rfl rfl)
theorem dX0_inDebt_61 : decode cX0_inDebt 61 = .ok (.iload_n 3, 1) := dk_29 (dk_at dksX0_inDebt_2 14 rfl rfl)
theorem dX0_inDebt_62 : decode cX0_inDebt 62 = .ok (.ishl, 1) := dk_120 (dk_at dksX0_inDebt_2 15 rfl rfl)
theorem dX0_inDebt_63 : decode cX0_inDebt 63 = .ok (.goto 4, 3) := dk_167 0 4 (dk_at dksX0_inDebt_2 16 rfl rfl)
theorem dX0_inDebt_66 : decode cX0_inDebt 66 = .ok (.iconst 0, 1) := dk_3 (dk_at dksX0_inDebt_2 19 rfl rfl)
theorem dX0_inDebt_67 : decode cX0_inDebt 67 = .ok (.ior, 1) := dk_128 (dk_at dksX0_inDebt_2 20 rfl rfl)
theorem dX0_inDebt_68 : decode cX0_inDebt 68 = .ok (.istore_n 2, 1) := dk_61 (dk_at dksX0_inDebt_2 21 rfl rfl)
theorem dX0_inDebt_69 : decode cX0_inDebt 69 = .ok (.iinc 3 1, 3) := dk_132 3 1 (dk_at dksX0_inDebt_3 0 rfl rfl)
theorem dX0_inDebt_72 : decode cX0_inDebt 72 = .ok (.goto (-55), 3) := dk_167 255 201 (dk_at dksX0_inDebt_3 3 rfl rfl)
theorem dX0_inDebt_75 : decode cX0_inDebt 75 = .ok (.iload_n 2, 1) := dk_28 (dk_at dksX0_inDebt_3 6 rfl rfl)
theorem dX0_inDebt_76 : decode cX0_inDebt 76 = .ok (.ireturn, 1) := dk_172 (dk_at dksX0_inDebt_3 7 rfl rfl)
abbrev cX0_twoStreets : ByteArray := prog_1_method_39_code
def yX0_twoStreets : MethodName := ⟨RX0, "twoStreets", "()I"⟩
def dkwX0_twoStreets_3 : List UInt8 := [167, 255, 230, 132, 3, 1, 167, 255, 185, 27, 28, 126, 153, 0, 8, 16, 254, 167, 0, 4, 28, 172]
abbrev dktX0_twoStreets_3 : List UInt8 := dkwX0_twoStreets_3 ++ []
def dkwX0_twoStreets_2 : List UInt8 := [16, 16, 162, 0, 25, 28, 42, 27, 182, 0, 247, 128, 61, 27, 42, 28, 182, 0, 247, 128, 60, 132, 4, 1]
abbrev dktX0_twoStreets_2 : List UInt8 := dkwX0_twoStreets_2 ++ dktX0_twoStreets_3
def dkwX0_twoStreets_1 : List UInt8 := [28, 128, 29, 184, 0, 191, 153, 0, 6, 167, 0, 41, 27, 4, 29, 120, 128, 60, 3, 54, 4, 21, 4]
abbrev dktX0_twoStreets_1 : List UInt8 := dkwX0_twoStreets_1 ++ dktX0_twoStreets_2
def dkwX0_twoStreets_0 : List UInt8 := [3, 60, 3, 61, 3, 62, 29, 16, 16, 162, 0, 71, 42, 180, 0, 16, 29, 182, 0, 168, 153, 0, 54, 27]
abbrev dktX0_twoStreets_0 : List UInt8 := dkwX0_twoStreets_0 ++ dktX0_twoStreets_1
theorem dksX0_twoStreets_0 : cX0_twoStreets.data.toList.drop 0 = dktX0_twoStreets_0 := by decide +kernel
theorem dksX0_twoStreets_1 : cX0_twoStreets.data.toList.drop 24 = dktX0_twoStreets_1 := dk_seg dksX0_twoStreets_0 24 rfl rfl
theorem dksX0_twoStreets_2 : cX0_twoStreets.data.toList.drop 47 = dktX0_twoStreets_2 := dk_seg dksX0_twoStreets_1 23 rfl rfl
theorem dksX0_twoStreets_3 : cX0_twoStreets.data.toList.drop 71 = dktX0_twoStreets_3 := dk_seg dksX0_twoStreets_2 24 rfl rfl
theorem dX0_twoStreets_0 : decode cX0_twoStreets 0 = .ok (.iconst 0, 1) := dk_3 (dk_at dksX0_twoStreets_0 0 rfl rfl)
theorem dX0_twoStreets_1 : decode cX0_twoStreets 1 = .ok (.istore_n 1, 1) := dk_60 (dk_at dksX0_twoStreets_0 1 rfl rfl)
theorem dX0_twoStreets_2 : decode cX0_twoStreets 2 = .ok (.iconst 0, 1) := dk_3 (dk_at dksX0_twoStreets_0 2 rfl rfl)
theorem dX0_twoStreets_3 : decode cX0_twoStreets 3 = .ok (.istore_n 2, 1) := dk_61 (dk_at dksX0_twoStreets_0 3 rfl rfl)
theorem dX0_twoStreets_4 : decode cX0_twoStreets 4 = .ok (.iconst 0, 1) := dk_3 (dk_at dksX0_twoStreets_0 4 rfl rfl)
theorem dX0_twoStreets_5 : decode cX0_twoStreets 5 = .ok (.istore_n 3, 1) := dk_62 (dk_at dksX0_twoStreets_0 5 rfl rfl)
theorem dX0_twoStreets_6 : decode cX0_twoStreets 6 = .ok (.iload_n 3, 1) := dk_29 (dk_at dksX0_twoStreets_0 6 rfl rfl)
theorem dX0_twoStreets_7 : decode cX0_twoStreets 7 = .ok (.bipush 16, 2) := dk_16 16 (dk_at dksX0_twoStreets_0 7 rfl rfl)
theorem dX0_twoStreets_9 : decode cX0_twoStreets 9 = .ok (.if_icmp .ge 71, 3) := dk_162 0 71 (dk_at dksX0_twoStreets_0 9 rfl rfl)
theorem dX0_twoStreets_12 : decode cX0_twoStreets 12 = .ok (.aload_n 0, 1) := dk_42 (dk_at dksX0_twoStreets_0 12 rfl rfl)
theorem dX0_twoStreets_13 : decode cX0_twoStreets 13 = .ok (.getfield 16, 3) := dk_180 0 16 (dk_at dksX0_twoStreets_0 13 rfl rfl)
theorem dX0_twoStreets_16 : decode cX0_twoStreets 16 = .ok (.iload_n 3, 1) := dk_29 (dk_at dksX0_twoStreets_0 16 rfl rfl)
theorem dX0_twoStreets_17 : decode cX0_twoStreets 17 = .ok (.invokevirtual 168, 3) := dk_182 0 168 (dk_at dksX0_twoStreets_0 17 rfl rfl)
theorem dX0_twoStreets_20 : decode cX0_twoStreets 20 = .ok (.ifCond .eq 54, 3) := dk_153 0 54 (dk_at dksX0_twoStreets_0 20 rfl rfl)
theorem dX0_twoStreets_23 : decode cX0_twoStreets 23 = .ok (.iload_n 1, 1) := dk_27 (dk_at dksX0_twoStreets_0 23 rfl rfl)
theorem dX0_twoStreets_24 : decode cX0_twoStreets 24 = .ok (.iload_n 2, 1) := dk_28 (dk_at dksX0_twoStreets_1 0 rfl rfl)
theorem dX0_twoStreets_25 : decode cX0_twoStreets 25 = .ok (.ior, 1) := dk_128 (dk_at dksX0_twoStreets_1 1 rfl rfl)
theorem dX0_twoStreets_26 : decode cX0_twoStreets 26 = .ok (.iload_n 3, 1) := dk_29 (dk_at dksX0_twoStreets_1 2 rfl rfl)
theorem dX0_twoStreets_27 : decode cX0_twoStreets 27 = .ok (.invokestatic 191, 3) := dk_184 0 191 (dk_at dksX0_twoStreets_1 3 rfl rfl)
theorem dX0_twoStreets_30 : decode cX0_twoStreets 30 = .ok (.ifCond .eq 6, 3) := dk_153 0 6 (dk_at dksX0_twoStreets_1 6 rfl rfl)
theorem dX0_twoStreets_33 : decode cX0_twoStreets 33 = .ok (.goto 41, 3) := dk_167 0 41 (dk_at dksX0_twoStreets_1 9 rfl rfl)
theorem dX0_twoStreets_36 : decode cX0_twoStreets 36 = .ok (.iload_n 1, 1) := dk_27 (dk_at dksX0_twoStreets_1 12 rfl rfl)
theorem dX0_twoStreets_37 : decode cX0_twoStreets 37 = .ok (.iconst 1, 1) := dk_4 (dk_at dksX0_twoStreets_1 13 rfl rfl)
theorem dX0_twoStreets_38 : decode cX0_twoStreets 38 = .ok (.iload_n 3, 1) := dk_29 (dk_at dksX0_twoStreets_1 14 rfl rfl)
theorem dX0_twoStreets_39 : decode cX0_twoStreets 39 = .ok (.ishl, 1) := dk_120 (dk_at dksX0_twoStreets_1 15 rfl rfl)
theorem dX0_twoStreets_40 : decode cX0_twoStreets 40 = .ok (.ior, 1) := dk_128 (dk_at dksX0_twoStreets_1 16 rfl rfl)
theorem dX0_twoStreets_41 : decode cX0_twoStreets 41 = .ok (.istore_n 1, 1) := dk_60 (dk_at dksX0_twoStreets_1 17 rfl rfl)
theorem dX0_twoStreets_42 : decode cX0_twoStreets 42 = .ok (.iconst 0, 1) := dk_3 (dk_at dksX0_twoStreets_1 18 rfl rfl)
theorem dX0_twoStreets_43 : decode cX0_twoStreets 43 = .ok (.istore 4, 2) := dk_54 4 (dk_at dksX0_twoStreets_1 19 rfl rfl)
theorem dX0_twoStreets_45 : decode cX0_twoStreets 45 = .ok (.iload 4, 2) := dk_21 4 (dk_at dksX0_twoStreets_1 21 rfl rfl)
theorem dX0_twoStreets_47 : decode cX0_twoStreets 47 = .ok (.bipush 16, 2) := dk_16 16 (dk_at dksX0_twoStreets_2 0 rfl rfl)
theorem dX0_twoStreets_49 : decode cX0_twoStreets 49 = .ok (.if_icmp .ge 25, 3) := dk_162 0 25 (dk_at dksX0_twoStreets_2 2 rfl rfl)
theorem dX0_twoStreets_52 : decode cX0_twoStreets 52 = .ok (.iload_n 2, 1) := dk_28 (dk_at dksX0_twoStreets_2 5 rfl rfl)
theorem dX0_twoStreets_53 : decode cX0_twoStreets 53 = .ok (.aload_n 0, 1) := dk_42 (dk_at dksX0_twoStreets_2 6 rfl rfl)
theorem dX0_twoStreets_54 : decode cX0_twoStreets 54 = .ok (.iload_n 1, 1) := dk_27 (dk_at dksX0_twoStreets_2 7 rfl rfl)
theorem dX0_twoStreets_55 : decode cX0_twoStreets 55 = .ok (.invokevirtual 247, 3) := dk_182 0 247 (dk_at dksX0_twoStreets_2 8 rfl rfl)
theorem dX0_twoStreets_58 : decode cX0_twoStreets 58 = .ok (.ior, 1) := dk_128 (dk_at dksX0_twoStreets_2 11 rfl rfl)
theorem dX0_twoStreets_59 : decode cX0_twoStreets 59 = .ok (.istore_n 2, 1) := dk_61 (dk_at dksX0_twoStreets_2 12 rfl rfl)
theorem dX0_twoStreets_60 : decode cX0_twoStreets 60 = .ok (.iload_n 1, 1) := dk_27 (dk_at dksX0_twoStreets_2 13 rfl rfl)
theorem dX0_twoStreets_61 : decode cX0_twoStreets 61 = .ok (.aload_n 0, 1) := dk_42 (dk_at dksX0_twoStreets_2 14 rfl rfl)
theorem dX0_twoStreets_62 : decode cX0_twoStreets 62 = .ok (.iload_n 2, 1) := dk_28 (dk_at dksX0_twoStreets_2 15 rfl rfl)
theorem dX0_twoStreets_63 : decode cX0_twoStreets 63 = .ok (.invokevirtual 247, 3) := dk_182 0 247 (dk_at dksX0_twoStreets_2 16 rfl rfl)
theorem dX0_twoStreets_66 : decode cX0_twoStreets 66 = .ok (.ior, 1) := dk_128 (dk_at dksX0_twoStreets_2 19 rfl rfl)
theorem dX0_twoStreets_67 : decode cX0_twoStreets 67 = .ok (.istore_n 1, 1) := dk_60 (dk_at dksX0_twoStreets_2 20 rfl rfl)
theorem dX0_twoStreets_68 : decode cX0_twoStreets 68 = .ok (.iinc 4 1, 3) := dk_132 4 1 (dk_at dksX0_twoStreets_2 21 rfl rfl)
theorem dX0_twoStreets_71 : decode cX0_twoStreets 71 = .ok (.goto (-26), 3) := dk_167 255 230 (dk_at dksX0_twoStreets_3 0 rfl rfl)
theorem dX0_twoStreets_74 : decode cX0_twoStreets 74 = .ok (.iinc 3 1, 3) := dk_132 3 1 (dk_at dksX0_twoStreets_3 3 rfl rfl)
theorem dX0_twoStreets_77 : decode cX0_twoStreets 77 = .ok (.goto (-71), 3) := dk_167 255 185 (dk_at dksX0_twoStreets_3 6 rfl rfl)
theorem dX0_twoStreets_80 : decode cX0_twoStreets 80 = .ok (.iload_n 1, 1) := dk_27 (dk_at dksX0_twoStreets_3 9 rfl rfl)
theorem dX0_twoStreets_81 : decode cX0_twoStreets 81 = .ok (.iload_n 2, 1) := dk_28 (dk_at dksX0_twoStreets_3 10 rfl rfl)
theorem dX0_twoStreets_82 : decode cX0_twoStreets 82 = .ok (.iand, 1) := dk_126 (dk_at dksX0_twoStreets_3 11 rfl rfl)
theorem dX0_twoStreets_83 : decode cX0_twoStreets 83 = .ok (.ifCond .eq 8, 3) := dk_153 0 8 (dk_at dksX0_twoStreets_3 12 rfl rfl)
theorem dX0_twoStreets_86 : decode cX0_twoStreets 86 = .ok (.bipush (-2), 2) := dk_16 254 (dk_at dksX0_twoStreets_3 15 rfl rfl)
theorem dX0_twoStreets_88 : decode cX0_twoStreets 88 = .ok (.goto 4, 3) := dk_167 0 4 (dk_at dksX0_twoStreets_3 17 rfl rfl)
theorem dX0_twoStreets_91 : decode cX0_twoStreets 91 = .ok (.iload_n 2, 1) := dk_28 (dk_at dksX0_twoStreets_3 20 rfl rfl)
theorem dX0_twoStreets_92 : decode cX0_twoStreets 92 = .ok (.ireturn, 1) := dk_172 (dk_at dksX0_twoStreets_3 21 rfl rfl)
abbrev cX0_foesOf : ByteArray := prog_1_method_38_code
def yX0_foesOf : MethodName := ⟨RX0, "foesOf", "(I)I"⟩
def dkwX0_foesOf_2 : List UInt8 := [180, 0, 22, 126, 172]
abbrev dktX0_foesOf_2 : List UInt8 := dkwX0_foesOf_2 ++ []
def dkwX0_foesOf_1 : List UInt8 := [180, 0, 194, 29, 46, 167, 0, 4, 3, 128, 61, 132, 3, 1, 167, 255, 223, 28, 42, 180, 0, 16]
abbrev dktX0_foesOf_1 : List UInt8 := dkwX0_foesOf_1 ++ dktX0_foesOf_2
def dkwX0_foesOf_0 : List UInt8 := [3, 61, 3, 62, 29, 16, 16, 162, 0, 33, 28, 27, 29, 184, 0, 191, 153, 0, 15, 42, 180, 0, 16]
abbrev dktX0_foesOf_0 : List UInt8 := dkwX0_foesOf_0 ++ dktX0_foesOf_1
theorem dksX0_foesOf_0 : cX0_foesOf.data.toList.drop 0 = dktX0_foesOf_0 := by decide +kernel
theorem dksX0_foesOf_1 : cX0_foesOf.data.toList.drop 23 = dktX0_foesOf_1 := dk_seg dksX0_foesOf_0 23 rfl rfl
theorem dksX0_foesOf_2 : cX0_foesOf.data.toList.drop 45 = dktX0_foesOf_2 := dk_seg dksX0_foesOf_1 22 rfl rfl
theorem dX0_foesOf_0 : decode cX0_foesOf 0 = .ok (.iconst 0, 1) := dk_3 (dk_at dksX0_foesOf_0 0 rfl rfl)
theorem dX0_foesOf_1 : decode cX0_foesOf 1 = .ok (.istore_n 2, 1) := dk_61 (dk_at dksX0_foesOf_0 1 rfl rfl)
theorem dX0_foesOf_2 : decode cX0_foesOf 2 = .ok (.iconst 0, 1) := dk_3 (dk_at dksX0_foesOf_0 2 rfl rfl)
theorem dX0_foesOf_3 : decode cX0_foesOf 3 = .ok (.istore_n 3, 1) := dk_62 (dk_at dksX0_foesOf_0 3 rfl rfl)
theorem dX0_foesOf_4 : decode cX0_foesOf 4 = .ok (.iload_n 3, 1) := dk_29 (dk_at dksX0_foesOf_0 4 rfl rfl)
theorem dX0_foesOf_5 : decode cX0_foesOf 5 = .ok (.bipush 16, 2) := dk_16 16 (dk_at dksX0_foesOf_0 5 rfl rfl)
theorem dX0_foesOf_7 : decode cX0_foesOf 7 = .ok (.if_icmp .ge 33, 3) := dk_162 0 33 (dk_at dksX0_foesOf_0 7 rfl rfl)
theorem dX0_foesOf_10 : decode cX0_foesOf 10 = .ok (.iload_n 2, 1) := dk_28 (dk_at dksX0_foesOf_0 10 rfl rfl)
theorem dX0_foesOf_11 : decode cX0_foesOf 11 = .ok (.iload_n 1, 1) := dk_27 (dk_at dksX0_foesOf_0 11 rfl rfl)
theorem dX0_foesOf_12 : decode cX0_foesOf 12 = .ok (.iload_n 3, 1) := dk_29 (dk_at dksX0_foesOf_0 12 rfl rfl)
theorem dX0_foesOf_13 : decode cX0_foesOf 13 = .ok (.invokestatic 191, 3) := dk_184 0 191 (dk_at dksX0_foesOf_0 13 rfl rfl)
theorem dX0_foesOf_16 : decode cX0_foesOf 16 = .ok (.ifCond .eq 15, 3) := dk_153 0 15 (dk_at dksX0_foesOf_0 16 rfl rfl)
theorem dX0_foesOf_19 : decode cX0_foesOf 19 = .ok (.aload_n 0, 1) := dk_42 (dk_at dksX0_foesOf_0 19 rfl rfl)
theorem dX0_foesOf_20 : decode cX0_foesOf 20 = .ok (.getfield 16, 3) := dk_180 0 16 (dk_at dksX0_foesOf_0 20 rfl rfl)
theorem dX0_foesOf_23 : decode cX0_foesOf 23 = .ok (.getfield 194, 3) := dk_180 0 194 (dk_at dksX0_foesOf_1 0 rfl rfl)
theorem dX0_foesOf_26 : decode cX0_foesOf 26 = .ok (.iload_n 3, 1) := dk_29 (dk_at dksX0_foesOf_1 3 rfl rfl)
theorem dX0_foesOf_27 : decode cX0_foesOf 27 = .ok (.iaload, 1) := dk_46 (dk_at dksX0_foesOf_1 4 rfl rfl)
theorem dX0_foesOf_28 : decode cX0_foesOf 28 = .ok (.goto 4, 3) := dk_167 0 4 (dk_at dksX0_foesOf_1 5 rfl rfl)
theorem dX0_foesOf_31 : decode cX0_foesOf 31 = .ok (.iconst 0, 1) := dk_3 (dk_at dksX0_foesOf_1 8 rfl rfl)
theorem dX0_foesOf_32 : decode cX0_foesOf 32 = .ok (.ior, 1) := dk_128 (dk_at dksX0_foesOf_1 9 rfl rfl)
theorem dX0_foesOf_33 : decode cX0_foesOf 33 = .ok (.istore_n 2, 1) := dk_61 (dk_at dksX0_foesOf_1 10 rfl rfl)
theorem dX0_foesOf_34 : decode cX0_foesOf 34 = .ok (.iinc 3 1, 3) := dk_132 3 1 (dk_at dksX0_foesOf_1 11 rfl rfl)
theorem dX0_foesOf_37 : decode cX0_foesOf 37 = .ok (.goto (-33), 3) := dk_167 255 223 (dk_at dksX0_foesOf_1 14 rfl rfl)
theorem dX0_foesOf_40 : decode cX0_foesOf 40 = .ok (.iload_n 2, 1) := dk_28 (dk_at dksX0_foesOf_1 17 rfl rfl)
theorem dX0_foesOf_41 : decode cX0_foesOf 41 = .ok (.aload_n 0, 1) := dk_42 (dk_at dksX0_foesOf_1 18 rfl rfl)
theorem dX0_foesOf_42 : decode cX0_foesOf 42 = .ok (.getfield 16, 3) := dk_180 0 16 (dk_at dksX0_foesOf_1 19 rfl rfl)
theorem dX0_foesOf_45 : decode cX0_foesOf 45 = .ok (.getfield 22, 3) := dk_180 0 22 (dk_at dksX0_foesOf_2 0 rfl rfl)
theorem dX0_foesOf_48 : decode cX0_foesOf 48 = .ok (.iand, 1) := dk_126 (dk_at dksX0_foesOf_2 3 rfl rfl)
theorem dX0_foesOf_49 : decode cX0_foesOf 49 = .ok (.ireturn, 1) := dk_172 (dk_at dksX0_foesOf_2 4 rfl rfl)
abbrev cX0_across : ByteArray := prog_1_method_41_code
def yX0_across : MethodName := ⟨RX0, "across", "(II)I"⟩
def dkwX0_across_7 : List UInt8 := [182, 0, 250, 172]
abbrev dktX0_across_7 : List UInt8 := dkwX0_across_7 ++ []
def dkwX0_across_6 : List UInt8 := [132, 6, 1, 132, 7, 1, 167, 255, 195, 132, 4, 1, 132, 5, 1, 167, 255, 153, 42, 42, 180, 0, 93, 29]
abbrev dktX0_across_6 : List UInt8 := dkwX0_across_6 ++ dktX0_across_7
def dkwX0_across_5 : List UInt8 := [180, 0, 194, 21, 5, 46, 21, 7, 184, 0, 191, 153, 0, 7, 3, 167, 0, 7, 4, 21, 6, 120, 128, 79]
abbrev dktX0_across_5 : List UInt8 := dkwX0_across_5 ++ dktX0_across_6
def dkwX0_across_4 : List UInt8 := [28, 21, 7, 184, 0, 191, 154, 0, 6, 167, 0, 42, 42, 180, 0, 93, 21, 4, 92, 46, 42, 180, 0, 16]
abbrev dktX0_across_4 : List UInt8 := dkwX0_across_4 ++ dktX0_across_5
def dkwX0_across_3 : List UInt8 := [167, 0, 84, 42, 180, 0, 93, 21, 4, 3, 79, 3, 54, 6, 3, 54, 7, 21, 7, 16, 16, 162, 0, 60]
abbrev dktX0_across_3 : List UInt8 := dkwX0_across_3 ++ dktX0_across_4
def dkwX0_across_2 : List UInt8 := [172, 3, 54, 4, 3, 54, 5, 21, 5, 16, 16, 162, 0, 102, 27, 21, 5, 184, 0, 191, 154, 0, 6]
abbrev dktX0_across_2 : List UInt8 := dkwX0_across_2 ++ dktX0_across_3
def dkwX0_across_1 : List UInt8 := [153, 0, 23, 27, 28, 126, 154, 0, 17, 28, 184, 0, 214, 29, 160, 0, 9, 29, 16, 8, 164, 0, 5, 2]
abbrev dktX0_across_1 : List UInt8 := dkwX0_across_1 ++ dktX0_across_2
def dkwX0_across_0 : List UInt8 := [27, 184, 0, 214, 62, 27, 158, 0, 39, 42, 27, 182, 0, 220, 153, 0, 31, 42, 28, 182, 0, 220]
abbrev dktX0_across_0 : List UInt8 := dkwX0_across_0 ++ dktX0_across_1
theorem dksX0_across_0 : cX0_across.data.toList.drop 0 = dktX0_across_0 := by decide +kernel
theorem dksX0_across_1 : cX0_across.data.toList.drop 22 = dktX0_across_1 := dk_seg dksX0_across_0 22 rfl rfl
theorem dksX0_across_2 : cX0_across.data.toList.drop 46 = dktX0_across_2 := dk_seg dksX0_across_1 24 rfl rfl
theorem dksX0_across_3 : cX0_across.data.toList.drop 69 = dktX0_across_3 := dk_seg dksX0_across_2 23 rfl rfl
theorem dksX0_across_4 : cX0_across.data.toList.drop 93 = dktX0_across_4 := dk_seg dksX0_across_3 24 rfl rfl
theorem dksX0_across_5 : cX0_across.data.toList.drop 117 = dktX0_across_5 := dk_seg dksX0_across_4 24 rfl rfl
theorem dksX0_across_6 : cX0_across.data.toList.drop 141 = dktX0_across_6 := dk_seg dksX0_across_5 24 rfl rfl
theorem dksX0_across_7 : cX0_across.data.toList.drop 165 = dktX0_across_7 := dk_seg dksX0_across_6 24 rfl rfl
theorem dX0_across_0 : decode cX0_across 0 = .ok (.iload_n 1, 1) := dk_27 (dk_at dksX0_across_0 0 rfl rfl)
theorem dX0_across_1 : decode cX0_across 1 = .ok (.invokestatic 214, 3) := dk_184 0 214 (dk_at dksX0_across_0 1 rfl rfl)
theorem dX0_across_4 : decode cX0_across 4 = .ok (.istore_n 3, 1) := dk_62 (dk_at dksX0_across_0 4 rfl rfl)
theorem dX0_across_5 : decode cX0_across 5 = .ok (.iload_n 1, 1) := dk_27 (dk_at dksX0_across_0 5 rfl rfl)
theorem dX0_across_6 : decode cX0_across 6 = .ok (.ifCond .le 39, 3) := dk_158 0 39 (dk_at dksX0_across_0 6 rfl rfl)
theorem dX0_across_9 : decode cX0_across 9 = .ok (.aload_n 0, 1) := dk_42 (dk_at dksX0_across_0 9 rfl rfl)
theorem dX0_across_10 : decode cX0_across 10 = .ok (.iload_n 1, 1) := dk_27 (dk_at dksX0_across_0 10 rfl rfl)
theorem dX0_across_11 : decode cX0_across 11 = .ok (.invokevirtual 220, 3) := dk_182 0 220 (dk_at dksX0_across_0 11 rfl rfl)
theorem dX0_across_14 : decode cX0_across 14 = .ok (.ifCond .eq 31, 3) := dk_153 0 31 (dk_at dksX0_across_0 14 rfl rfl)
theorem dX0_across_17 : decode cX0_across 17 = .ok (.aload_n 0, 1) := dk_42 (dk_at dksX0_across_0 17 rfl rfl)
theorem dX0_across_18 : decode cX0_across 18 = .ok (.iload_n 2, 1) := dk_28 (dk_at dksX0_across_0 18 rfl rfl)
theorem dX0_across_19 : decode cX0_across 19 = .ok (.invokevirtual 220, 3) := dk_182 0 220 (dk_at dksX0_across_0 19 rfl rfl)
theorem dX0_across_22 : decode cX0_across 22 = .ok (.ifCond .eq 23, 3) := dk_153 0 23 (dk_at dksX0_across_1 0 rfl rfl)
theorem dX0_across_25 : decode cX0_across 25 = .ok (.iload_n 1, 1) := dk_27 (dk_at dksX0_across_1 3 rfl rfl)
theorem dX0_across_26 : decode cX0_across 26 = .ok (.iload_n 2, 1) := dk_28 (dk_at dksX0_across_1 4 rfl rfl)
theorem dX0_across_27 : decode cX0_across 27 = .ok (.iand, 1) := dk_126 (dk_at dksX0_across_1 5 rfl rfl)
theorem dX0_across_28 : decode cX0_across 28 = .ok (.ifCond .ne 17, 3) := dk_154 0 17 (dk_at dksX0_across_1 6 rfl rfl)
theorem dX0_across_31 : decode cX0_across 31 = .ok (.iload_n 2, 1) := dk_28 (dk_at dksX0_across_1 9 rfl rfl)
theorem dX0_across_32 : decode cX0_across 32 = .ok (.invokestatic 214, 3) := dk_184 0 214 (dk_at dksX0_across_1 10 rfl rfl)
theorem dX0_across_35 : decode cX0_across 35 = .ok (.iload_n 3, 1) := dk_29 (dk_at dksX0_across_1 13 rfl rfl)
theorem dX0_across_36 : decode cX0_across 36 = .ok (.if_icmp .ne 9, 3) := dk_160 0 9 (dk_at dksX0_across_1 14 rfl rfl)
theorem dX0_across_39 : decode cX0_across 39 = .ok (.iload_n 3, 1) := dk_29 (dk_at dksX0_across_1 17 rfl rfl)
theorem dX0_across_40 : decode cX0_across 40 = .ok (.bipush 8, 2) := dk_16 8 (dk_at dksX0_across_1 18 rfl rfl)
theorem dX0_across_42 : decode cX0_across 42 = .ok (.if_icmp .le 5, 3) := dk_164 0 5 (dk_at dksX0_across_1 20 rfl rfl)
theorem dX0_across_45 : decode cX0_across 45 = .ok (.iconst (-1), 1) := dk_2 (dk_at dksX0_across_1 23 rfl rfl)
theorem dX0_across_46 : decode cX0_across 46 = .ok (.ireturn, 1) := dk_172 (dk_at dksX0_across_2 0 rfl rfl)
theorem dX0_across_47 : decode cX0_across 47 = .ok (.iconst 0, 1) := dk_3 (dk_at dksX0_across_2 1 rfl rfl)
theorem dX0_across_48 : decode cX0_across 48 = .ok (.istore 4, 2) := dk_54 4 (dk_at dksX0_across_2 2 rfl rfl)
theorem dX0_across_50 : decode cX0_across 50 = .ok (.iconst 0, 1) := dk_3 (dk_at dksX0_across_2 4 rfl rfl)
theorem dX0_across_51 : decode cX0_across 51 = .ok (.istore 5, 2) := dk_54 5 (dk_at dksX0_across_2 5 rfl rfl)
theorem dX0_across_53 : decode cX0_across 53 = .ok (.iload 5, 2) := dk_21 5 (dk_at dksX0_across_2 7 rfl rfl)
theorem dX0_across_55 : decode cX0_across 55 = .ok (.bipush 16, 2) := dk_16 16 (dk_at dksX0_across_2 9 rfl rfl)
theorem dX0_across_57 : decode cX0_across 57 = .ok (.if_icmp .ge 102, 3) := dk_162 0 102 (dk_at dksX0_across_2 11 rfl rfl)
theorem dX0_across_60 : decode cX0_across 60 = .ok (.iload_n 1, 1) := dk_27 (dk_at dksX0_across_2 14 rfl rfl)
theorem dX0_across_61 : decode cX0_across 61 = .ok (.iload 5, 2) := dk_21 5 (dk_at dksX0_across_2 15 rfl rfl)
theorem dX0_across_63 : decode cX0_across 63 = .ok (.invokestatic 191, 3) := dk_184 0 191 (dk_at dksX0_across_2 17 rfl rfl)
theorem dX0_across_66 : decode cX0_across 66 = .ok (.ifCond .ne 6, 3) := dk_154 0 6 (dk_at dksX0_across_2 20 rfl rfl)
theorem dX0_across_69 : decode cX0_across 69 = .ok (.goto 84, 3) := dk_167 0 84 (dk_at dksX0_across_3 0 rfl rfl)
theorem dX0_across_72 : decode cX0_across 72 = .ok (.aload_n 0, 1) := dk_42 (dk_at dksX0_across_3 3 rfl rfl)
theorem dX0_across_73 : decode cX0_across 73 = .ok (.getfield 93, 3) := dk_180 0 93 (dk_at dksX0_across_3 4 rfl rfl)
theorem dX0_across_76 : decode cX0_across 76 = .ok (.iload 4, 2) := dk_21 4 (dk_at dksX0_across_3 7 rfl rfl)
theorem dX0_across_78 : decode cX0_across 78 = .ok (.iconst 0, 1) := dk_3 (dk_at dksX0_across_3 9 rfl rfl)
theorem dX0_across_79 : decode cX0_across 79 = .ok (.iastore, 1) := dk_79 (dk_at dksX0_across_3 10 rfl rfl)
theorem dX0_across_80 : decode cX0_across 80 = .ok (.iconst 0, 1) := dk_3 (dk_at dksX0_across_3 11 rfl rfl)
theorem dX0_across_81 : decode cX0_across 81 = .ok (.istore 6, 2) := dk_54 6 (dk_at dksX0_across_3 12 rfl rfl)
theorem dX0_across_83 : decode cX0_across 83 = .ok (.iconst 0, 1) := dk_3 (dk_at dksX0_across_3 14 rfl rfl)
theorem dX0_across_84 : decode cX0_across 84 = .ok (.istore 7, 2) := dk_54 7 (dk_at dksX0_across_3 15 rfl rfl)
theorem dX0_across_86 : decode cX0_across 86 = .ok (.iload 7, 2) := dk_21 7 (dk_at dksX0_across_3 17 rfl rfl)
theorem dX0_across_88 : decode cX0_across 88 = .ok (.bipush 16, 2) := dk_16 16 (dk_at dksX0_across_3 19 rfl rfl)
theorem dX0_across_90 : decode cX0_across 90 = .ok (.if_icmp .ge 60, 3) := dk_162 0 60 (dk_at dksX0_across_3 21 rfl rfl)
theorem dX0_across_93 : decode cX0_across 93 = .ok (.iload_n 2, 1) := dk_28 (dk_at dksX0_across_4 0 rfl rfl)
theorem dX0_across_94 : decode cX0_across 94 = .ok (.iload 7, 2) := dk_21 7 (dk_at dksX0_across_4 1 rfl rfl)
theorem dX0_across_96 : decode cX0_across 96 = .ok (.invokestatic 191, 3) := dk_184 0 191 (dk_at dksX0_across_4 3 rfl rfl)
theorem dX0_across_99 : decode cX0_across 99 = .ok (.ifCond .ne 6, 3) := dk_154 0 6 (dk_at dksX0_across_4 6 rfl rfl)
theorem dX0_across_102 : decode cX0_across 102 = .ok (.goto 42, 3) := dk_167 0 42 (dk_at dksX0_across_4 9 rfl rfl)
theorem dX0_across_105 : decode cX0_across 105 = .ok (.aload_n 0, 1) := dk_42 (dk_at dksX0_across_4 12 rfl rfl)
theorem dX0_across_106 : decode cX0_across 106 = .ok (.getfield 93, 3) := dk_180 0 93 (dk_at dksX0_across_4 13 rfl rfl)
theorem dX0_across_109 : decode cX0_across 109 = .ok (.iload 4, 2) := dk_21 4 (dk_at dksX0_across_4 16 rfl rfl)
theorem dX0_across_111 : decode cX0_across 111 = .ok (.dup2, 1) := dk_92 (dk_at dksX0_across_4 18 rfl rfl)
theorem dX0_across_112 : decode cX0_across 112 = .ok (.iaload, 1) := dk_46 (dk_at dksX0_across_4 19 rfl rfl)
theorem dX0_across_113 : decode cX0_across 113 = .ok (.aload_n 0, 1) := dk_42 (dk_at dksX0_across_4 20 rfl rfl)
theorem dX0_across_114 : decode cX0_across 114 = .ok (.getfield 16, 3) := dk_180 0 16 (dk_at dksX0_across_4 21 rfl rfl)
theorem dX0_across_117 : decode cX0_across 117 = .ok (.getfield 194, 3) := dk_180 0 194 (dk_at dksX0_across_5 0 rfl rfl)
theorem dX0_across_120 : decode cX0_across 120 = .ok (.iload 5, 2) := dk_21 5 (dk_at dksX0_across_5 3 rfl rfl)
theorem dX0_across_122 : decode cX0_across 122 = .ok (.iaload, 1) := dk_46 (dk_at dksX0_across_5 5 rfl rfl)
theorem dX0_across_123 : decode cX0_across 123 = .ok (.iload 7, 2) := dk_21 7 (dk_at dksX0_across_5 6 rfl rfl)
theorem dX0_across_125 : decode cX0_across 125 = .ok (.invokestatic 191, 3) := dk_184 0 191 (dk_at dksX0_across_5 8 rfl rfl)
theorem dX0_across_128 : decode cX0_across 128 = .ok (.ifCond .eq 7, 3) := dk_153 0 7 (dk_at dksX0_across_5 11 rfl rfl)
theorem dX0_across_131 : decode cX0_across 131 = .ok (.iconst 0, 1) := dk_3 (dk_at dksX0_across_5 14 rfl rfl)
theorem dX0_across_132 : decode cX0_across 132 = .ok (.goto 7, 3) := dk_167 0 7 (dk_at dksX0_across_5 15 rfl rfl)
theorem dX0_across_135 : decode cX0_across 135 = .ok (.iconst 1, 1) := dk_4 (dk_at dksX0_across_5 18 rfl rfl)
theorem dX0_across_136 : decode cX0_across 136 = .ok (.iload 6, 2) := dk_21 6 (dk_at dksX0_across_5 19 rfl rfl)
theorem dX0_across_138 : decode cX0_across 138 = .ok (.ishl, 1) := dk_120 (dk_at dksX0_across_5 21 rfl rfl)
theorem dX0_across_139 : decode cX0_across 139 = .ok (.ior, 1) := dk_128 (dk_at dksX0_across_5 22 rfl rfl)
theorem dX0_across_140 : decode cX0_across 140 = .ok (.iastore, 1) := dk_79 (dk_at dksX0_across_5 23 rfl rfl)
theorem dX0_across_141 : decode cX0_across 141 = .ok (.iinc 6 1, 3) := dk_132 6 1 (dk_at dksX0_across_6 0 rfl rfl)
theorem dX0_across_144 : decode cX0_across 144 = .ok (.iinc 7 1, 3) := dk_132 7 1 (dk_at dksX0_across_6 3 rfl rfl)
theorem dX0_across_147 : decode cX0_across 147 = .ok (.goto (-61), 3) := dk_167 255 195 (dk_at dksX0_across_6 6 rfl rfl)
theorem dX0_across_150 : decode cX0_across 150 = .ok (.iinc 4 1, 3) := dk_132 4 1 (dk_at dksX0_across_6 9 rfl rfl)
theorem dX0_across_153 : decode cX0_across 153 = .ok (.iinc 5 1, 3) := dk_132 5 1 (dk_at dksX0_across_6 12 rfl rfl)
theorem dX0_across_156 : decode cX0_across 156 = .ok (.goto (-103), 3) := dk_167 255 153 (dk_at dksX0_across_6 15 rfl rfl)
theorem dX0_across_159 : decode cX0_across 159 = .ok (.aload_n 0, 1) := dk_42 (dk_at dksX0_across_6 18 rfl rfl)
theorem dX0_across_160 : decode cX0_across 160 = .ok (.aload_n 0, 1) := dk_42 (dk_at dksX0_across_6 19 rfl rfl)
theorem dX0_across_161 : decode cX0_across 161 = .ok (.getfield 93, 3) := dk_180 0 93 (dk_at dksX0_across_6 20 rfl rfl)
theorem dX0_across_164 : decode cX0_across 164 = .ok (.iload_n 3, 1) := dk_29 (dk_at dksX0_across_6 23 rfl rfl)
theorem dX0_across_165 : decode cX0_across 165 = .ok (.invokevirtual 250, 3) := dk_182 0 250 (dk_at dksX0_across_7 0 rfl rfl)
theorem dX0_across_168 : decode cX0_across 168 = .ok (.ireturn, 1) := dk_172 (dk_at dksX0_across_7 3 rfl rfl)
abbrev cX0_pairings : ByteArray := prog_1_method_40_code
def yX0_pairings : MethodName := ⟨RX0, "pairings", "([II)I"⟩
def dkwX0_pairings_4 : List UInt8 := [167, 255, 165, 42, 180, 0, 90, 4, 28, 120, 4, 100, 46, 172]
abbrev dktX0_pairings_4 : List UInt8 := dkwX0_pairings_4 ++ []
def dkwX0_pairings_3 : List UInt8 := [180, 0, 90, 29, 4, 21, 5, 120, 2, 130, 126, 46, 96, 79, 132, 5, 1, 167, 255, 204, 132, 3, 1]
abbrev dktX0_pairings_3 : List UInt8 := dkwX0_pairings_3 ++ dktX0_pairings_4
def dkwX0_pairings_2 : List UInt8 := [153, 0, 37, 43, 21, 4, 46, 21, 5, 184, 0, 191, 153, 0, 25, 42, 180, 0, 90, 29, 92, 46, 42]
abbrev dktX0_pairings_2 : List UInt8 := dkwX0_pairings_2 ++ dktX0_pairings_3
def dkwX0_pairings_1 : List UInt8 := [29, 184, 0, 214, 4, 100, 54, 4, 3, 54, 5, 21, 5, 28, 162, 0, 52, 29, 21, 5, 184, 0, 191]
abbrev dktX0_pairings_1 : List UInt8 := dkwX0_pairings_1 ++ dktX0_pairings_2
def dkwX0_pairings_0 : List UInt8 := [3, 62, 29, 4, 28, 120, 162, 0, 90, 42, 180, 0, 90, 29, 29, 154, 0, 7, 4, 167, 0, 4, 3, 79]
abbrev dktX0_pairings_0 : List UInt8 := dkwX0_pairings_0 ++ dktX0_pairings_1
theorem dksX0_pairings_0 : cX0_pairings.data.toList.drop 0 = dktX0_pairings_0 := by decide +kernel
theorem dksX0_pairings_1 : cX0_pairings.data.toList.drop 24 = dktX0_pairings_1 := dk_seg dksX0_pairings_0 24 rfl rfl
theorem dksX0_pairings_2 : cX0_pairings.data.toList.drop 47 = dktX0_pairings_2 := dk_seg dksX0_pairings_1 23 rfl rfl
theorem dksX0_pairings_3 : cX0_pairings.data.toList.drop 70 = dktX0_pairings_3 := dk_seg dksX0_pairings_2 23 rfl rfl
theorem dksX0_pairings_4 : cX0_pairings.data.toList.drop 93 = dktX0_pairings_4 := dk_seg dksX0_pairings_3 23 rfl rfl
theorem dX0_pairings_0 : decode cX0_pairings 0 = .ok (.iconst 0, 1) := dk_3 (dk_at dksX0_pairings_0 0 rfl rfl)
theorem dX0_pairings_1 : decode cX0_pairings 1 = .ok (.istore_n 3, 1) := dk_62 (dk_at dksX0_pairings_0 1 rfl rfl)
theorem dX0_pairings_2 : decode cX0_pairings 2 = .ok (.iload_n 3, 1) := dk_29 (dk_at dksX0_pairings_0 2 rfl rfl)
theorem dX0_pairings_3 : decode cX0_pairings 3 = .ok (.iconst 1, 1) := dk_4 (dk_at dksX0_pairings_0 3 rfl rfl)
theorem dX0_pairings_4 : decode cX0_pairings 4 = .ok (.iload_n 2, 1) := dk_28 (dk_at dksX0_pairings_0 4 rfl rfl)
theorem dX0_pairings_5 : decode cX0_pairings 5 = .ok (.ishl, 1) := dk_120 (dk_at dksX0_pairings_0 5 rfl rfl)
theorem dX0_pairings_6 : decode cX0_pairings 6 = .ok (.if_icmp .ge 90, 3) := dk_162 0 90 (dk_at dksX0_pairings_0 6 rfl rfl)
theorem dX0_pairings_9 : decode cX0_pairings 9 = .ok (.aload_n 0, 1) := dk_42 (dk_at dksX0_pairings_0 9 rfl rfl)
theorem dX0_pairings_10 : decode cX0_pairings 10 = .ok (.getfield 90, 3) := dk_180 0 90 (dk_at dksX0_pairings_0 10 rfl rfl)
theorem dX0_pairings_13 : decode cX0_pairings 13 = .ok (.iload_n 3, 1) := dk_29 (dk_at dksX0_pairings_0 13 rfl rfl)
theorem dX0_pairings_14 : decode cX0_pairings 14 = .ok (.iload_n 3, 1) := dk_29 (dk_at dksX0_pairings_0 14 rfl rfl)
theorem dX0_pairings_15 : decode cX0_pairings 15 = .ok (.ifCond .ne 7, 3) := dk_154 0 7 (dk_at dksX0_pairings_0 15 rfl rfl)
theorem dX0_pairings_18 : decode cX0_pairings 18 = .ok (.iconst 1, 1) := dk_4 (dk_at dksX0_pairings_0 18 rfl rfl)
theorem dX0_pairings_19 : decode cX0_pairings 19 = .ok (.goto 4, 3) := dk_167 0 4 (dk_at dksX0_pairings_0 19 rfl rfl)
theorem dX0_pairings_22 : decode cX0_pairings 22 = .ok (.iconst 0, 1) := dk_3 (dk_at dksX0_pairings_0 22 rfl rfl)
theorem dX0_pairings_23 : decode cX0_pairings 23 = .ok (.iastore, 1) := dk_79 (dk_at dksX0_pairings_0 23 rfl rfl)
theorem dX0_pairings_24 : decode cX0_pairings 24 = .ok (.iload_n 3, 1) := dk_29 (dk_at dksX0_pairings_1 0 rfl rfl)
theorem dX0_pairings_25 : decode cX0_pairings 25 = .ok (.invokestatic 214, 3) := dk_184 0 214 (dk_at dksX0_pairings_1 1 rfl rfl)
theorem dX0_pairings_28 : decode cX0_pairings 28 = .ok (.iconst 1, 1) := dk_4 (dk_at dksX0_pairings_1 4 rfl rfl)
theorem dX0_pairings_29 : decode cX0_pairings 29 = .ok (.isub, 1) := dk_100 (dk_at dksX0_pairings_1 5 rfl rfl)
theorem dX0_pairings_30 : decode cX0_pairings 30 = .ok (.istore 4, 2) := dk_54 4 (dk_at dksX0_pairings_1 6 rfl rfl)
theorem dX0_pairings_32 : decode cX0_pairings 32 = .ok (.iconst 0, 1) := dk_3 (dk_at dksX0_pairings_1 8 rfl rfl)
theorem dX0_pairings_33 : decode cX0_pairings 33 = .ok (.istore 5, 2) := dk_54 5 (dk_at dksX0_pairings_1 9 rfl rfl)
theorem dX0_pairings_35 : decode cX0_pairings 35 = .ok (.iload 5, 2) := dk_21 5 (dk_at dksX0_pairings_1 11 rfl rfl)
theorem dX0_pairings_37 : decode cX0_pairings 37 = .ok (.iload_n 2, 1) := dk_28 (dk_at dksX0_pairings_1 13 rfl rfl)
theorem dX0_pairings_38 : decode cX0_pairings 38 = .ok (.if_icmp .ge 52, 3) := dk_162 0 52 (dk_at dksX0_pairings_1 14 rfl rfl)
theorem dX0_pairings_41 : decode cX0_pairings 41 = .ok (.iload_n 3, 1) := dk_29 (dk_at dksX0_pairings_1 17 rfl rfl)
theorem dX0_pairings_42 : decode cX0_pairings 42 = .ok (.iload 5, 2) := dk_21 5 (dk_at dksX0_pairings_1 18 rfl rfl)
theorem dX0_pairings_44 : decode cX0_pairings 44 = .ok (.invokestatic 191, 3) := dk_184 0 191 (dk_at dksX0_pairings_1 20 rfl rfl)
theorem dX0_pairings_47 : decode cX0_pairings 47 = .ok (.ifCond .eq 37, 3) := dk_153 0 37 (dk_at dksX0_pairings_2 0 rfl rfl)
theorem dX0_pairings_50 : decode cX0_pairings 50 = .ok (.aload_n 1, 1) := dk_43 (dk_at dksX0_pairings_2 3 rfl rfl)
theorem dX0_pairings_51 : decode cX0_pairings 51 = .ok (.iload 4, 2) := dk_21 4 (dk_at dksX0_pairings_2 4 rfl rfl)
theorem dX0_pairings_53 : decode cX0_pairings 53 = .ok (.iaload, 1) := dk_46 (dk_at dksX0_pairings_2 6 rfl rfl)
theorem dX0_pairings_54 : decode cX0_pairings 54 = .ok (.iload 5, 2) := dk_21 5 (dk_at dksX0_pairings_2 7 rfl rfl)
theorem dX0_pairings_56 : decode cX0_pairings 56 = .ok (.invokestatic 191, 3) := dk_184 0 191 (dk_at dksX0_pairings_2 9 rfl rfl)
theorem dX0_pairings_59 : decode cX0_pairings 59 = .ok (.ifCond .eq 25, 3) := dk_153 0 25 (dk_at dksX0_pairings_2 12 rfl rfl)
theorem dX0_pairings_62 : decode cX0_pairings 62 = .ok (.aload_n 0, 1) := dk_42 (dk_at dksX0_pairings_2 15 rfl rfl)
theorem dX0_pairings_63 : decode cX0_pairings 63 = .ok (.getfield 90, 3) := dk_180 0 90 (dk_at dksX0_pairings_2 16 rfl rfl)
theorem dX0_pairings_66 : decode cX0_pairings 66 = .ok (.iload_n 3, 1) := dk_29 (dk_at dksX0_pairings_2 19 rfl rfl)
theorem dX0_pairings_67 : decode cX0_pairings 67 = .ok (.dup2, 1) := dk_92 (dk_at dksX0_pairings_2 20 rfl rfl)
theorem dX0_pairings_68 : decode cX0_pairings 68 = .ok (.iaload, 1) := dk_46 (dk_at dksX0_pairings_2 21 rfl rfl)
theorem dX0_pairings_69 : decode cX0_pairings 69 = .ok (.aload_n 0, 1) := dk_42 (dk_at dksX0_pairings_2 22 rfl rfl)
theorem dX0_pairings_70 : decode cX0_pairings 70 = .ok (.getfield 90, 3) := dk_180 0 90 (dk_at dksX0_pairings_3 0 rfl rfl)
theorem dX0_pairings_73 : decode cX0_pairings 73 = .ok (.iload_n 3, 1) := dk_29 (dk_at dksX0_pairings_3 3 rfl rfl)
theorem dX0_pairings_74 : decode cX0_pairings 74 = .ok (.iconst 1, 1) := dk_4 (dk_at dksX0_pairings_3 4 rfl rfl)
theorem dX0_pairings_75 : decode cX0_pairings 75 = .ok (.iload 5, 2) := dk_21 5 (dk_at dksX0_pairings_3 5 rfl rfl)
theorem dX0_pairings_77 : decode cX0_pairings 77 = .ok (.ishl, 1) := dk_120 (dk_at dksX0_pairings_3 7 rfl rfl)
theorem dX0_pairings_78 : decode cX0_pairings 78 = .ok (.iconst (-1), 1) := dk_2 (dk_at dksX0_pairings_3 8 rfl rfl)
theorem dX0_pairings_79 : decode cX0_pairings 79 = .ok (.ixor, 1) := dk_130 (dk_at dksX0_pairings_3 9 rfl rfl)
theorem dX0_pairings_80 : decode cX0_pairings 80 = .ok (.iand, 1) := dk_126 (dk_at dksX0_pairings_3 10 rfl rfl)
theorem dX0_pairings_81 : decode cX0_pairings 81 = .ok (.iaload, 1) := dk_46 (dk_at dksX0_pairings_3 11 rfl rfl)
theorem dX0_pairings_82 : decode cX0_pairings 82 = .ok (.iadd, 1) := dk_96 (dk_at dksX0_pairings_3 12 rfl rfl)
theorem dX0_pairings_83 : decode cX0_pairings 83 = .ok (.iastore, 1) := dk_79 (dk_at dksX0_pairings_3 13 rfl rfl)
theorem dX0_pairings_84 : decode cX0_pairings 84 = .ok (.iinc 5 1, 3) := dk_132 5 1 (dk_at dksX0_pairings_3 14 rfl rfl)
theorem dX0_pairings_87 : decode cX0_pairings 87 = .ok (.goto (-52), 3) := dk_167 255 204 (dk_at dksX0_pairings_3 17 rfl rfl)
theorem dX0_pairings_90 : decode cX0_pairings 90 = .ok (.iinc 3 1, 3) := dk_132 3 1 (dk_at dksX0_pairings_3 20 rfl rfl)
theorem dX0_pairings_93 : decode cX0_pairings 93 = .ok (.goto (-91), 3) := dk_167 255 165 (dk_at dksX0_pairings_4 0 rfl rfl)
theorem dX0_pairings_96 : decode cX0_pairings 96 = .ok (.aload_n 0, 1) := dk_42 (dk_at dksX0_pairings_4 3 rfl rfl)
theorem dX0_pairings_97 : decode cX0_pairings 97 = .ok (.getfield 90, 3) := dk_180 0 90 (dk_at dksX0_pairings_4 4 rfl rfl)
theorem dX0_pairings_100 : decode cX0_pairings 100 = .ok (.iconst 1, 1) := dk_4 (dk_at dksX0_pairings_4 7 rfl rfl)
theorem dX0_pairings_101 : decode cX0_pairings 101 = .ok (.iload_n 2, 1) := dk_28 (dk_at dksX0_pairings_4 8 rfl rfl)
theorem dX0_pairings_102 : decode cX0_pairings 102 = .ok (.ishl, 1) := dk_120 (dk_at dksX0_pairings_4 9 rfl rfl)
theorem dX0_pairings_103 : decode cX0_pairings 103 = .ok (.iconst 1, 1) := dk_4 (dk_at dksX0_pairings_4 10 rfl rfl)
theorem dX0_pairings_104 : decode cX0_pairings 104 = .ok (.isub, 1) := dk_100 (dk_at dksX0_pairings_4 11 rfl rfl)
theorem dX0_pairings_105 : decode cX0_pairings 105 = .ok (.iaload, 1) := dk_46 (dk_at dksX0_pairings_4 12 rfl rfl)
theorem dX0_pairings_106 : decode cX0_pairings 106 = .ok (.ireturn, 1) := dk_172 (dk_at dksX0_pairings_4 13 rfl rfl)
abbrev cX0_madeEven : ByteArray := prog_1_method_42_code
def yX0_madeEven : MethodName := ⟨RX0, "madeEven", "(I)I"⟩
def dkwX0_madeEven_1 : List UInt8 := [27, 4, 182, 0, 184, 100, 167, 0, 5, 18, 254, 172]
abbrev dktX0_madeEven_1 : List UInt8 := dkwX0_madeEven_1 ++ []
def dkwX0_madeEven_0 : List UInt8 := [42, 180, 0, 16, 27, 182, 0, 168, 153, 0, 25, 42, 180, 0, 63, 27, 3, 182, 0, 184, 42, 180, 0, 63]
abbrev dktX0_madeEven_0 : List UInt8 := dkwX0_madeEven_0 ++ dktX0_madeEven_1
theorem dksX0_madeEven_0 : cX0_madeEven.data.toList.drop 0 = dktX0_madeEven_0 := by decide +kernel
theorem dksX0_madeEven_1 : cX0_madeEven.data.toList.drop 24 = dktX0_madeEven_1 := dk_seg dksX0_madeEven_0 24 rfl rfl
theorem dX0_madeEven_0 : decode cX0_madeEven 0 = .ok (.aload_n 0, 1) := dk_42 (dk_at dksX0_madeEven_0 0 rfl rfl)
theorem dX0_madeEven_1 : decode cX0_madeEven 1 = .ok (.getfield 16, 3) := dk_180 0 16 (dk_at dksX0_madeEven_0 1 rfl rfl)
theorem dX0_madeEven_4 : decode cX0_madeEven 4 = .ok (.iload_n 1, 1) := dk_27 (dk_at dksX0_madeEven_0 4 rfl rfl)
theorem dX0_madeEven_5 : decode cX0_madeEven 5 = .ok (.invokevirtual 168, 3) := dk_182 0 168 (dk_at dksX0_madeEven_0 5 rfl rfl)
theorem dX0_madeEven_8 : decode cX0_madeEven 8 = .ok (.ifCond .eq 25, 3) := dk_153 0 25 (dk_at dksX0_madeEven_0 8 rfl rfl)
theorem dX0_madeEven_11 : decode cX0_madeEven 11 = .ok (.aload_n 0, 1) := dk_42 (dk_at dksX0_madeEven_0 11 rfl rfl)
theorem dX0_madeEven_12 : decode cX0_madeEven 12 = .ok (.getfield 63, 3) := dk_180 0 63 (dk_at dksX0_madeEven_0 12 rfl rfl)
theorem dX0_madeEven_15 : decode cX0_madeEven 15 = .ok (.iload_n 1, 1) := dk_27 (dk_at dksX0_madeEven_0 15 rfl rfl)
theorem dX0_madeEven_16 : decode cX0_madeEven 16 = .ok (.iconst 0, 1) := dk_3 (dk_at dksX0_madeEven_0 16 rfl rfl)
theorem dX0_madeEven_17 : decode cX0_madeEven 17 = .ok (.invokevirtual 184, 3) := dk_182 0 184 (dk_at dksX0_madeEven_0 17 rfl rfl)
theorem dX0_madeEven_20 : decode cX0_madeEven 20 = .ok (.aload_n 0, 1) := dk_42 (dk_at dksX0_madeEven_0 20 rfl rfl)
theorem dX0_madeEven_21 : decode cX0_madeEven 21 = .ok (.getfield 63, 3) := dk_180 0 63 (dk_at dksX0_madeEven_0 21 rfl rfl)
theorem dX0_madeEven_24 : decode cX0_madeEven 24 = .ok (.iload_n 1, 1) := dk_27 (dk_at dksX0_madeEven_1 0 rfl rfl)
theorem dX0_madeEven_25 : decode cX0_madeEven 25 = .ok (.iconst 1, 1) := dk_4 (dk_at dksX0_madeEven_1 1 rfl rfl)
theorem dX0_madeEven_26 : decode cX0_madeEven 26 = .ok (.invokevirtual 184, 3) := dk_182 0 184 (dk_at dksX0_madeEven_1 2 rfl rfl)
theorem dX0_madeEven_29 : decode cX0_madeEven 29 = .ok (.isub, 1) := dk_100 (dk_at dksX0_madeEven_1 5 rfl rfl)
theorem dX0_madeEven_30 : decode cX0_madeEven 30 = .ok (.goto 5, 3) := dk_167 0 5 (dk_at dksX0_madeEven_1 6 rfl rfl)
theorem dX0_madeEven_33 : decode cX0_madeEven 33 = .ok (.ldc 254, 2) := dk_18 254 (dk_at dksX0_madeEven_1 9 rfl rfl)
theorem dX0_madeEven_35 : decode cX0_madeEven 35 = .ok (.ireturn, 1) := dk_172 (dk_at dksX0_madeEven_1 11 rfl rfl)
abbrev cX0_mostOwed : ByteArray := prog_1_method_43_code
def yX0_mostOwed : MethodName := ⟨RX0, "mostOwed", "()I"⟩
def dkwX0_mostOwed_2 : List UInt8 := [167, 255, 215, 27, 172]
abbrev dktX0_mostOwed_2 : List UInt8 := dkwX0_mostOwed_2 ++ []
def dkwX0_mostOwed_1 : List UInt8 := [16, 254, 159, 0, 16, 42, 28, 182, 0, 255, 42, 27, 182, 0, 255, 164, 0, 5, 28, 60, 132, 2, 1]
abbrev dktX0_mostOwed_1 : List UInt8 := dkwX0_mostOwed_1 ++ dktX0_mostOwed_2
def dkwX0_mostOwed_0 : List UInt8 := [16, 254, 60, 3, 61, 28, 16, 16, 162, 0, 41, 42, 180, 0, 16, 28, 182, 0, 168, 153, 0, 24, 27]
abbrev dktX0_mostOwed_0 : List UInt8 := dkwX0_mostOwed_0 ++ dktX0_mostOwed_1
theorem dksX0_mostOwed_0 : cX0_mostOwed.data.toList.drop 0 = dktX0_mostOwed_0 := by decide +kernel
theorem dksX0_mostOwed_1 : cX0_mostOwed.data.toList.drop 23 = dktX0_mostOwed_1 := dk_seg dksX0_mostOwed_0 23 rfl rfl
theorem dksX0_mostOwed_2 : cX0_mostOwed.data.toList.drop 46 = dktX0_mostOwed_2 := dk_seg dksX0_mostOwed_1 23 rfl rfl
theorem dX0_mostOwed_0 : decode cX0_mostOwed 0 = .ok (.bipush (-2), 2) := dk_16 254 (dk_at dksX0_mostOwed_0 0 rfl rfl)
theorem dX0_mostOwed_2 : decode cX0_mostOwed 2 = .ok (.istore_n 1, 1) := dk_60 (dk_at dksX0_mostOwed_0 2 rfl rfl)
theorem dX0_mostOwed_3 : decode cX0_mostOwed 3 = .ok (.iconst 0, 1) := dk_3 (dk_at dksX0_mostOwed_0 3 rfl rfl)
theorem dX0_mostOwed_4 : decode cX0_mostOwed 4 = .ok (.istore_n 2, 1) := dk_61 (dk_at dksX0_mostOwed_0 4 rfl rfl)
theorem dX0_mostOwed_5 : decode cX0_mostOwed 5 = .ok (.iload_n 2, 1) := dk_28 (dk_at dksX0_mostOwed_0 5 rfl rfl)
theorem dX0_mostOwed_6 : decode cX0_mostOwed 6 = .ok (.bipush 16, 2) := dk_16 16 (dk_at dksX0_mostOwed_0 6 rfl rfl)
theorem dX0_mostOwed_8 : decode cX0_mostOwed 8 = .ok (.if_icmp .ge 41, 3) := dk_162 0 41 (dk_at dksX0_mostOwed_0 8 rfl rfl)
theorem dX0_mostOwed_11 : decode cX0_mostOwed 11 = .ok (.aload_n 0, 1) := dk_42 (dk_at dksX0_mostOwed_0 11 rfl rfl)
theorem dX0_mostOwed_12 : decode cX0_mostOwed 12 = .ok (.getfield 16, 3) := dk_180 0 16 (dk_at dksX0_mostOwed_0 12 rfl rfl)
theorem dX0_mostOwed_15 : decode cX0_mostOwed 15 = .ok (.iload_n 2, 1) := dk_28 (dk_at dksX0_mostOwed_0 15 rfl rfl)
theorem dX0_mostOwed_16 : decode cX0_mostOwed 16 = .ok (.invokevirtual 168, 3) := dk_182 0 168 (dk_at dksX0_mostOwed_0 16 rfl rfl)
theorem dX0_mostOwed_19 : decode cX0_mostOwed 19 = .ok (.ifCond .eq 24, 3) := dk_153 0 24 (dk_at dksX0_mostOwed_0 19 rfl rfl)
theorem dX0_mostOwed_22 : decode cX0_mostOwed 22 = .ok (.iload_n 1, 1) := dk_27 (dk_at dksX0_mostOwed_0 22 rfl rfl)
theorem dX0_mostOwed_23 : decode cX0_mostOwed 23 = .ok (.bipush (-2), 2) := dk_16 254 (dk_at dksX0_mostOwed_1 0 rfl rfl)
theorem dX0_mostOwed_25 : decode cX0_mostOwed 25 = .ok (.if_icmp .eq 16, 3) := dk_159 0 16 (dk_at dksX0_mostOwed_1 2 rfl rfl)
theorem dX0_mostOwed_28 : decode cX0_mostOwed 28 = .ok (.aload_n 0, 1) := dk_42 (dk_at dksX0_mostOwed_1 5 rfl rfl)
theorem dX0_mostOwed_29 : decode cX0_mostOwed 29 = .ok (.iload_n 2, 1) := dk_28 (dk_at dksX0_mostOwed_1 6 rfl rfl)
theorem dX0_mostOwed_30 : decode cX0_mostOwed 30 = .ok (.invokevirtual 255, 3) := dk_182 0 255 (dk_at dksX0_mostOwed_1 7 rfl rfl)
theorem dX0_mostOwed_33 : decode cX0_mostOwed 33 = .ok (.aload_n 0, 1) := dk_42 (dk_at dksX0_mostOwed_1 10 rfl rfl)
theorem dX0_mostOwed_34 : decode cX0_mostOwed 34 = .ok (.iload_n 1, 1) := dk_27 (dk_at dksX0_mostOwed_1 11 rfl rfl)
theorem dX0_mostOwed_35 : decode cX0_mostOwed 35 = .ok (.invokevirtual 255, 3) := dk_182 0 255 (dk_at dksX0_mostOwed_1 12 rfl rfl)
theorem dX0_mostOwed_38 : decode cX0_mostOwed 38 = .ok (.if_icmp .le 5, 3) := dk_164 0 5 (dk_at dksX0_mostOwed_1 15 rfl rfl)
theorem dX0_mostOwed_41 : decode cX0_mostOwed 41 = .ok (.iload_n 2, 1) := dk_28 (dk_at dksX0_mostOwed_1 18 rfl rfl)
theorem dX0_mostOwed_42 : decode cX0_mostOwed 42 = .ok (.istore_n 1, 1) := dk_60 (dk_at dksX0_mostOwed_1 19 rfl rfl)
theorem dX0_mostOwed_43 : decode cX0_mostOwed 43 = .ok (.iinc 2 1, 3) := dk_132 2 1 (dk_at dksX0_mostOwed_1 20 rfl rfl)
theorem dX0_mostOwed_46 : decode cX0_mostOwed 46 = .ok (.goto (-41), 3) := dk_167 255 215 (dk_at dksX0_mostOwed_2 0 rfl rfl)
theorem dX0_mostOwed_49 : decode cX0_mostOwed 49 = .ok (.iload_n 1, 1) := dk_27 (dk_at dksX0_mostOwed_2 3 rfl rfl)
theorem dX0_mostOwed_50 : decode cX0_mostOwed 50 = .ok (.ireturn, 1) := dk_172 (dk_at dksX0_mostOwed_2 4 rfl rfl)
abbrev cX0_hermit : ByteArray := prog_1_method_45_code
def yX0_hermit : MethodName := ⟨RX0, "hermit", "(II)I"⟩
def dkwX0_hermit_3 : List UInt8 := [104, 4, 96, 182, 1, 2, 128, 2, 130, 126, 62, 132, 4, 1, 167, 255, 220, 29, 172]
abbrev dktX0_hermit_3 : List UInt8 := dkwX0_hermit_3 ++ []
def dkwX0_hermit_2 : List UInt8 := [54, 4, 21, 4, 28, 162, 0, 36, 29, 42, 5, 21, 4, 104, 182, 1, 2, 16, 8, 120, 42, 5, 21, 4]
abbrev dktX0_hermit_2 : List UInt8 := dkwX0_hermit_2 ++ dktX0_hermit_3
def dkwX0_hermit_1 : List UInt8 := [42, 180, 0, 113, 164, 0, 5, 2, 172, 42, 3, 181, 0, 113, 42, 180, 0, 16, 27, 182, 0, 200, 62, 3]
abbrev dktX0_hermit_1 : List UInt8 := dkwX0_hermit_1 ++ dktX0_hermit_2
def dkwX0_hermit_0 : List UInt8 := [42, 180, 0, 16, 27, 182, 0, 168, 153, 0, 23, 28, 4, 16, 8, 184, 0, 120, 153, 0, 13, 5, 28, 104]
abbrev dktX0_hermit_0 : List UInt8 := dkwX0_hermit_0 ++ dktX0_hermit_1
theorem dksX0_hermit_0 : cX0_hermit.data.toList.drop 0 = dktX0_hermit_0 := by decide +kernel
theorem dksX0_hermit_1 : cX0_hermit.data.toList.drop 24 = dktX0_hermit_1 := dk_seg dksX0_hermit_0 24 rfl rfl
theorem dksX0_hermit_2 : cX0_hermit.data.toList.drop 48 = dktX0_hermit_2 := dk_seg dksX0_hermit_1 24 rfl rfl
theorem dksX0_hermit_3 : cX0_hermit.data.toList.drop 72 = dktX0_hermit_3 := dk_seg dksX0_hermit_2 24 rfl rfl
theorem dX0_hermit_0 : decode cX0_hermit 0 = .ok (.aload_n 0, 1) := dk_42 (dk_at dksX0_hermit_0 0 rfl rfl)
theorem dX0_hermit_1 : decode cX0_hermit 1 = .ok (.getfield 16, 3) := dk_180 0 16 (dk_at dksX0_hermit_0 1 rfl rfl)
theorem dX0_hermit_4 : decode cX0_hermit 4 = .ok (.iload_n 1, 1) := dk_27 (dk_at dksX0_hermit_0 4 rfl rfl)
theorem dX0_hermit_5 : decode cX0_hermit 5 = .ok (.invokevirtual 168, 3) := dk_182 0 168 (dk_at dksX0_hermit_0 5 rfl rfl)
theorem dX0_hermit_8 : decode cX0_hermit 8 = .ok (.ifCond .eq 23, 3) := dk_153 0 23 (dk_at dksX0_hermit_0 8 rfl rfl)
theorem dX0_hermit_11 : decode cX0_hermit 11 = .ok (.iload_n 2, 1) := dk_28 (dk_at dksX0_hermit_0 11 rfl rfl)
theorem dX0_hermit_12 : decode cX0_hermit 12 = .ok (.iconst 1, 1) := dk_4 (dk_at dksX0_hermit_0 12 rfl rfl)
theorem dX0_hermit_13 : decode cX0_hermit 13 = .ok (.bipush 8, 2) := dk_16 8 (dk_at dksX0_hermit_0 13 rfl rfl)
theorem dX0_hermit_15 : decode cX0_hermit 15 = .ok (.invokestatic 120, 3) := dk_184 0 120 (dk_at dksX0_hermit_0 15 rfl rfl)
theorem dX0_hermit_18 : decode cX0_hermit 18 = .ok (.ifCond .eq 13, 3) := dk_153 0 13 (dk_at dksX0_hermit_0 18 rfl rfl)
theorem dX0_hermit_21 : decode cX0_hermit 21 = .ok (.iconst 2, 1) := dk_5 (dk_at dksX0_hermit_0 21 rfl rfl)
theorem dX0_hermit_22 : decode cX0_hermit 22 = .ok (.iload_n 2, 1) := dk_28 (dk_at dksX0_hermit_0 22 rfl rfl)
theorem dX0_hermit_23 : decode cX0_hermit 23 = .ok (.imul, 1) := dk_104 (dk_at dksX0_hermit_0 23 rfl rfl)
theorem dX0_hermit_24 : decode cX0_hermit 24 = .ok (.aload_n 0, 1) := dk_42 (dk_at dksX0_hermit_1 0 rfl rfl)
theorem dX0_hermit_25 : decode cX0_hermit 25 = .ok (.getfield 113, 3) := dk_180 0 113 (dk_at dksX0_hermit_1 1 rfl rfl)
theorem dX0_hermit_28 : decode cX0_hermit 28 = .ok (.if_icmp .le 5, 3) := dk_164 0 5 (dk_at dksX0_hermit_1 4 rfl rfl)
theorem dX0_hermit_31 : decode cX0_hermit 31 = .ok (.iconst (-1), 1) := dk_2 (dk_at dksX0_hermit_1 7 rfl rfl)
theorem dX0_hermit_32 : decode cX0_hermit 32 = .ok (.ireturn, 1) := dk_172 (dk_at dksX0_hermit_1 8 rfl rfl)
theorem dX0_hermit_33 : decode cX0_hermit 33 = .ok (.aload_n 0, 1) := dk_42 (dk_at dksX0_hermit_1 9 rfl rfl)
theorem dX0_hermit_34 : decode cX0_hermit 34 = .ok (.iconst 0, 1) := dk_3 (dk_at dksX0_hermit_1 10 rfl rfl)
theorem dX0_hermit_35 : decode cX0_hermit 35 = .ok (.putfield 113, 3) := dk_181 0 113 (dk_at dksX0_hermit_1 11 rfl rfl)
theorem dX0_hermit_38 : decode cX0_hermit 38 = .ok (.aload_n 0, 1) := dk_42 (dk_at dksX0_hermit_1 14 rfl rfl)
theorem dX0_hermit_39 : decode cX0_hermit 39 = .ok (.getfield 16, 3) := dk_180 0 16 (dk_at dksX0_hermit_1 15 rfl rfl)
theorem dX0_hermit_42 : decode cX0_hermit 42 = .ok (.iload_n 1, 1) := dk_27 (dk_at dksX0_hermit_1 18 rfl rfl)
theorem dX0_hermit_43 : decode cX0_hermit 43 = .ok (.invokevirtual 200, 3) := dk_182 0 200 (dk_at dksX0_hermit_1 19 rfl rfl)
theorem dX0_hermit_46 : decode cX0_hermit 46 = .ok (.istore_n 3, 1) := dk_62 (dk_at dksX0_hermit_1 22 rfl rfl)
theorem dX0_hermit_47 : decode cX0_hermit 47 = .ok (.iconst 0, 1) := dk_3 (dk_at dksX0_hermit_1 23 rfl rfl)
theorem dX0_hermit_48 : decode cX0_hermit 48 = .ok (.istore 4, 2) := dk_54 4 (dk_at dksX0_hermit_2 0 rfl rfl)
theorem dX0_hermit_50 : decode cX0_hermit 50 = .ok (.iload 4, 2) := dk_21 4 (dk_at dksX0_hermit_2 2 rfl rfl)
theorem dX0_hermit_52 : decode cX0_hermit 52 = .ok (.iload_n 2, 1) := dk_28 (dk_at dksX0_hermit_2 4 rfl rfl)
theorem dX0_hermit_53 : decode cX0_hermit 53 = .ok (.if_icmp .ge 36, 3) := dk_162 0 36 (dk_at dksX0_hermit_2 5 rfl rfl)
theorem dX0_hermit_56 : decode cX0_hermit 56 = .ok (.iload_n 3, 1) := dk_29 (dk_at dksX0_hermit_2 8 rfl rfl)
theorem dX0_hermit_57 : decode cX0_hermit 57 = .ok (.aload_n 0, 1) := dk_42 (dk_at dksX0_hermit_2 9 rfl rfl)
theorem dX0_hermit_58 : decode cX0_hermit 58 = .ok (.iconst 2, 1) := dk_5 (dk_at dksX0_hermit_2 10 rfl rfl)
theorem dX0_hermit_59 : decode cX0_hermit 59 = .ok (.iload 4, 2) := dk_21 4 (dk_at dksX0_hermit_2 11 rfl rfl)
theorem dX0_hermit_61 : decode cX0_hermit 61 = .ok (.imul, 1) := dk_104 (dk_at dksX0_hermit_2 13 rfl rfl)
theorem dX0_hermit_62 : decode cX0_hermit 62 = .ok (.invokevirtual 258, 3) := dk_182 1 2 (dk_at dksX0_hermit_2 14 rfl rfl)
theorem dX0_hermit_65 : decode cX0_hermit 65 = .ok (.bipush 8, 2) := dk_16 8 (dk_at dksX0_hermit_2 17 rfl rfl)
theorem dX0_hermit_67 : decode cX0_hermit 67 = .ok (.ishl, 1) := dk_120 (dk_at dksX0_hermit_2 19 rfl rfl)
theorem dX0_hermit_68 : decode cX0_hermit 68 = .ok (.aload_n 0, 1) := dk_42 (dk_at dksX0_hermit_2 20 rfl rfl)
theorem dX0_hermit_69 : decode cX0_hermit 69 = .ok (.iconst 2, 1) := dk_5 (dk_at dksX0_hermit_2 21 rfl rfl)
theorem dX0_hermit_70 : decode cX0_hermit 70 = .ok (.iload 4, 2) := dk_21 4 (dk_at dksX0_hermit_2 22 rfl rfl)
theorem dX0_hermit_72 : decode cX0_hermit 72 = .ok (.imul, 1) := dk_104 (dk_at dksX0_hermit_3 0 rfl rfl)
theorem dX0_hermit_73 : decode cX0_hermit 73 = .ok (.iconst 1, 1) := dk_4 (dk_at dksX0_hermit_3 1 rfl rfl)
theorem dX0_hermit_74 : decode cX0_hermit 74 = .ok (.iadd, 1) := dk_96 (dk_at dksX0_hermit_3 2 rfl rfl)
theorem dX0_hermit_75 : decode cX0_hermit 75 = .ok (.invokevirtual 258, 3) := dk_182 1 2 (dk_at dksX0_hermit_3 3 rfl rfl)
theorem dX0_hermit_78 : decode cX0_hermit 78 = .ok (.ior, 1) := dk_128 (dk_at dksX0_hermit_3 6 rfl rfl)
theorem dX0_hermit_79 : decode cX0_hermit 79 = .ok (.iconst (-1), 1) := dk_2 (dk_at dksX0_hermit_3 7 rfl rfl)
theorem dX0_hermit_80 : decode cX0_hermit 80 = .ok (.ixor, 1) := dk_130 (dk_at dksX0_hermit_3 8 rfl rfl)
theorem dX0_hermit_81 : decode cX0_hermit 81 = .ok (.iand, 1) := dk_126 (dk_at dksX0_hermit_3 9 rfl rfl)
theorem dX0_hermit_82 : decode cX0_hermit 82 = .ok (.istore_n 3, 1) := dk_62 (dk_at dksX0_hermit_3 10 rfl rfl)
theorem dX0_hermit_83 : decode cX0_hermit 83 = .ok (.iinc 4 1, 3) := dk_132 4 1 (dk_at dksX0_hermit_3 11 rfl rfl)
theorem dX0_hermit_86 : decode cX0_hermit 86 = .ok (.goto (-36), 3) := dk_167 255 220 (dk_at dksX0_hermit_3 14 rfl rfl)
theorem dX0_hermit_89 : decode cX0_hermit 89 = .ok (.iload_n 3, 1) := dk_29 (dk_at dksX0_hermit_3 17 rfl rfl)
theorem dX0_hermit_90 : decode cX0_hermit 90 = .ok (.ireturn, 1) := dk_172 (dk_at dksX0_hermit_3 18 rfl rfl)
abbrev cX0_fed : ByteArray := prog_1_method_44_code
def yX0_fed : MethodName := ⟨RX0, "fed", "(I)I"⟩
def dkwX0_fed_0 : List UInt8 := [42, 180, 0, 73, 27, 51, 17, 0, 255, 126, 172]
abbrev dktX0_fed_0 : List UInt8 := dkwX0_fed_0 ++ []
theorem dksX0_fed_0 : cX0_fed.data.toList.drop 0 = dktX0_fed_0 := by decide +kernel
theorem dX0_fed_0 : decode cX0_fed 0 = .ok (.aload_n 0, 1) := dk_42 (dk_at dksX0_fed_0 0 rfl rfl)
theorem dX0_fed_1 : decode cX0_fed 1 = .ok (.getfield 73, 3) := dk_180 0 73 (dk_at dksX0_fed_0 1 rfl rfl)
theorem dX0_fed_4 : decode cX0_fed 4 = .ok (.iload_n 1, 1) := dk_27 (dk_at dksX0_fed_0 4 rfl rfl)
theorem dX0_fed_5 : decode cX0_fed 5 = .ok (.baload, 1) := dk_51 (dk_at dksX0_fed_0 5 rfl rfl)
theorem dX0_fed_6 : decode cX0_fed 6 = .ok (.sipush 255, 3) := dk_17 0 255 (dk_at dksX0_fed_0 6 rfl rfl)
theorem dX0_fed_9 : decode cX0_fed 9 = .ok (.iand, 1) := dk_126 (dk_at dksX0_fed_0 9 rfl rfl)
theorem dX0_fed_10 : decode cX0_fed 10 = .ok (.ireturn, 1) := dk_172 (dk_at dksX0_fed_0 10 rfl rfl)
abbrev cX0_burglar : ByteArray := prog_1_method_46_code
def yX0_burglar : MethodName := ⟨RX0, "burglar", "(I)I"⟩
def dkwX0_burglar_3 : List UInt8 := [132, 3, 1, 167, 255, 218, 28, 172]
abbrev dktX0_burglar_3 : List UInt8 := dkwX0_burglar_3 ++ []
def dkwX0_burglar_2 : List UInt8 := [182, 1, 2, 182, 0, 168, 154, 0, 6, 16, 253, 172, 28, 4, 42, 29, 182, 1, 2, 120, 2, 130, 126, 61]
abbrev dktX0_burglar_2 : List UInt8 := dkwX0_burglar_2 ++ dktX0_burglar_3
def dkwX0_burglar_1 : List UInt8 := [181, 0, 113, 42, 180, 0, 16, 180, 0, 22, 61, 3, 62, 29, 27, 162, 0, 39, 42, 180, 0, 16, 42, 29]
abbrev dktX0_burglar_1 : List UInt8 := dkwX0_burglar_1 ++ dktX0_burglar_2
def dkwX0_burglar_0 : List UInt8 := [27, 4, 16, 10, 184, 0, 120, 153, 0, 11, 27, 42, 180, 0, 113, 164, 0, 5, 2, 172, 42, 3]
abbrev dktX0_burglar_0 : List UInt8 := dkwX0_burglar_0 ++ dktX0_burglar_1
theorem dksX0_burglar_0 : cX0_burglar.data.toList.drop 0 = dktX0_burglar_0 := by decide +kernel
theorem dksX0_burglar_1 : cX0_burglar.data.toList.drop 22 = dktX0_burglar_1 := dk_seg dksX0_burglar_0 22 rfl rfl
theorem dksX0_burglar_2 : cX0_burglar.data.toList.drop 46 = dktX0_burglar_2 := dk_seg dksX0_burglar_1 24 rfl rfl
theorem dksX0_burglar_3 : cX0_burglar.data.toList.drop 70 = dktX0_burglar_3 := dk_seg dksX0_burglar_2 24 rfl rfl
theorem dX0_burglar_0 : decode cX0_burglar 0 = .ok (.iload_n 1, 1) := dk_27 (dk_at dksX0_burglar_0 0 rfl rfl)
theorem dX0_burglar_1 : decode cX0_burglar 1 = .ok (.iconst 1, 1) := dk_4 (dk_at dksX0_burglar_0 1 rfl rfl)
theorem dX0_burglar_2 : decode cX0_burglar 2 = .ok (.bipush 10, 2) := dk_16 10 (dk_at dksX0_burglar_0 2 rfl rfl)
theorem dX0_burglar_4 : decode cX0_burglar 4 = .ok (.invokestatic 120, 3) := dk_184 0 120 (dk_at dksX0_burglar_0 4 rfl rfl)
theorem dX0_burglar_7 : decode cX0_burglar 7 = .ok (.ifCond .eq 11, 3) := dk_153 0 11 (dk_at dksX0_burglar_0 7 rfl rfl)
theorem dX0_burglar_10 : decode cX0_burglar 10 = .ok (.iload_n 1, 1) := dk_27 (dk_at dksX0_burglar_0 10 rfl rfl)
theorem dX0_burglar_11 : decode cX0_burglar 11 = .ok (.aload_n 0, 1) := dk_42 (dk_at dksX0_burglar_0 11 rfl rfl)
theorem dX0_burglar_12 : decode cX0_burglar 12 = .ok (.getfield 113, 3) := dk_180 0 113 (dk_at dksX0_burglar_0 12 rfl rfl)
theorem dX0_burglar_15 : decode cX0_burglar 15 = .ok (.if_icmp .le 5, 3) := dk_164 0 5 (dk_at dksX0_burglar_0 15 rfl rfl)
theorem dX0_burglar_18 : decode cX0_burglar 18 = .ok (.iconst (-1), 1) := dk_2 (dk_at dksX0_burglar_0 18 rfl rfl)
theorem dX0_burglar_19 : decode cX0_burglar 19 = .ok (.ireturn, 1) := dk_172 (dk_at dksX0_burglar_0 19 rfl rfl)
theorem dX0_burglar_20 : decode cX0_burglar 20 = .ok (.aload_n 0, 1) := dk_42 (dk_at dksX0_burglar_0 20 rfl rfl)
theorem dX0_burglar_21 : decode cX0_burglar 21 = .ok (.iconst 0, 1) := dk_3 (dk_at dksX0_burglar_0 21 rfl rfl)
theorem dX0_burglar_22 : decode cX0_burglar 22 = .ok (.putfield 113, 3) := dk_181 0 113 (dk_at dksX0_burglar_1 0 rfl rfl)
theorem dX0_burglar_25 : decode cX0_burglar 25 = .ok (.aload_n 0, 1) := dk_42 (dk_at dksX0_burglar_1 3 rfl rfl)
theorem dX0_burglar_26 : decode cX0_burglar 26 = .ok (.getfield 16, 3) := dk_180 0 16 (dk_at dksX0_burglar_1 4 rfl rfl)
theorem dX0_burglar_29 : decode cX0_burglar 29 = .ok (.getfield 22, 3) := dk_180 0 22 (dk_at dksX0_burglar_1 7 rfl rfl)
theorem dX0_burglar_32 : decode cX0_burglar 32 = .ok (.istore_n 2, 1) := dk_61 (dk_at dksX0_burglar_1 10 rfl rfl)
theorem dX0_burglar_33 : decode cX0_burglar 33 = .ok (.iconst 0, 1) := dk_3 (dk_at dksX0_burglar_1 11 rfl rfl)
theorem dX0_burglar_34 : decode cX0_burglar 34 = .ok (.istore_n 3, 1) := dk_62 (dk_at dksX0_burglar_1 12 rfl rfl)
theorem dX0_burglar_35 : decode cX0_burglar 35 = .ok (.iload_n 3, 1) := dk_29 (dk_at dksX0_burglar_1 13 rfl rfl)
theorem dX0_burglar_36 : decode cX0_burglar 36 = .ok (.iload_n 1, 1) := dk_27 (dk_at dksX0_burglar_1 14 rfl rfl)
theorem dX0_burglar_37 : decode cX0_burglar 37 = .ok (.if_icmp .ge 39, 3) := dk_162 0 39 (dk_at dksX0_burglar_1 15 rfl rfl)
theorem dX0_burglar_40 : decode cX0_burglar 40 = .ok (.aload_n 0, 1) := dk_42 (dk_at dksX0_burglar_1 18 rfl rfl)
theorem dX0_burglar_41 : decode cX0_burglar 41 = .ok (.getfield 16, 3) := dk_180 0 16 (dk_at dksX0_burglar_1 19 rfl rfl)
theorem dX0_burglar_44 : decode cX0_burglar 44 = .ok (.aload_n 0, 1) := dk_42 (dk_at dksX0_burglar_1 22 rfl rfl)
theorem dX0_burglar_45 : decode cX0_burglar 45 = .ok (.iload_n 3, 1) := dk_29 (dk_at dksX0_burglar_1 23 rfl rfl)
theorem dX0_burglar_46 : decode cX0_burglar 46 = .ok (.invokevirtual 258, 3) := dk_182 1 2 (dk_at dksX0_burglar_2 0 rfl rfl)
theorem dX0_burglar_49 : decode cX0_burglar 49 = .ok (.invokevirtual 168, 3) := dk_182 0 168 (dk_at dksX0_burglar_2 3 rfl rfl)
theorem dX0_burglar_52 : decode cX0_burglar 52 = .ok (.ifCond .ne 6, 3) := dk_154 0 6 (dk_at dksX0_burglar_2 6 rfl rfl)
theorem dX0_burglar_55 : decode cX0_burglar 55 = .ok (.bipush (-3), 2) := dk_16 253 (dk_at dksX0_burglar_2 9 rfl rfl)
theorem dX0_burglar_57 : decode cX0_burglar 57 = .ok (.ireturn, 1) := dk_172 (dk_at dksX0_burglar_2 11 rfl rfl)
theorem dX0_burglar_58 : decode cX0_burglar 58 = .ok (.iload_n 2, 1) := dk_28 (dk_at dksX0_burglar_2 12 rfl rfl)
theorem dX0_burglar_59 : decode cX0_burglar 59 = .ok (.iconst 1, 1) := dk_4 (dk_at dksX0_burglar_2 13 rfl rfl)
theorem dX0_burglar_60 : decode cX0_burglar 60 = .ok (.aload_n 0, 1) := dk_42 (dk_at dksX0_burglar_2 14 rfl rfl)
theorem dX0_burglar_61 : decode cX0_burglar 61 = .ok (.iload_n 3, 1) := dk_29 (dk_at dksX0_burglar_2 15 rfl rfl)
theorem dX0_burglar_62 : decode cX0_burglar 62 = .ok (.invokevirtual 258, 3) := dk_182 1 2 (dk_at dksX0_burglar_2 16 rfl rfl)
theorem dX0_burglar_65 : decode cX0_burglar 65 = .ok (.ishl, 1) := dk_120 (dk_at dksX0_burglar_2 19 rfl rfl)
theorem dX0_burglar_66 : decode cX0_burglar 66 = .ok (.iconst (-1), 1) := dk_2 (dk_at dksX0_burglar_2 20 rfl rfl)
theorem dX0_burglar_67 : decode cX0_burglar 67 = .ok (.ixor, 1) := dk_130 (dk_at dksX0_burglar_2 21 rfl rfl)
theorem dX0_burglar_68 : decode cX0_burglar 68 = .ok (.iand, 1) := dk_126 (dk_at dksX0_burglar_2 22 rfl rfl)
theorem dX0_burglar_69 : decode cX0_burglar 69 = .ok (.istore_n 2, 1) := dk_61 (dk_at dksX0_burglar_2 23 rfl rfl)
theorem dX0_burglar_70 : decode cX0_burglar 70 = .ok (.iinc 3 1, 3) := dk_132 3 1 (dk_at dksX0_burglar_3 0 rfl rfl)
theorem dX0_burglar_73 : decode cX0_burglar 73 = .ok (.goto (-38), 3) := dk_167 255 218 (dk_at dksX0_burglar_3 3 rfl rfl)
theorem dX0_burglar_76 : decode cX0_burglar 76 = .ok (.iload_n 2, 1) := dk_28 (dk_at dksX0_burglar_3 6 rfl rfl)
theorem dX0_burglar_77 : decode cX0_burglar 77 = .ok (.ireturn, 1) := dk_172 (dk_at dksX0_burglar_3 7 rfl rfl)
abbrev cX0_calls : ByteArray := prog_1_method_51_code
def yX0_calls : MethodName := ⟨RX0, "calls", "(II)I"⟩
def dkwX0_calls_6 : List UInt8 := [167, 0, 4, 29, 172]
abbrev dktX0_calls_6 : List UInt8 := dkwX0_calls_6 ++ []
def dkwX0_calls_5 : List UInt8 := [46, 42, 180, 0, 104, 3, 50, 27, 4, 100, 46, 184, 0, 1, 62, 29, 19, 1, 5, 161, 0, 8, 16, 254]
abbrev dktX0_calls_5 : List UInt8 := dkwX0_calls_5 ++ dktX0_calls_6
def dkwX0_calls_4 : List UInt8 := [182, 1, 15, 132, 4, 1, 167, 255, 234, 132, 3, 1, 167, 255, 220, 42, 180, 0, 101, 3, 50, 27, 4, 100]
abbrev dktX0_calls_4 : List UInt8 := dkwX0_calls_4 ++ dktX0_calls_5
def dkwX0_calls_3 : List UInt8 := [29, 27, 162, 0, 37, 3, 54, 4, 21, 4, 29, 96, 27, 162, 0, 20, 42, 21, 4, 21, 4, 29, 96, 28]
abbrev dktX0_calls_3 : List UInt8 := dkwX0_calls_3 ++ dktX0_calls_4
def dkwX0_calls_2 : List UInt8 := [182, 1, 2, 16, 100, 161, 0, 6, 16, 253, 172, 132, 3, 1, 167, 255, 233, 42, 27, 182, 1, 12, 3, 62]
abbrev dktX0_calls_2 : List UInt8 := dkwX0_calls_2 ++ dktX0_calls_3
def dkwX0_calls_1 : List UInt8 := [180, 0, 113, 164, 0, 5, 2, 172, 42, 3, 181, 0, 113, 3, 62, 29, 27, 162, 0, 24, 42, 5, 29, 104]
abbrev dktX0_calls_1 : List UInt8 := dkwX0_calls_1 ++ dktX0_calls_2
def dkwX0_calls_0 : List UInt8 := [27, 4, 16, 8, 184, 0, 120, 153, 0, 22, 28, 16, 100, 184, 0, 144, 153, 0, 13, 5, 27, 104, 42]
abbrev dktX0_calls_0 : List UInt8 := dkwX0_calls_0 ++ dktX0_calls_1
theorem dksX0_calls_0 : cX0_calls.data.toList.drop 0 = dktX0_calls_0 := by decide +kernel
theorem dksX0_calls_1 : cX0_calls.data.toList.drop 23 = dktX0_calls_1 := dk_seg dksX0_calls_0 23 rfl rfl
theorem dksX0_calls_2 : cX0_calls.data.toList.drop 47 = dktX0_calls_2 := dk_seg dksX0_calls_1 24 rfl rfl
theorem dksX0_calls_3 : cX0_calls.data.toList.drop 71 = dktX0_calls_3 := dk_seg dksX0_calls_2 24 rfl rfl
theorem dksX0_calls_4 : cX0_calls.data.toList.drop 95 = dktX0_calls_4 := dk_seg dksX0_calls_3 24 rfl rfl
theorem dksX0_calls_5 : cX0_calls.data.toList.drop 119 = dktX0_calls_5 := dk_seg dksX0_calls_4 24 rfl rfl
theorem dksX0_calls_6 : cX0_calls.data.toList.drop 143 = dktX0_calls_6 := dk_seg dksX0_calls_5 24 rfl rfl
theorem dX0_calls_0 : decode cX0_calls 0 = .ok (.iload_n 1, 1) := dk_27 (dk_at dksX0_calls_0 0 rfl rfl)
theorem dX0_calls_1 : decode cX0_calls 1 = .ok (.iconst 1, 1) := dk_4 (dk_at dksX0_calls_0 1 rfl rfl)
theorem dX0_calls_2 : decode cX0_calls 2 = .ok (.bipush 8, 2) := dk_16 8 (dk_at dksX0_calls_0 2 rfl rfl)
theorem dX0_calls_4 : decode cX0_calls 4 = .ok (.invokestatic 120, 3) := dk_184 0 120 (dk_at dksX0_calls_0 4 rfl rfl)
theorem dX0_calls_7 : decode cX0_calls 7 = .ok (.ifCond .eq 22, 3) := dk_153 0 22 (dk_at dksX0_calls_0 7 rfl rfl)
theorem dX0_calls_10 : decode cX0_calls 10 = .ok (.iload_n 2, 1) := dk_28 (dk_at dksX0_calls_0 10 rfl rfl)
theorem dX0_calls_11 : decode cX0_calls 11 = .ok (.bipush 100, 2) := dk_16 100 (dk_at dksX0_calls_0 11 rfl rfl)
theorem dX0_calls_13 : decode cX0_calls 13 = .ok (.invokestatic 144, 3) := dk_184 0 144 (dk_at dksX0_calls_0 13 rfl rfl)
theorem dX0_calls_16 : decode cX0_calls 16 = .ok (.ifCond .eq 13, 3) := dk_153 0 13 (dk_at dksX0_calls_0 16 rfl rfl)
theorem dX0_calls_19 : decode cX0_calls 19 = .ok (.iconst 2, 1) := dk_5 (dk_at dksX0_calls_0 19 rfl rfl)
theorem dX0_calls_20 : decode cX0_calls 20 = .ok (.iload_n 1, 1) := dk_27 (dk_at dksX0_calls_0 20 rfl rfl)
theorem dX0_calls_21 : decode cX0_calls 21 = .ok (.imul, 1) := dk_104 (dk_at dksX0_calls_0 21 rfl rfl)
theorem dX0_calls_22 : decode cX0_calls 22 = .ok (.aload_n 0, 1) := dk_42 (dk_at dksX0_calls_0 22 rfl rfl)
theorem dX0_calls_23 : decode cX0_calls 23 = .ok (.getfield 113, 3) := dk_180 0 113 (dk_at dksX0_calls_1 0 rfl rfl)
theorem dX0_calls_26 : decode cX0_calls 26 = .ok (.if_icmp .le 5, 3) := dk_164 0 5 (dk_at dksX0_calls_1 3 rfl rfl)
theorem dX0_calls_29 : decode cX0_calls 29 = .ok (.iconst (-1), 1) := dk_2 (dk_at dksX0_calls_1 6 rfl rfl)
theorem dX0_calls_30 : decode cX0_calls 30 = .ok (.ireturn, 1) := dk_172 (dk_at dksX0_calls_1 7 rfl rfl)
theorem dX0_calls_31 : decode cX0_calls 31 = .ok (.aload_n 0, 1) := dk_42 (dk_at dksX0_calls_1 8 rfl rfl)
theorem dX0_calls_32 : decode cX0_calls 32 = .ok (.iconst 0, 1) := dk_3 (dk_at dksX0_calls_1 9 rfl rfl)
theorem dX0_calls_33 : decode cX0_calls 33 = .ok (.putfield 113, 3) := dk_181 0 113 (dk_at dksX0_calls_1 10 rfl rfl)
theorem dX0_calls_36 : decode cX0_calls 36 = .ok (.iconst 0, 1) := dk_3 (dk_at dksX0_calls_1 13 rfl rfl)
theorem dX0_calls_37 : decode cX0_calls 37 = .ok (.istore_n 3, 1) := dk_62 (dk_at dksX0_calls_1 14 rfl rfl)
theorem dX0_calls_38 : decode cX0_calls 38 = .ok (.iload_n 3, 1) := dk_29 (dk_at dksX0_calls_1 15 rfl rfl)
theorem dX0_calls_39 : decode cX0_calls 39 = .ok (.iload_n 1, 1) := dk_27 (dk_at dksX0_calls_1 16 rfl rfl)
theorem dX0_calls_40 : decode cX0_calls 40 = .ok (.if_icmp .ge 24, 3) := dk_162 0 24 (dk_at dksX0_calls_1 17 rfl rfl)
theorem dX0_calls_43 : decode cX0_calls 43 = .ok (.aload_n 0, 1) := dk_42 (dk_at dksX0_calls_1 20 rfl rfl)
theorem dX0_calls_44 : decode cX0_calls 44 = .ok (.iconst 2, 1) := dk_5 (dk_at dksX0_calls_1 21 rfl rfl)
theorem dX0_calls_45 : decode cX0_calls 45 = .ok (.iload_n 3, 1) := dk_29 (dk_at dksX0_calls_1 22 rfl rfl)
theorem dX0_calls_46 : decode cX0_calls 46 = .ok (.imul, 1) := dk_104 (dk_at dksX0_calls_1 23 rfl rfl)
theorem dX0_calls_47 : decode cX0_calls 47 = .ok (.invokevirtual 258, 3) := dk_182 1 2 (dk_at dksX0_calls_2 0 rfl rfl)
theorem dX0_calls_50 : decode cX0_calls 50 = .ok (.bipush 100, 2) := dk_16 100 (dk_at dksX0_calls_2 3 rfl rfl)
theorem dX0_calls_52 : decode cX0_calls 52 = .ok (.if_icmp .lt 6, 3) := dk_161 0 6 (dk_at dksX0_calls_2 5 rfl rfl)
theorem dX0_calls_55 : decode cX0_calls 55 = .ok (.bipush (-3), 2) := dk_16 253 (dk_at dksX0_calls_2 8 rfl rfl)
theorem dX0_calls_57 : decode cX0_calls 57 = .ok (.ireturn, 1) := dk_172 (dk_at dksX0_calls_2 10 rfl rfl)
theorem dX0_calls_58 : decode cX0_calls 58 = .ok (.iinc 3 1, 3) := dk_132 3 1 (dk_at dksX0_calls_2 11 rfl rfl)
theorem dX0_calls_61 : decode cX0_calls 61 = .ok (.goto (-23), 3) := dk_167 255 233 (dk_at dksX0_calls_2 14 rfl rfl)
theorem dX0_calls_64 : decode cX0_calls 64 = .ok (.aload_n 0, 1) := dk_42 (dk_at dksX0_calls_2 17 rfl rfl)
theorem dX0_calls_65 : decode cX0_calls 65 = .ok (.iload_n 1, 1) := dk_27 (dk_at dksX0_calls_2 18 rfl rfl)
theorem dX0_calls_66 : decode cX0_calls 66 = .ok (.invokevirtual 268, 3) := dk_182 1 12 (dk_at dksX0_calls_2 19 rfl rfl)
theorem dX0_calls_69 : decode cX0_calls 69 = .ok (.iconst 0, 1) := dk_3 (dk_at dksX0_calls_2 22 rfl rfl)
theorem dX0_calls_70 : decode cX0_calls 70 = .ok (.istore_n 3, 1) := dk_62 (dk_at dksX0_calls_2 23 rfl rfl)
theorem dX0_calls_71 : decode cX0_calls 71 = .ok (.iload_n 3, 1) := dk_29 (dk_at dksX0_calls_3 0 rfl rfl)
theorem dX0_calls_72 : decode cX0_calls 72 = .ok (.iload_n 1, 1) := dk_27 (dk_at dksX0_calls_3 1 rfl rfl)
theorem dX0_calls_73 : decode cX0_calls 73 = .ok (.if_icmp .ge 37, 3) := dk_162 0 37 (dk_at dksX0_calls_3 2 rfl rfl)
theorem dX0_calls_76 : decode cX0_calls 76 = .ok (.iconst 0, 1) := dk_3 (dk_at dksX0_calls_3 5 rfl rfl)
theorem dX0_calls_77 : decode cX0_calls 77 = .ok (.istore 4, 2) := dk_54 4 (dk_at dksX0_calls_3 6 rfl rfl)
theorem dX0_calls_79 : decode cX0_calls 79 = .ok (.iload 4, 2) := dk_21 4 (dk_at dksX0_calls_3 8 rfl rfl)
theorem dX0_calls_81 : decode cX0_calls 81 = .ok (.iload_n 3, 1) := dk_29 (dk_at dksX0_calls_3 10 rfl rfl)
theorem dX0_calls_82 : decode cX0_calls 82 = .ok (.iadd, 1) := dk_96 (dk_at dksX0_calls_3 11 rfl rfl)
theorem dX0_calls_83 : decode cX0_calls 83 = .ok (.iload_n 1, 1) := dk_27 (dk_at dksX0_calls_3 12 rfl rfl)
theorem dX0_calls_84 : decode cX0_calls 84 = .ok (.if_icmp .ge 20, 3) := dk_162 0 20 (dk_at dksX0_calls_3 13 rfl rfl)
theorem dX0_calls_87 : decode cX0_calls 87 = .ok (.aload_n 0, 1) := dk_42 (dk_at dksX0_calls_3 16 rfl rfl)
theorem dX0_calls_88 : decode cX0_calls 88 = .ok (.iload 4, 2) := dk_21 4 (dk_at dksX0_calls_3 17 rfl rfl)
theorem dX0_calls_90 : decode cX0_calls 90 = .ok (.iload 4, 2) := dk_21 4 (dk_at dksX0_calls_3 19 rfl rfl)
theorem dX0_calls_92 : decode cX0_calls 92 = .ok (.iload_n 3, 1) := dk_29 (dk_at dksX0_calls_3 21 rfl rfl)
theorem dX0_calls_93 : decode cX0_calls 93 = .ok (.iadd, 1) := dk_96 (dk_at dksX0_calls_3 22 rfl rfl)
theorem dX0_calls_94 : decode cX0_calls 94 = .ok (.iload_n 2, 1) := dk_28 (dk_at dksX0_calls_3 23 rfl rfl)
theorem dX0_calls_95 : decode cX0_calls 95 = .ok (.invokevirtual 271, 3) := dk_182 1 15 (dk_at dksX0_calls_4 0 rfl rfl)
theorem dX0_calls_98 : decode cX0_calls 98 = .ok (.iinc 4 1, 3) := dk_132 4 1 (dk_at dksX0_calls_4 3 rfl rfl)
theorem dX0_calls_101 : decode cX0_calls 101 = .ok (.goto (-22), 3) := dk_167 255 234 (dk_at dksX0_calls_4 6 rfl rfl)
theorem dX0_calls_104 : decode cX0_calls 104 = .ok (.iinc 3 1, 3) := dk_132 3 1 (dk_at dksX0_calls_4 9 rfl rfl)
theorem dX0_calls_107 : decode cX0_calls 107 = .ok (.goto (-36), 3) := dk_167 255 220 (dk_at dksX0_calls_4 12 rfl rfl)
theorem dX0_calls_110 : decode cX0_calls 110 = .ok (.aload_n 0, 1) := dk_42 (dk_at dksX0_calls_4 15 rfl rfl)
theorem dX0_calls_111 : decode cX0_calls 111 = .ok (.getfield 101, 3) := dk_180 0 101 (dk_at dksX0_calls_4 16 rfl rfl)
theorem dX0_calls_114 : decode cX0_calls 114 = .ok (.iconst 0, 1) := dk_3 (dk_at dksX0_calls_4 19 rfl rfl)
theorem dX0_calls_115 : decode cX0_calls 115 = .ok (.aaload, 1) := dk_50 (dk_at dksX0_calls_4 20 rfl rfl)
theorem dX0_calls_116 : decode cX0_calls 116 = .ok (.iload_n 1, 1) := dk_27 (dk_at dksX0_calls_4 21 rfl rfl)
theorem dX0_calls_117 : decode cX0_calls 117 = .ok (.iconst 1, 1) := dk_4 (dk_at dksX0_calls_4 22 rfl rfl)
theorem dX0_calls_118 : decode cX0_calls 118 = .ok (.isub, 1) := dk_100 (dk_at dksX0_calls_4 23 rfl rfl)
theorem dX0_calls_119 : decode cX0_calls 119 = .ok (.iaload, 1) := dk_46 (dk_at dksX0_calls_5 0 rfl rfl)
theorem dX0_calls_120 : decode cX0_calls 120 = .ok (.aload_n 0, 1) := dk_42 (dk_at dksX0_calls_5 1 rfl rfl)
theorem dX0_calls_121 : decode cX0_calls 121 = .ok (.getfield 104, 3) := dk_180 0 104 (dk_at dksX0_calls_5 2 rfl rfl)
theorem dX0_calls_124 : decode cX0_calls 124 = .ok (.iconst 0, 1) := dk_3 (dk_at dksX0_calls_5 5 rfl rfl)
theorem dX0_calls_125 : decode cX0_calls 125 = .ok (.aaload, 1) := dk_50 (dk_at dksX0_calls_5 6 rfl rfl)
theorem dX0_calls_126 : decode cX0_calls 126 = .ok (.iload_n 1, 1) := dk_27 (dk_at dksX0_calls_5 7 rfl rfl)
theorem dX0_calls_127 : decode cX0_calls 127 = .ok (.iconst 1, 1) := dk_4 (dk_at dksX0_calls_5 8 rfl rfl)
theorem dX0_calls_128 : decode cX0_calls 128 = .ok (.isub, 1) := dk_100 (dk_at dksX0_calls_5 9 rfl rfl)
theorem dX0_calls_129 : decode cX0_calls 129 = .ok (.iaload, 1) := dk_46 (dk_at dksX0_calls_5 10 rfl rfl)
theorem dX0_calls_130 : decode cX0_calls 130 = .ok (.invokestatic 1, 3) := dk_184 0 1 (dk_at dksX0_calls_5 11 rfl rfl)
theorem dX0_calls_133 : decode cX0_calls 133 = .ok (.istore_n 3, 1) := dk_62 (dk_at dksX0_calls_5 14 rfl rfl)
theorem dX0_calls_134 : decode cX0_calls 134 = .ok (.iload_n 3, 1) := dk_29 (dk_at dksX0_calls_5 15 rfl rfl)
theorem dX0_calls_135 : decode cX0_calls 135 = .ok (.ldc_w 261, 3) := dk_19 1 5 (dk_at dksX0_calls_5 16 rfl rfl)
theorem dX0_calls_138 : decode cX0_calls 138 = .ok (.if_icmp .lt 8, 3) := dk_161 0 8 (dk_at dksX0_calls_5 19 rfl rfl)
theorem dX0_calls_141 : decode cX0_calls 141 = .ok (.bipush (-2), 2) := dk_16 254 (dk_at dksX0_calls_5 22 rfl rfl)
theorem dX0_calls_143 : decode cX0_calls 143 = .ok (.goto 4, 3) := dk_167 0 4 (dk_at dksX0_calls_6 0 rfl rfl)
theorem dX0_calls_146 : decode cX0_calls 146 = .ok (.iload_n 3, 1) := dk_29 (dk_at dksX0_calls_6 3 rfl rfl)
theorem dX0_calls_147 : decode cX0_calls 147 = .ok (.ireturn, 1) := dk_172 (dk_at dksX0_calls_6 4 rfl rfl)
abbrev cX0_sorts : ByteArray := prog_1_method_49_code
def yX0_sorts : MethodName := ⟨RX0, "sorts", "(I)V"⟩
def dkwX0_sorts_2 : List UInt8 := [100, 46, 79, 132, 3, 255, 167, 255, 211, 42, 180, 0, 96, 29, 28, 79, 132, 2, 1, 167, 255, 191, 177]
abbrev dktX0_sorts_2 : List UInt8 := dkwX0_sorts_2 ++ []
def dkwX0_sorts_1 : List UInt8 := [182, 1, 2, 42, 5, 28, 104, 182, 1, 2, 164, 0, 23, 42, 180, 0, 96, 29, 42, 180, 0, 96, 29, 4]
abbrev dktX0_sorts_1 : List UInt8 := dkwX0_sorts_1 ++ dktX0_sorts_2
def dkwX0_sorts_0 : List UInt8 := [3, 61, 28, 27, 162, 0, 66, 28, 62, 29, 158, 0, 47, 42, 5, 42, 180, 0, 96, 29, 4, 100, 46, 104]
abbrev dktX0_sorts_0 : List UInt8 := dkwX0_sorts_0 ++ dktX0_sorts_1
theorem dksX0_sorts_0 : cX0_sorts.data.toList.drop 0 = dktX0_sorts_0 := by decide +kernel
theorem dksX0_sorts_1 : cX0_sorts.data.toList.drop 24 = dktX0_sorts_1 := dk_seg dksX0_sorts_0 24 rfl rfl
theorem dksX0_sorts_2 : cX0_sorts.data.toList.drop 48 = dktX0_sorts_2 := dk_seg dksX0_sorts_1 24 rfl rfl
theorem dX0_sorts_0 : decode cX0_sorts 0 = .ok (.iconst 0, 1) := dk_3 (dk_at dksX0_sorts_0 0 rfl rfl)
theorem dX0_sorts_1 : decode cX0_sorts 1 = .ok (.istore_n 2, 1) := dk_61 (dk_at dksX0_sorts_0 1 rfl rfl)
theorem dX0_sorts_2 : decode cX0_sorts 2 = .ok (.iload_n 2, 1) := dk_28 (dk_at dksX0_sorts_0 2 rfl rfl)
theorem dX0_sorts_3 : decode cX0_sorts 3 = .ok (.iload_n 1, 1) := dk_27 (dk_at dksX0_sorts_0 3 rfl rfl)
theorem dX0_sorts_4 : decode cX0_sorts 4 = .ok (.if_icmp .ge 66, 3) := dk_162 0 66 (dk_at dksX0_sorts_0 4 rfl rfl)
theorem dX0_sorts_7 : decode cX0_sorts 7 = .ok (.iload_n 2, 1) := dk_28 (dk_at dksX0_sorts_0 7 rfl rfl)
theorem dX0_sorts_8 : decode cX0_sorts 8 = .ok (.istore_n 3, 1) := dk_62 (dk_at dksX0_sorts_0 8 rfl rfl)
theorem dX0_sorts_9 : decode cX0_sorts 9 = .ok (.iload_n 3, 1) := dk_29 (dk_at dksX0_sorts_0 9 rfl rfl)
theorem dX0_sorts_10 : decode cX0_sorts 10 = .ok (.ifCond .le 47, 3) := dk_158 0 47 (dk_at dksX0_sorts_0 10 rfl rfl)
theorem dX0_sorts_13 : decode cX0_sorts 13 = .ok (.aload_n 0, 1) := dk_42 (dk_at dksX0_sorts_0 13 rfl rfl)
theorem dX0_sorts_14 : decode cX0_sorts 14 = .ok (.iconst 2, 1) := dk_5 (dk_at dksX0_sorts_0 14 rfl rfl)
theorem dX0_sorts_15 : decode cX0_sorts 15 = .ok (.aload_n 0, 1) := dk_42 (dk_at dksX0_sorts_0 15 rfl rfl)
theorem dX0_sorts_16 : decode cX0_sorts 16 = .ok (.getfield 96, 3) := dk_180 0 96 (dk_at dksX0_sorts_0 16 rfl rfl)
theorem dX0_sorts_19 : decode cX0_sorts 19 = .ok (.iload_n 3, 1) := dk_29 (dk_at dksX0_sorts_0 19 rfl rfl)
theorem dX0_sorts_20 : decode cX0_sorts 20 = .ok (.iconst 1, 1) := dk_4 (dk_at dksX0_sorts_0 20 rfl rfl)
theorem dX0_sorts_21 : decode cX0_sorts 21 = .ok (.isub, 1) := dk_100 (dk_at dksX0_sorts_0 21 rfl rfl)
theorem dX0_sorts_22 : decode cX0_sorts 22 = .ok (.iaload, 1) := dk_46 (dk_at dksX0_sorts_0 22 rfl rfl)
theorem dX0_sorts_23 : decode cX0_sorts 23 = .ok (.imul, 1) := dk_104 (dk_at dksX0_sorts_0 23 rfl rfl)
theorem dX0_sorts_24 : decode cX0_sorts 24 = .ok (.invokevirtual 258, 3) := dk_182 1 2 (dk_at dksX0_sorts_1 0 rfl rfl)
theorem dX0_sorts_27 : decode cX0_sorts 27 = .ok (.aload_n 0, 1) := dk_42 (dk_at dksX0_sorts_1 3 rfl rfl)
theorem dX0_sorts_28 : decode cX0_sorts 28 = .ok (.iconst 2, 1) := dk_5 (dk_at dksX0_sorts_1 4 rfl rfl)
theorem dX0_sorts_29 : decode cX0_sorts 29 = .ok (.iload_n 2, 1) := dk_28 (dk_at dksX0_sorts_1 5 rfl rfl)
theorem dX0_sorts_30 : decode cX0_sorts 30 = .ok (.imul, 1) := dk_104 (dk_at dksX0_sorts_1 6 rfl rfl)
theorem dX0_sorts_31 : decode cX0_sorts 31 = .ok (.invokevirtual 258, 3) := dk_182 1 2 (dk_at dksX0_sorts_1 7 rfl rfl)
theorem dX0_sorts_34 : decode cX0_sorts 34 = .ok (.if_icmp .le 23, 3) := dk_164 0 23 (dk_at dksX0_sorts_1 10 rfl rfl)
theorem dX0_sorts_37 : decode cX0_sorts 37 = .ok (.aload_n 0, 1) := dk_42 (dk_at dksX0_sorts_1 13 rfl rfl)
theorem dX0_sorts_38 : decode cX0_sorts 38 = .ok (.getfield 96, 3) := dk_180 0 96 (dk_at dksX0_sorts_1 14 rfl rfl)
theorem dX0_sorts_41 : decode cX0_sorts 41 = .ok (.iload_n 3, 1) := dk_29 (dk_at dksX0_sorts_1 17 rfl rfl)
theorem dX0_sorts_42 : decode cX0_sorts 42 = .ok (.aload_n 0, 1) := dk_42 (dk_at dksX0_sorts_1 18 rfl rfl)
theorem dX0_sorts_43 : decode cX0_sorts 43 = .ok (.getfield 96, 3) := dk_180 0 96 (dk_at dksX0_sorts_1 19 rfl rfl)
theorem dX0_sorts_46 : decode cX0_sorts 46 = .ok (.iload_n 3, 1) := dk_29 (dk_at dksX0_sorts_1 22 rfl rfl)
theorem dX0_sorts_47 : decode cX0_sorts 47 = .ok (.iconst 1, 1) := dk_4 (dk_at dksX0_sorts_1 23 rfl rfl)
theorem dX0_sorts_48 : decode cX0_sorts 48 = .ok (.isub, 1) := dk_100 (dk_at dksX0_sorts_2 0 rfl rfl)
theorem dX0_sorts_49 : decode cX0_sorts 49 = .ok (.iaload, 1) := dk_46 (dk_at dksX0_sorts_2 1 rfl rfl)
theorem dX0_sorts_50 : decode cX0_sorts 50 = .ok (.iastore, 1) := dk_79 (dk_at dksX0_sorts_2 2 rfl rfl)
theorem dX0_sorts_51 : decode cX0_sorts 51 = .ok (.iinc 3 (-1), 3) := dk_132 3 255 (dk_at dksX0_sorts_2 3 rfl rfl)
theorem dX0_sorts_54 : decode cX0_sorts 54 = .ok (.goto (-45), 3) := dk_167 255 211 (dk_at dksX0_sorts_2 6 rfl rfl)
theorem dX0_sorts_57 : decode cX0_sorts 57 = .ok (.aload_n 0, 1) := dk_42 (dk_at dksX0_sorts_2 9 rfl rfl)
theorem dX0_sorts_58 : decode cX0_sorts 58 = .ok (.getfield 96, 3) := dk_180 0 96 (dk_at dksX0_sorts_2 10 rfl rfl)
theorem dX0_sorts_61 : decode cX0_sorts 61 = .ok (.iload_n 3, 1) := dk_29 (dk_at dksX0_sorts_2 13 rfl rfl)
theorem dX0_sorts_62 : decode cX0_sorts 62 = .ok (.iload_n 2, 1) := dk_28 (dk_at dksX0_sorts_2 14 rfl rfl)
theorem dX0_sorts_63 : decode cX0_sorts 63 = .ok (.iastore, 1) := dk_79 (dk_at dksX0_sorts_2 15 rfl rfl)
theorem dX0_sorts_64 : decode cX0_sorts 64 = .ok (.iinc 2 1, 3) := dk_132 2 1 (dk_at dksX0_sorts_2 16 rfl rfl)
theorem dX0_sorts_67 : decode cX0_sorts 67 = .ok (.goto (-65), 3) := dk_167 255 191 (dk_at dksX0_sorts_2 19 rfl rfl)
theorem dX0_sorts_70 : decode cX0_sorts 70 = .ok (.return_, 1) := dk_177 (dk_at dksX0_sorts_2 22 rfl rfl)
abbrev cX0_laysCalls : ByteArray := prog_1_method_50_code
def yX0_laysCalls : MethodName := ⟨RX0, "laysCalls", "(III)V"⟩
def dkwX0_laysCalls_7 : List UInt8 := [28, 182, 1, 9, 79, 177]
abbrev dktX0_laysCalls_7 : List UInt8 := dkwX0_laysCalls_7 ++ []
def dkwX0_laysCalls_6 : List UInt8 := [180, 0, 101, 27, 50, 28, 4, 100, 46, 42, 28, 182, 1, 6, 96, 42, 27, 182, 1, 6, 100, 184, 0, 1]
abbrev dktX0_laysCalls_6 : List UInt8 := dkwX0_laysCalls_6 ++ dktX0_laysCalls_7
def dkwX0_laysCalls_5 : List UInt8 := [180, 0, 104, 27, 50, 28, 4, 100, 46, 42, 28, 182, 1, 6, 96, 42, 28, 4, 100, 182, 1, 6, 100, 42]
abbrev dktX0_laysCalls_5 : List UInt8 := dkwX0_laysCalls_5 ++ dktX0_laysCalls_6
def dkwX0_laysCalls_4 : List UInt8 := [27, 182, 1, 6, 100, 184, 0, 1, 27, 182, 1, 9, 79, 42, 180, 0, 104, 27, 50, 28, 42, 42]
abbrev dktX0_laysCalls_4 : List UInt8 := dkwX0_laysCalls_4 ++ dktX0_laysCalls_5
def dkwX0_laysCalls_3 : List UInt8 := [96, 42, 27, 182, 1, 6, 100, 42, 180, 0, 104, 27, 4, 96, 50, 28, 46, 42, 28, 182, 1, 6, 96, 42]
abbrev dktX0_laysCalls_3 : List UInt8 := dkwX0_laysCalls_3 ++ dktX0_laysCalls_4
def dkwX0_laysCalls_2 : List UInt8 := [180, 0, 101, 27, 50, 28, 42, 42, 180, 0, 101, 27, 4, 96, 50, 28, 46, 42, 27, 4, 96, 182, 1, 6]
abbrev dktX0_laysCalls_2 : List UInt8 := dkwX0_laysCalls_2 ++ dktX0_laysCalls_3
def dkwX0_laysCalls_1 : List UInt8 := [182, 1, 9, 79, 42, 180, 0, 104, 27, 50, 28, 42, 180, 0, 101, 27, 50, 28, 46, 79, 177, 42]
abbrev dktX0_laysCalls_1 : List UInt8 := dkwX0_laysCalls_1 ++ dktX0_laysCalls_2
def dkwX0_laysCalls_0 : List UInt8 := [27, 28, 160, 0, 43, 42, 180, 0, 101, 27, 50, 28, 42, 42, 27, 182, 1, 6, 29, 100, 184, 0, 238, 27]
abbrev dktX0_laysCalls_0 : List UInt8 := dkwX0_laysCalls_0 ++ dktX0_laysCalls_1
theorem dksX0_laysCalls_0 : cX0_laysCalls.data.toList.drop 0 = dktX0_laysCalls_0 := by decide +kernel
theorem dksX0_laysCalls_1 : cX0_laysCalls.data.toList.drop 24 = dktX0_laysCalls_1 := dk_seg dksX0_laysCalls_0 24 rfl rfl
theorem dksX0_laysCalls_2 : cX0_laysCalls.data.toList.drop 46 = dktX0_laysCalls_2 := dk_seg dksX0_laysCalls_1 22 rfl rfl
theorem dksX0_laysCalls_3 : cX0_laysCalls.data.toList.drop 70 = dktX0_laysCalls_3 := dk_seg dksX0_laysCalls_2 24 rfl rfl
theorem dksX0_laysCalls_4 : cX0_laysCalls.data.toList.drop 94 = dktX0_laysCalls_4 := dk_seg dksX0_laysCalls_3 24 rfl rfl
theorem dksX0_laysCalls_5 : cX0_laysCalls.data.toList.drop 116 = dktX0_laysCalls_5 := dk_seg dksX0_laysCalls_4 22 rfl rfl
theorem dksX0_laysCalls_6 : cX0_laysCalls.data.toList.drop 140 = dktX0_laysCalls_6 := dk_seg dksX0_laysCalls_5 24 rfl rfl
theorem dksX0_laysCalls_7 : cX0_laysCalls.data.toList.drop 164 = dktX0_laysCalls_7 := dk_seg dksX0_laysCalls_6 24 rfl rfl
theorem dX0_laysCalls_0 : decode cX0_laysCalls 0 = .ok (.iload_n 1, 1) := dk_27 (dk_at dksX0_laysCalls_0 0 rfl rfl)
theorem dX0_laysCalls_1 : decode cX0_laysCalls 1 = .ok (.iload_n 2, 1) := dk_28 (dk_at dksX0_laysCalls_0 1 rfl rfl)
theorem dX0_laysCalls_2 : decode cX0_laysCalls 2 = .ok (.if_icmp .ne 43, 3) := dk_160 0 43 (dk_at dksX0_laysCalls_0 2 rfl rfl)
theorem dX0_laysCalls_5 : decode cX0_laysCalls 5 = .ok (.aload_n 0, 1) := dk_42 (dk_at dksX0_laysCalls_0 5 rfl rfl)
theorem dX0_laysCalls_6 : decode cX0_laysCalls 6 = .ok (.getfield 101, 3) := dk_180 0 101 (dk_at dksX0_laysCalls_0 6 rfl rfl)
theorem dX0_laysCalls_9 : decode cX0_laysCalls 9 = .ok (.iload_n 1, 1) := dk_27 (dk_at dksX0_laysCalls_0 9 rfl rfl)
theorem dX0_laysCalls_10 : decode cX0_laysCalls 10 = .ok (.aaload, 1) := dk_50 (dk_at dksX0_laysCalls_0 10 rfl rfl)
theorem dX0_laysCalls_11 : decode cX0_laysCalls 11 = .ok (.iload_n 2, 1) := dk_28 (dk_at dksX0_laysCalls_0 11 rfl rfl)
theorem dX0_laysCalls_12 : decode cX0_laysCalls 12 = .ok (.aload_n 0, 1) := dk_42 (dk_at dksX0_laysCalls_0 12 rfl rfl)
theorem dX0_laysCalls_13 : decode cX0_laysCalls 13 = .ok (.aload_n 0, 1) := dk_42 (dk_at dksX0_laysCalls_0 13 rfl rfl)
theorem dX0_laysCalls_14 : decode cX0_laysCalls 14 = .ok (.iload_n 1, 1) := dk_27 (dk_at dksX0_laysCalls_0 14 rfl rfl)
theorem dX0_laysCalls_15 : decode cX0_laysCalls 15 = .ok (.invokevirtual 262, 3) := dk_182 1 6 (dk_at dksX0_laysCalls_0 15 rfl rfl)
theorem dX0_laysCalls_18 : decode cX0_laysCalls 18 = .ok (.iload_n 3, 1) := dk_29 (dk_at dksX0_laysCalls_0 18 rfl rfl)
theorem dX0_laysCalls_19 : decode cX0_laysCalls 19 = .ok (.isub, 1) := dk_100 (dk_at dksX0_laysCalls_0 19 rfl rfl)
theorem dX0_laysCalls_20 : decode cX0_laysCalls 20 = .ok (.invokestatic 238, 3) := dk_184 0 238 (dk_at dksX0_laysCalls_0 20 rfl rfl)
theorem dX0_laysCalls_23 : decode cX0_laysCalls 23 = .ok (.iload_n 1, 1) := dk_27 (dk_at dksX0_laysCalls_0 23 rfl rfl)
theorem dX0_laysCalls_24 : decode cX0_laysCalls 24 = .ok (.invokevirtual 265, 3) := dk_182 1 9 (dk_at dksX0_laysCalls_1 0 rfl rfl)
theorem dX0_laysCalls_27 : decode cX0_laysCalls 27 = .ok (.iastore, 1) := dk_79 (dk_at dksX0_laysCalls_1 3 rfl rfl)
theorem dX0_laysCalls_28 : decode cX0_laysCalls 28 = .ok (.aload_n 0, 1) := dk_42 (dk_at dksX0_laysCalls_1 4 rfl rfl)
theorem dX0_laysCalls_29 : decode cX0_laysCalls 29 = .ok (.getfield 104, 3) := dk_180 0 104 (dk_at dksX0_laysCalls_1 5 rfl rfl)
theorem dX0_laysCalls_32 : decode cX0_laysCalls 32 = .ok (.iload_n 1, 1) := dk_27 (dk_at dksX0_laysCalls_1 8 rfl rfl)
theorem dX0_laysCalls_33 : decode cX0_laysCalls 33 = .ok (.aaload, 1) := dk_50 (dk_at dksX0_laysCalls_1 9 rfl rfl)
theorem dX0_laysCalls_34 : decode cX0_laysCalls 34 = .ok (.iload_n 2, 1) := dk_28 (dk_at dksX0_laysCalls_1 10 rfl rfl)
theorem dX0_laysCalls_35 : decode cX0_laysCalls 35 = .ok (.aload_n 0, 1) := dk_42 (dk_at dksX0_laysCalls_1 11 rfl rfl)
theorem dX0_laysCalls_36 : decode cX0_laysCalls 36 = .ok (.getfield 101, 3) := dk_180 0 101 (dk_at dksX0_laysCalls_1 12 rfl rfl)
theorem dX0_laysCalls_39 : decode cX0_laysCalls 39 = .ok (.iload_n 1, 1) := dk_27 (dk_at dksX0_laysCalls_1 15 rfl rfl)
theorem dX0_laysCalls_40 : decode cX0_laysCalls 40 = .ok (.aaload, 1) := dk_50 (dk_at dksX0_laysCalls_1 16 rfl rfl)
theorem dX0_laysCalls_41 : decode cX0_laysCalls 41 = .ok (.iload_n 2, 1) := dk_28 (dk_at dksX0_laysCalls_1 17 rfl rfl)
theorem dX0_laysCalls_42 : decode cX0_laysCalls 42 = .ok (.iaload, 1) := dk_46 (dk_at dksX0_laysCalls_1 18 rfl rfl)
theorem dX0_laysCalls_43 : decode cX0_laysCalls 43 = .ok (.iastore, 1) := dk_79 (dk_at dksX0_laysCalls_1 19 rfl rfl)
theorem dX0_laysCalls_44 : decode cX0_laysCalls 44 = .ok (.return_, 1) := dk_177 (dk_at dksX0_laysCalls_1 20 rfl rfl)
theorem dX0_laysCalls_45 : decode cX0_laysCalls 45 = .ok (.aload_n 0, 1) := dk_42 (dk_at dksX0_laysCalls_1 21 rfl rfl)
theorem dX0_laysCalls_46 : decode cX0_laysCalls 46 = .ok (.getfield 101, 3) := dk_180 0 101 (dk_at dksX0_laysCalls_2 0 rfl rfl)
theorem dX0_laysCalls_49 : decode cX0_laysCalls 49 = .ok (.iload_n 1, 1) := dk_27 (dk_at dksX0_laysCalls_2 3 rfl rfl)
theorem dX0_laysCalls_50 : decode cX0_laysCalls 50 = .ok (.aaload, 1) := dk_50 (dk_at dksX0_laysCalls_2 4 rfl rfl)
theorem dX0_laysCalls_51 : decode cX0_laysCalls 51 = .ok (.iload_n 2, 1) := dk_28 (dk_at dksX0_laysCalls_2 5 rfl rfl)
theorem dX0_laysCalls_52 : decode cX0_laysCalls 52 = .ok (.aload_n 0, 1) := dk_42 (dk_at dksX0_laysCalls_2 6 rfl rfl)
theorem dX0_laysCalls_53 : decode cX0_laysCalls 53 = .ok (.aload_n 0, 1) := dk_42 (dk_at dksX0_laysCalls_2 7 rfl rfl)
theorem dX0_laysCalls_54 : decode cX0_laysCalls 54 = .ok (.getfield 101, 3) := dk_180 0 101 (dk_at dksX0_laysCalls_2 8 rfl rfl)
theorem dX0_laysCalls_57 : decode cX0_laysCalls 57 = .ok (.iload_n 1, 1) := dk_27 (dk_at dksX0_laysCalls_2 11 rfl rfl)
theorem dX0_laysCalls_58 : decode cX0_laysCalls 58 = .ok (.iconst 1, 1) := dk_4 (dk_at dksX0_laysCalls_2 12 rfl rfl)
theorem dX0_laysCalls_59 : decode cX0_laysCalls 59 = .ok (.iadd, 1) := dk_96 (dk_at dksX0_laysCalls_2 13 rfl rfl)
theorem dX0_laysCalls_60 : decode cX0_laysCalls 60 = .ok (.aaload, 1) := dk_50 (dk_at dksX0_laysCalls_2 14 rfl rfl)
theorem dX0_laysCalls_61 : decode cX0_laysCalls 61 = .ok (.iload_n 2, 1) := dk_28 (dk_at dksX0_laysCalls_2 15 rfl rfl)
theorem dX0_laysCalls_62 : decode cX0_laysCalls 62 = .ok (.iaload, 1) := dk_46 (dk_at dksX0_laysCalls_2 16 rfl rfl)
theorem dX0_laysCalls_63 : decode cX0_laysCalls 63 = .ok (.aload_n 0, 1) := dk_42 (dk_at dksX0_laysCalls_2 17 rfl rfl)
theorem dX0_laysCalls_64 : decode cX0_laysCalls 64 = .ok (.iload_n 1, 1) := dk_27 (dk_at dksX0_laysCalls_2 18 rfl rfl)
theorem dX0_laysCalls_65 : decode cX0_laysCalls 65 = .ok (.iconst 1, 1) := dk_4 (dk_at dksX0_laysCalls_2 19 rfl rfl)
theorem dX0_laysCalls_66 : decode cX0_laysCalls 66 = .ok (.iadd, 1) := dk_96 (dk_at dksX0_laysCalls_2 20 rfl rfl)
theorem dX0_laysCalls_67 : decode cX0_laysCalls 67 = .ok (.invokevirtual 262, 3) := dk_182 1 6 (dk_at dksX0_laysCalls_2 21 rfl rfl)
theorem dX0_laysCalls_70 : decode cX0_laysCalls 70 = .ok (.iadd, 1) := dk_96 (dk_at dksX0_laysCalls_3 0 rfl rfl)
theorem dX0_laysCalls_71 : decode cX0_laysCalls 71 = .ok (.aload_n 0, 1) := dk_42 (dk_at dksX0_laysCalls_3 1 rfl rfl)
theorem dX0_laysCalls_72 : decode cX0_laysCalls 72 = .ok (.iload_n 1, 1) := dk_27 (dk_at dksX0_laysCalls_3 2 rfl rfl)
theorem dX0_laysCalls_73 : decode cX0_laysCalls 73 = .ok (.invokevirtual 262, 3) := dk_182 1 6 (dk_at dksX0_laysCalls_3 3 rfl rfl)
theorem dX0_laysCalls_76 : decode cX0_laysCalls 76 = .ok (.isub, 1) := dk_100 (dk_at dksX0_laysCalls_3 6 rfl rfl)
theorem dX0_laysCalls_77 : decode cX0_laysCalls 77 = .ok (.aload_n 0, 1) := dk_42 (dk_at dksX0_laysCalls_3 7 rfl rfl)
theorem dX0_laysCalls_78 : decode cX0_laysCalls 78 = .ok (.getfield 104, 3) := dk_180 0 104 (dk_at dksX0_laysCalls_3 8 rfl rfl)
theorem dX0_laysCalls_81 : decode cX0_laysCalls 81 = .ok (.iload_n 1, 1) := dk_27 (dk_at dksX0_laysCalls_3 11 rfl rfl)
theorem dX0_laysCalls_82 : decode cX0_laysCalls 82 = .ok (.iconst 1, 1) := dk_4 (dk_at dksX0_laysCalls_3 12 rfl rfl)
theorem dX0_laysCalls_83 : decode cX0_laysCalls 83 = .ok (.iadd, 1) := dk_96 (dk_at dksX0_laysCalls_3 13 rfl rfl)
theorem dX0_laysCalls_84 : decode cX0_laysCalls 84 = .ok (.aaload, 1) := dk_50 (dk_at dksX0_laysCalls_3 14 rfl rfl)
theorem dX0_laysCalls_85 : decode cX0_laysCalls 85 = .ok (.iload_n 2, 1) := dk_28 (dk_at dksX0_laysCalls_3 15 rfl rfl)
theorem dX0_laysCalls_86 : decode cX0_laysCalls 86 = .ok (.iaload, 1) := dk_46 (dk_at dksX0_laysCalls_3 16 rfl rfl)
theorem dX0_laysCalls_87 : decode cX0_laysCalls 87 = .ok (.aload_n 0, 1) := dk_42 (dk_at dksX0_laysCalls_3 17 rfl rfl)
theorem dX0_laysCalls_88 : decode cX0_laysCalls 88 = .ok (.iload_n 2, 1) := dk_28 (dk_at dksX0_laysCalls_3 18 rfl rfl)
theorem dX0_laysCalls_89 : decode cX0_laysCalls 89 = .ok (.invokevirtual 262, 3) := dk_182 1 6 (dk_at dksX0_laysCalls_3 19 rfl rfl)
theorem dX0_laysCalls_92 : decode cX0_laysCalls 92 = .ok (.iadd, 1) := dk_96 (dk_at dksX0_laysCalls_3 22 rfl rfl)
theorem dX0_laysCalls_93 : decode cX0_laysCalls 93 = .ok (.aload_n 0, 1) := dk_42 (dk_at dksX0_laysCalls_3 23 rfl rfl)
theorem dX0_laysCalls_94 : decode cX0_laysCalls 94 = .ok (.iload_n 1, 1) := dk_27 (dk_at dksX0_laysCalls_4 0 rfl rfl)
theorem dX0_laysCalls_95 : decode cX0_laysCalls 95 = .ok (.invokevirtual 262, 3) := dk_182 1 6 (dk_at dksX0_laysCalls_4 1 rfl rfl)
theorem dX0_laysCalls_98 : decode cX0_laysCalls 98 = .ok (.isub, 1) := dk_100 (dk_at dksX0_laysCalls_4 4 rfl rfl)
theorem dX0_laysCalls_99 : decode cX0_laysCalls 99 = .ok (.invokestatic 1, 3) := dk_184 0 1 (dk_at dksX0_laysCalls_4 5 rfl rfl)
theorem dX0_laysCalls_102 : decode cX0_laysCalls 102 = .ok (.iload_n 1, 1) := dk_27 (dk_at dksX0_laysCalls_4 8 rfl rfl)
theorem dX0_laysCalls_103 : decode cX0_laysCalls 103 = .ok (.invokevirtual 265, 3) := dk_182 1 9 (dk_at dksX0_laysCalls_4 9 rfl rfl)
theorem dX0_laysCalls_106 : decode cX0_laysCalls 106 = .ok (.iastore, 1) := dk_79 (dk_at dksX0_laysCalls_4 12 rfl rfl)
theorem dX0_laysCalls_107 : decode cX0_laysCalls 107 = .ok (.aload_n 0, 1) := dk_42 (dk_at dksX0_laysCalls_4 13 rfl rfl)
theorem dX0_laysCalls_108 : decode cX0_laysCalls 108 = .ok (.getfield 104, 3) := dk_180 0 104 (dk_at dksX0_laysCalls_4 14 rfl rfl)
theorem dX0_laysCalls_111 : decode cX0_laysCalls 111 = .ok (.iload_n 1, 1) := dk_27 (dk_at dksX0_laysCalls_4 17 rfl rfl)
theorem dX0_laysCalls_112 : decode cX0_laysCalls 112 = .ok (.aaload, 1) := dk_50 (dk_at dksX0_laysCalls_4 18 rfl rfl)
theorem dX0_laysCalls_113 : decode cX0_laysCalls 113 = .ok (.iload_n 2, 1) := dk_28 (dk_at dksX0_laysCalls_4 19 rfl rfl)
theorem dX0_laysCalls_114 : decode cX0_laysCalls 114 = .ok (.aload_n 0, 1) := dk_42 (dk_at dksX0_laysCalls_4 20 rfl rfl)
theorem dX0_laysCalls_115 : decode cX0_laysCalls 115 = .ok (.aload_n 0, 1) := dk_42 (dk_at dksX0_laysCalls_4 21 rfl rfl)
theorem dX0_laysCalls_116 : decode cX0_laysCalls 116 = .ok (.getfield 104, 3) := dk_180 0 104 (dk_at dksX0_laysCalls_5 0 rfl rfl)
theorem dX0_laysCalls_119 : decode cX0_laysCalls 119 = .ok (.iload_n 1, 1) := dk_27 (dk_at dksX0_laysCalls_5 3 rfl rfl)
theorem dX0_laysCalls_120 : decode cX0_laysCalls 120 = .ok (.aaload, 1) := dk_50 (dk_at dksX0_laysCalls_5 4 rfl rfl)
theorem dX0_laysCalls_121 : decode cX0_laysCalls 121 = .ok (.iload_n 2, 1) := dk_28 (dk_at dksX0_laysCalls_5 5 rfl rfl)
theorem dX0_laysCalls_122 : decode cX0_laysCalls 122 = .ok (.iconst 1, 1) := dk_4 (dk_at dksX0_laysCalls_5 6 rfl rfl)
theorem dX0_laysCalls_123 : decode cX0_laysCalls 123 = .ok (.isub, 1) := dk_100 (dk_at dksX0_laysCalls_5 7 rfl rfl)
theorem dX0_laysCalls_124 : decode cX0_laysCalls 124 = .ok (.iaload, 1) := dk_46 (dk_at dksX0_laysCalls_5 8 rfl rfl)
theorem dX0_laysCalls_125 : decode cX0_laysCalls 125 = .ok (.aload_n 0, 1) := dk_42 (dk_at dksX0_laysCalls_5 9 rfl rfl)
theorem dX0_laysCalls_126 : decode cX0_laysCalls 126 = .ok (.iload_n 2, 1) := dk_28 (dk_at dksX0_laysCalls_5 10 rfl rfl)
theorem dX0_laysCalls_127 : decode cX0_laysCalls 127 = .ok (.invokevirtual 262, 3) := dk_182 1 6 (dk_at dksX0_laysCalls_5 11 rfl rfl)
theorem dX0_laysCalls_130 : decode cX0_laysCalls 130 = .ok (.iadd, 1) := dk_96 (dk_at dksX0_laysCalls_5 14 rfl rfl)
theorem dX0_laysCalls_131 : decode cX0_laysCalls 131 = .ok (.aload_n 0, 1) := dk_42 (dk_at dksX0_laysCalls_5 15 rfl rfl)
theorem dX0_laysCalls_132 : decode cX0_laysCalls 132 = .ok (.iload_n 2, 1) := dk_28 (dk_at dksX0_laysCalls_5 16 rfl rfl)
theorem dX0_laysCalls_133 : decode cX0_laysCalls 133 = .ok (.iconst 1, 1) := dk_4 (dk_at dksX0_laysCalls_5 17 rfl rfl)
theorem dX0_laysCalls_134 : decode cX0_laysCalls 134 = .ok (.isub, 1) := dk_100 (dk_at dksX0_laysCalls_5 18 rfl rfl)
theorem dX0_laysCalls_135 : decode cX0_laysCalls 135 = .ok (.invokevirtual 262, 3) := dk_182 1 6 (dk_at dksX0_laysCalls_5 19 rfl rfl)
theorem dX0_laysCalls_138 : decode cX0_laysCalls 138 = .ok (.isub, 1) := dk_100 (dk_at dksX0_laysCalls_5 22 rfl rfl)
theorem dX0_laysCalls_139 : decode cX0_laysCalls 139 = .ok (.aload_n 0, 1) := dk_42 (dk_at dksX0_laysCalls_5 23 rfl rfl)
theorem dX0_laysCalls_140 : decode cX0_laysCalls 140 = .ok (.getfield 101, 3) := dk_180 0 101 (dk_at dksX0_laysCalls_6 0 rfl rfl)
theorem dX0_laysCalls_143 : decode cX0_laysCalls 143 = .ok (.iload_n 1, 1) := dk_27 (dk_at dksX0_laysCalls_6 3 rfl rfl)
theorem dX0_laysCalls_144 : decode cX0_laysCalls 144 = .ok (.aaload, 1) := dk_50 (dk_at dksX0_laysCalls_6 4 rfl rfl)
theorem dX0_laysCalls_145 : decode cX0_laysCalls 145 = .ok (.iload_n 2, 1) := dk_28 (dk_at dksX0_laysCalls_6 5 rfl rfl)
theorem dX0_laysCalls_146 : decode cX0_laysCalls 146 = .ok (.iconst 1, 1) := dk_4 (dk_at dksX0_laysCalls_6 6 rfl rfl)
theorem dX0_laysCalls_147 : decode cX0_laysCalls 147 = .ok (.isub, 1) := dk_100 (dk_at dksX0_laysCalls_6 7 rfl rfl)
theorem dX0_laysCalls_148 : decode cX0_laysCalls 148 = .ok (.iaload, 1) := dk_46 (dk_at dksX0_laysCalls_6 8 rfl rfl)
theorem dX0_laysCalls_149 : decode cX0_laysCalls 149 = .ok (.aload_n 0, 1) := dk_42 (dk_at dksX0_laysCalls_6 9 rfl rfl)
theorem dX0_laysCalls_150 : decode cX0_laysCalls 150 = .ok (.iload_n 2, 1) := dk_28 (dk_at dksX0_laysCalls_6 10 rfl rfl)
theorem dX0_laysCalls_151 : decode cX0_laysCalls 151 = .ok (.invokevirtual 262, 3) := dk_182 1 6 (dk_at dksX0_laysCalls_6 11 rfl rfl)
theorem dX0_laysCalls_154 : decode cX0_laysCalls 154 = .ok (.iadd, 1) := dk_96 (dk_at dksX0_laysCalls_6 14 rfl rfl)
theorem dX0_laysCalls_155 : decode cX0_laysCalls 155 = .ok (.aload_n 0, 1) := dk_42 (dk_at dksX0_laysCalls_6 15 rfl rfl)
theorem dX0_laysCalls_156 : decode cX0_laysCalls 156 = .ok (.iload_n 1, 1) := dk_27 (dk_at dksX0_laysCalls_6 16 rfl rfl)
theorem dX0_laysCalls_157 : decode cX0_laysCalls 157 = .ok (.invokevirtual 262, 3) := dk_182 1 6 (dk_at dksX0_laysCalls_6 17 rfl rfl)
theorem dX0_laysCalls_160 : decode cX0_laysCalls 160 = .ok (.isub, 1) := dk_100 (dk_at dksX0_laysCalls_6 20 rfl rfl)
theorem dX0_laysCalls_161 : decode cX0_laysCalls 161 = .ok (.invokestatic 1, 3) := dk_184 0 1 (dk_at dksX0_laysCalls_6 21 rfl rfl)
theorem dX0_laysCalls_164 : decode cX0_laysCalls 164 = .ok (.iload_n 2, 1) := dk_28 (dk_at dksX0_laysCalls_7 0 rfl rfl)
theorem dX0_laysCalls_165 : decode cX0_laysCalls 165 = .ok (.invokevirtual 265, 3) := dk_182 1 9 (dk_at dksX0_laysCalls_7 1 rfl rfl)
theorem dX0_laysCalls_168 : decode cX0_laysCalls 168 = .ok (.iastore, 1) := dk_79 (dk_at dksX0_laysCalls_7 4 rfl rfl)
theorem dX0_laysCalls_169 : decode cX0_laysCalls 169 = .ok (.return_, 1) := dk_177 (dk_at dksX0_laysCalls_7 5 rfl rfl)
abbrev cX0_houseAt : ByteArray := prog_1_method_47_code
def yX0_houseAt : MethodName := ⟨RX0, "houseAt", "(I)I"⟩
def dkwX0_houseAt_0 : List UInt8 := [42, 5, 42, 180, 0, 96, 27, 46, 104, 182, 1, 2, 172]
abbrev dktX0_houseAt_0 : List UInt8 := dkwX0_houseAt_0 ++ []
theorem dksX0_houseAt_0 : cX0_houseAt.data.toList.drop 0 = dktX0_houseAt_0 := by decide +kernel
theorem dX0_houseAt_0 : decode cX0_houseAt 0 = .ok (.aload_n 0, 1) := dk_42 (dk_at dksX0_houseAt_0 0 rfl rfl)
theorem dX0_houseAt_1 : decode cX0_houseAt 1 = .ok (.iconst 2, 1) := dk_5 (dk_at dksX0_houseAt_0 1 rfl rfl)
theorem dX0_houseAt_2 : decode cX0_houseAt 2 = .ok (.aload_n 0, 1) := dk_42 (dk_at dksX0_houseAt_0 2 rfl rfl)
theorem dX0_houseAt_3 : decode cX0_houseAt 3 = .ok (.getfield 96, 3) := dk_180 0 96 (dk_at dksX0_houseAt_0 3 rfl rfl)
theorem dX0_houseAt_6 : decode cX0_houseAt 6 = .ok (.iload_n 1, 1) := dk_27 (dk_at dksX0_houseAt_0 6 rfl rfl)
theorem dX0_houseAt_7 : decode cX0_houseAt 7 = .ok (.iaload, 1) := dk_46 (dk_at dksX0_houseAt_0 7 rfl rfl)
theorem dX0_houseAt_8 : decode cX0_houseAt 8 = .ok (.imul, 1) := dk_104 (dk_at dksX0_houseAt_0 8 rfl rfl)
theorem dX0_houseAt_9 : decode cX0_houseAt 9 = .ok (.invokevirtual 258, 3) := dk_182 1 2 (dk_at dksX0_houseAt_0 9 rfl rfl)
theorem dX0_houseAt_12 : decode cX0_houseAt 12 = .ok (.ireturn, 1) := dk_172 (dk_at dksX0_houseAt_0 12 rfl rfl)
abbrev cX0_inTime : ByteArray := prog_1_method_48_code
def yX0_inTime : MethodName := ⟨RX0, "inTime", "(II)I"⟩
def dkwX0_inTime_1 : List UInt8 := [27, 172]
abbrev dktX0_inTime_1 : List UInt8 := dkwX0_inTime_1 ++ []
def dkwX0_inTime_0 : List UInt8 := [27, 42, 5, 42, 180, 0, 96, 28, 46, 104, 4, 96, 182, 1, 2, 164, 0, 9, 19, 1, 5, 167, 0, 4]
abbrev dktX0_inTime_0 : List UInt8 := dkwX0_inTime_0 ++ dktX0_inTime_1
theorem dksX0_inTime_0 : cX0_inTime.data.toList.drop 0 = dktX0_inTime_0 := by decide +kernel
theorem dksX0_inTime_1 : cX0_inTime.data.toList.drop 24 = dktX0_inTime_1 := dk_seg dksX0_inTime_0 24 rfl rfl
theorem dX0_inTime_0 : decode cX0_inTime 0 = .ok (.iload_n 1, 1) := dk_27 (dk_at dksX0_inTime_0 0 rfl rfl)
theorem dX0_inTime_1 : decode cX0_inTime 1 = .ok (.aload_n 0, 1) := dk_42 (dk_at dksX0_inTime_0 1 rfl rfl)
theorem dX0_inTime_2 : decode cX0_inTime 2 = .ok (.iconst 2, 1) := dk_5 (dk_at dksX0_inTime_0 2 rfl rfl)
theorem dX0_inTime_3 : decode cX0_inTime 3 = .ok (.aload_n 0, 1) := dk_42 (dk_at dksX0_inTime_0 3 rfl rfl)
theorem dX0_inTime_4 : decode cX0_inTime 4 = .ok (.getfield 96, 3) := dk_180 0 96 (dk_at dksX0_inTime_0 4 rfl rfl)
theorem dX0_inTime_7 : decode cX0_inTime 7 = .ok (.iload_n 2, 1) := dk_28 (dk_at dksX0_inTime_0 7 rfl rfl)
theorem dX0_inTime_8 : decode cX0_inTime 8 = .ok (.iaload, 1) := dk_46 (dk_at dksX0_inTime_0 8 rfl rfl)
theorem dX0_inTime_9 : decode cX0_inTime 9 = .ok (.imul, 1) := dk_104 (dk_at dksX0_inTime_0 9 rfl rfl)
theorem dX0_inTime_10 : decode cX0_inTime 10 = .ok (.iconst 1, 1) := dk_4 (dk_at dksX0_inTime_0 10 rfl rfl)
theorem dX0_inTime_11 : decode cX0_inTime 11 = .ok (.iadd, 1) := dk_96 (dk_at dksX0_inTime_0 11 rfl rfl)
theorem dX0_inTime_12 : decode cX0_inTime 12 = .ok (.invokevirtual 258, 3) := dk_182 1 2 (dk_at dksX0_inTime_0 12 rfl rfl)
theorem dX0_inTime_15 : decode cX0_inTime 15 = .ok (.if_icmp .le 9, 3) := dk_164 0 9 (dk_at dksX0_inTime_0 15 rfl rfl)
theorem dX0_inTime_18 : decode cX0_inTime 18 = .ok (.ldc_w 261, 3) := dk_19 1 5 (dk_at dksX0_inTime_0 18 rfl rfl)
theorem dX0_inTime_21 : decode cX0_inTime 21 = .ok (.goto 4, 3) := dk_167 0 4 (dk_at dksX0_inTime_0 21 rfl rfl)
theorem dX0_inTime_24 : decode cX0_inTime 24 = .ok (.iload_n 1, 1) := dk_27 (dk_at dksX0_inTime_1 0 rfl rfl)
theorem dX0_inTime_25 : decode cX0_inTime 25 = .ok (.ireturn, 1) := dk_172 (dk_at dksX0_inTime_1 1 rfl rfl)
abbrev cX0_changed : ByteArray := prog_1_method_52_code
def yX0_changed : MethodName := ⟨RX0, "changed", "(II)I"⟩
def dkwX0_changed_9 : List UInt8 := [46, 172]
abbrev dktX0_changed_9 : List UInt8 := dkwX0_changed_9 ++ []
def dkwX0_changed_8 : List UInt8 := [167, 255, 197, 132, 4, 255, 167, 255, 183, 132, 3, 1, 167, 255, 165, 42, 180, 0, 107, 4, 27, 120, 4, 100]
abbrev dktX0_changed_8 : List UInt8 := dkwX0_changed_8 ++ dktX0_changed_9
def dkwX0_changed_7 : List UInt8 := [180, 0, 107, 21, 4, 4, 21, 5, 120, 2, 130, 126, 46, 4, 96, 184, 0, 7, 79, 132, 5, 1]
abbrev dktX0_changed_7 : List UInt8 := dkwX0_changed_7 ++ dktX0_changed_8
def dkwX0_changed_6 : List UInt8 := [46, 126, 21, 5, 184, 0, 191, 153, 0, 36, 42, 180, 0, 107, 21, 4, 42, 180, 0, 107, 21, 4, 46, 42]
abbrev dktX0_changed_6 : List UInt8 := dkwX0_changed_6 ++ dktX0_changed_7
def dkwX0_changed_5 : List UInt8 := [100, 54, 4, 21, 4, 158, 0, 74, 3, 54, 5, 21, 5, 27, 162, 0, 59, 21, 4, 42, 180, 0, 93, 29]
abbrev dktX0_changed_5 : List UInt8 := dkwX0_changed_5 ++ dktX0_changed_6
def dkwX0_changed_4 : List UInt8 := [42, 180, 0, 107, 29, 3, 79, 132, 3, 1, 167, 255, 239, 3, 62, 29, 27, 162, 0, 92, 4, 27, 120, 4]
abbrev dktX0_changed_4 : List UInt8 := dkwX0_changed_4 ++ dktX0_changed_5
def dkwX0_changed_3 : List UInt8 := [28, 4, 160, 0, 13, 42, 42, 180, 0, 93, 27, 182, 0, 250, 172, 3, 62, 29, 4, 27, 120, 162, 0, 16]
abbrev dktX0_changed_3 : List UInt8 := dkwX0_changed_3 ++ dktX0_changed_4
def dkwX0_changed_2 : List UInt8 := [120, 161, 0, 6, 16, 253, 172, 42, 180, 0, 93, 29, 42, 29, 182, 1, 2, 79, 132, 3, 1, 167, 255, 223]
abbrev dktX0_changed_2 : List UInt8 := dkwX0_changed_2 ++ dktX0_changed_3
def dkwX0_changed_1 : List UInt8 := [164, 0, 5, 2, 172, 42, 3, 181, 0, 113, 3, 62, 29, 27, 162, 0, 34, 42, 29, 182, 1, 2, 4, 27]
abbrev dktX0_changed_1 : List UInt8 := dkwX0_changed_1 ++ dktX0_changed_2
def dkwX0_changed_0 : List UInt8 := [27, 5, 16, 8, 184, 0, 120, 153, 0, 19, 28, 5, 184, 0, 144, 153, 0, 11, 27, 42, 180, 0, 113]
abbrev dktX0_changed_0 : List UInt8 := dkwX0_changed_0 ++ dktX0_changed_1
theorem dksX0_changed_0 : cX0_changed.data.toList.drop 0 = dktX0_changed_0 := by decide +kernel
theorem dksX0_changed_1 : cX0_changed.data.toList.drop 23 = dktX0_changed_1 := dk_seg dksX0_changed_0 23 rfl rfl
theorem dksX0_changed_2 : cX0_changed.data.toList.drop 47 = dktX0_changed_2 := dk_seg dksX0_changed_1 24 rfl rfl
theorem dksX0_changed_3 : cX0_changed.data.toList.drop 71 = dktX0_changed_3 := dk_seg dksX0_changed_2 24 rfl rfl
theorem dksX0_changed_4 : cX0_changed.data.toList.drop 95 = dktX0_changed_4 := dk_seg dksX0_changed_3 24 rfl rfl
theorem dksX0_changed_5 : cX0_changed.data.toList.drop 119 = dktX0_changed_5 := dk_seg dksX0_changed_4 24 rfl rfl
theorem dksX0_changed_6 : cX0_changed.data.toList.drop 143 = dktX0_changed_6 := dk_seg dksX0_changed_5 24 rfl rfl
theorem dksX0_changed_7 : cX0_changed.data.toList.drop 167 = dktX0_changed_7 := dk_seg dksX0_changed_6 24 rfl rfl
theorem dksX0_changed_8 : cX0_changed.data.toList.drop 189 = dktX0_changed_8 := dk_seg dksX0_changed_7 22 rfl rfl
theorem dksX0_changed_9 : cX0_changed.data.toList.drop 213 = dktX0_changed_9 := dk_seg dksX0_changed_8 24 rfl rfl
theorem dX0_changed_0 : decode cX0_changed 0 = .ok (.iload_n 1, 1) := dk_27 (dk_at dksX0_changed_0 0 rfl rfl)
theorem dX0_changed_1 : decode cX0_changed 1 = .ok (.iconst 2, 1) := dk_5 (dk_at dksX0_changed_0 1 rfl rfl)
theorem dX0_changed_2 : decode cX0_changed 2 = .ok (.bipush 8, 2) := dk_16 8 (dk_at dksX0_changed_0 2 rfl rfl)
theorem dX0_changed_4 : decode cX0_changed 4 = .ok (.invokestatic 120, 3) := dk_184 0 120 (dk_at dksX0_changed_0 4 rfl rfl)
theorem dX0_changed_7 : decode cX0_changed 7 = .ok (.ifCond .eq 19, 3) := dk_153 0 19 (dk_at dksX0_changed_0 7 rfl rfl)
theorem dX0_changed_10 : decode cX0_changed 10 = .ok (.iload_n 2, 1) := dk_28 (dk_at dksX0_changed_0 10 rfl rfl)
theorem dX0_changed_11 : decode cX0_changed 11 = .ok (.iconst 2, 1) := dk_5 (dk_at dksX0_changed_0 11 rfl rfl)
theorem dX0_changed_12 : decode cX0_changed 12 = .ok (.invokestatic 144, 3) := dk_184 0 144 (dk_at dksX0_changed_0 12 rfl rfl)
theorem dX0_changed_15 : decode cX0_changed 15 = .ok (.ifCond .eq 11, 3) := dk_153 0 11 (dk_at dksX0_changed_0 15 rfl rfl)
theorem dX0_changed_18 : decode cX0_changed 18 = .ok (.iload_n 1, 1) := dk_27 (dk_at dksX0_changed_0 18 rfl rfl)
theorem dX0_changed_19 : decode cX0_changed 19 = .ok (.aload_n 0, 1) := dk_42 (dk_at dksX0_changed_0 19 rfl rfl)
theorem dX0_changed_20 : decode cX0_changed 20 = .ok (.getfield 113, 3) := dk_180 0 113 (dk_at dksX0_changed_0 20 rfl rfl)
theorem dX0_changed_23 : decode cX0_changed 23 = .ok (.if_icmp .le 5, 3) := dk_164 0 5 (dk_at dksX0_changed_1 0 rfl rfl)
theorem dX0_changed_26 : decode cX0_changed 26 = .ok (.iconst (-1), 1) := dk_2 (dk_at dksX0_changed_1 3 rfl rfl)
theorem dX0_changed_27 : decode cX0_changed 27 = .ok (.ireturn, 1) := dk_172 (dk_at dksX0_changed_1 4 rfl rfl)
theorem dX0_changed_28 : decode cX0_changed 28 = .ok (.aload_n 0, 1) := dk_42 (dk_at dksX0_changed_1 5 rfl rfl)
theorem dX0_changed_29 : decode cX0_changed 29 = .ok (.iconst 0, 1) := dk_3 (dk_at dksX0_changed_1 6 rfl rfl)
theorem dX0_changed_30 : decode cX0_changed 30 = .ok (.putfield 113, 3) := dk_181 0 113 (dk_at dksX0_changed_1 7 rfl rfl)
theorem dX0_changed_33 : decode cX0_changed 33 = .ok (.iconst 0, 1) := dk_3 (dk_at dksX0_changed_1 10 rfl rfl)
theorem dX0_changed_34 : decode cX0_changed 34 = .ok (.istore_n 3, 1) := dk_62 (dk_at dksX0_changed_1 11 rfl rfl)
theorem dX0_changed_35 : decode cX0_changed 35 = .ok (.iload_n 3, 1) := dk_29 (dk_at dksX0_changed_1 12 rfl rfl)
theorem dX0_changed_36 : decode cX0_changed 36 = .ok (.iload_n 1, 1) := dk_27 (dk_at dksX0_changed_1 13 rfl rfl)
theorem dX0_changed_37 : decode cX0_changed 37 = .ok (.if_icmp .ge 34, 3) := dk_162 0 34 (dk_at dksX0_changed_1 14 rfl rfl)
theorem dX0_changed_40 : decode cX0_changed 40 = .ok (.aload_n 0, 1) := dk_42 (dk_at dksX0_changed_1 17 rfl rfl)
theorem dX0_changed_41 : decode cX0_changed 41 = .ok (.iload_n 3, 1) := dk_29 (dk_at dksX0_changed_1 18 rfl rfl)
theorem dX0_changed_42 : decode cX0_changed 42 = .ok (.invokevirtual 258, 3) := dk_182 1 2 (dk_at dksX0_changed_1 19 rfl rfl)
theorem dX0_changed_45 : decode cX0_changed 45 = .ok (.iconst 1, 1) := dk_4 (dk_at dksX0_changed_1 22 rfl rfl)
theorem dX0_changed_46 : decode cX0_changed 46 = .ok (.iload_n 1, 1) := dk_27 (dk_at dksX0_changed_1 23 rfl rfl)
theorem dX0_changed_47 : decode cX0_changed 47 = .ok (.ishl, 1) := dk_120 (dk_at dksX0_changed_2 0 rfl rfl)
theorem dX0_changed_48 : decode cX0_changed 48 = .ok (.if_icmp .lt 6, 3) := dk_161 0 6 (dk_at dksX0_changed_2 1 rfl rfl)
theorem dX0_changed_51 : decode cX0_changed 51 = .ok (.bipush (-3), 2) := dk_16 253 (dk_at dksX0_changed_2 4 rfl rfl)
theorem dX0_changed_53 : decode cX0_changed 53 = .ok (.ireturn, 1) := dk_172 (dk_at dksX0_changed_2 6 rfl rfl)
theorem dX0_changed_54 : decode cX0_changed 54 = .ok (.aload_n 0, 1) := dk_42 (dk_at dksX0_changed_2 7 rfl rfl)
theorem dX0_changed_55 : decode cX0_changed 55 = .ok (.getfield 93, 3) := dk_180 0 93 (dk_at dksX0_changed_2 8 rfl rfl)
theorem dX0_changed_58 : decode cX0_changed 58 = .ok (.iload_n 3, 1) := dk_29 (dk_at dksX0_changed_2 11 rfl rfl)
theorem dX0_changed_59 : decode cX0_changed 59 = .ok (.aload_n 0, 1) := dk_42 (dk_at dksX0_changed_2 12 rfl rfl)
theorem dX0_changed_60 : decode cX0_changed 60 = .ok (.iload_n 3, 1) := dk_29 (dk_at dksX0_changed_2 13 rfl rfl)
theorem dX0_changed_61 : decode cX0_changed 61 = .ok (.invokevirtual 258, 3) := dk_182 1 2 (dk_at dksX0_changed_2 14 rfl rfl)
theorem dX0_changed_64 : decode cX0_changed 64 = .ok (.iastore, 1) := dk_79 (dk_at dksX0_changed_2 17 rfl rfl)
theorem dX0_changed_65 : decode cX0_changed 65 = .ok (.iinc 3 1, 3) := dk_132 3 1 (dk_at dksX0_changed_2 18 rfl rfl)
theorem dX0_changed_68 : decode cX0_changed 68 = .ok (.goto (-33), 3) := dk_167 255 223 (dk_at dksX0_changed_2 21 rfl rfl)
theorem dX0_changed_71 : decode cX0_changed 71 = .ok (.iload_n 2, 1) := dk_28 (dk_at dksX0_changed_3 0 rfl rfl)
theorem dX0_changed_72 : decode cX0_changed 72 = .ok (.iconst 1, 1) := dk_4 (dk_at dksX0_changed_3 1 rfl rfl)
theorem dX0_changed_73 : decode cX0_changed 73 = .ok (.if_icmp .ne 13, 3) := dk_160 0 13 (dk_at dksX0_changed_3 2 rfl rfl)
theorem dX0_changed_76 : decode cX0_changed 76 = .ok (.aload_n 0, 1) := dk_42 (dk_at dksX0_changed_3 5 rfl rfl)
theorem dX0_changed_77 : decode cX0_changed 77 = .ok (.aload_n 0, 1) := dk_42 (dk_at dksX0_changed_3 6 rfl rfl)
theorem dX0_changed_78 : decode cX0_changed 78 = .ok (.getfield 93, 3) := dk_180 0 93 (dk_at dksX0_changed_3 7 rfl rfl)
theorem dX0_changed_81 : decode cX0_changed 81 = .ok (.iload_n 1, 1) := dk_27 (dk_at dksX0_changed_3 10 rfl rfl)
theorem dX0_changed_82 : decode cX0_changed 82 = .ok (.invokevirtual 250, 3) := dk_182 0 250 (dk_at dksX0_changed_3 11 rfl rfl)
theorem dX0_changed_85 : decode cX0_changed 85 = .ok (.ireturn, 1) := dk_172 (dk_at dksX0_changed_3 14 rfl rfl)
theorem dX0_changed_86 : decode cX0_changed 86 = .ok (.iconst 0, 1) := dk_3 (dk_at dksX0_changed_3 15 rfl rfl)
theorem dX0_changed_87 : decode cX0_changed 87 = .ok (.istore_n 3, 1) := dk_62 (dk_at dksX0_changed_3 16 rfl rfl)
theorem dX0_changed_88 : decode cX0_changed 88 = .ok (.iload_n 3, 1) := dk_29 (dk_at dksX0_changed_3 17 rfl rfl)
theorem dX0_changed_89 : decode cX0_changed 89 = .ok (.iconst 1, 1) := dk_4 (dk_at dksX0_changed_3 18 rfl rfl)
theorem dX0_changed_90 : decode cX0_changed 90 = .ok (.iload_n 1, 1) := dk_27 (dk_at dksX0_changed_3 19 rfl rfl)
theorem dX0_changed_91 : decode cX0_changed 91 = .ok (.ishl, 1) := dk_120 (dk_at dksX0_changed_3 20 rfl rfl)
theorem dX0_changed_92 : decode cX0_changed 92 = .ok (.if_icmp .ge 16, 3) := dk_162 0 16 (dk_at dksX0_changed_3 21 rfl rfl)
theorem dX0_changed_95 : decode cX0_changed 95 = .ok (.aload_n 0, 1) := dk_42 (dk_at dksX0_changed_4 0 rfl rfl)
theorem dX0_changed_96 : decode cX0_changed 96 = .ok (.getfield 107, 3) := dk_180 0 107 (dk_at dksX0_changed_4 1 rfl rfl)
theorem dX0_changed_99 : decode cX0_changed 99 = .ok (.iload_n 3, 1) := dk_29 (dk_at dksX0_changed_4 4 rfl rfl)
theorem dX0_changed_100 : decode cX0_changed 100 = .ok (.iconst 0, 1) := dk_3 (dk_at dksX0_changed_4 5 rfl rfl)
theorem dX0_changed_101 : decode cX0_changed 101 = .ok (.iastore, 1) := dk_79 (dk_at dksX0_changed_4 6 rfl rfl)
theorem dX0_changed_102 : decode cX0_changed 102 = .ok (.iinc 3 1, 3) := dk_132 3 1 (dk_at dksX0_changed_4 7 rfl rfl)
theorem dX0_changed_105 : decode cX0_changed 105 = .ok (.goto (-17), 3) := dk_167 255 239 (dk_at dksX0_changed_4 10 rfl rfl)
theorem dX0_changed_108 : decode cX0_changed 108 = .ok (.iconst 0, 1) := dk_3 (dk_at dksX0_changed_4 13 rfl rfl)
theorem dX0_changed_109 : decode cX0_changed 109 = .ok (.istore_n 3, 1) := dk_62 (dk_at dksX0_changed_4 14 rfl rfl)
theorem dX0_changed_110 : decode cX0_changed 110 = .ok (.iload_n 3, 1) := dk_29 (dk_at dksX0_changed_4 15 rfl rfl)
theorem dX0_changed_111 : decode cX0_changed 111 = .ok (.iload_n 1, 1) := dk_27 (dk_at dksX0_changed_4 16 rfl rfl)
theorem dX0_changed_112 : decode cX0_changed 112 = .ok (.if_icmp .ge 92, 3) := dk_162 0 92 (dk_at dksX0_changed_4 17 rfl rfl)
theorem dX0_changed_115 : decode cX0_changed 115 = .ok (.iconst 1, 1) := dk_4 (dk_at dksX0_changed_4 20 rfl rfl)
theorem dX0_changed_116 : decode cX0_changed 116 = .ok (.iload_n 1, 1) := dk_27 (dk_at dksX0_changed_4 21 rfl rfl)
theorem dX0_changed_117 : decode cX0_changed 117 = .ok (.ishl, 1) := dk_120 (dk_at dksX0_changed_4 22 rfl rfl)
theorem dX0_changed_118 : decode cX0_changed 118 = .ok (.iconst 1, 1) := dk_4 (dk_at dksX0_changed_4 23 rfl rfl)
theorem dX0_changed_119 : decode cX0_changed 119 = .ok (.isub, 1) := dk_100 (dk_at dksX0_changed_5 0 rfl rfl)
theorem dX0_changed_120 : decode cX0_changed 120 = .ok (.istore 4, 2) := dk_54 4 (dk_at dksX0_changed_5 1 rfl rfl)
theorem dX0_changed_122 : decode cX0_changed 122 = .ok (.iload 4, 2) := dk_21 4 (dk_at dksX0_changed_5 3 rfl rfl)
theorem dX0_changed_124 : decode cX0_changed 124 = .ok (.ifCond .le 74, 3) := dk_158 0 74 (dk_at dksX0_changed_5 5 rfl rfl)
theorem dX0_changed_127 : decode cX0_changed 127 = .ok (.iconst 0, 1) := dk_3 (dk_at dksX0_changed_5 8 rfl rfl)
theorem dX0_changed_128 : decode cX0_changed 128 = .ok (.istore 5, 2) := dk_54 5 (dk_at dksX0_changed_5 9 rfl rfl)
theorem dX0_changed_130 : decode cX0_changed 130 = .ok (.iload 5, 2) := dk_21 5 (dk_at dksX0_changed_5 11 rfl rfl)
theorem dX0_changed_132 : decode cX0_changed 132 = .ok (.iload_n 1, 1) := dk_27 (dk_at dksX0_changed_5 13 rfl rfl)
theorem dX0_changed_133 : decode cX0_changed 133 = .ok (.if_icmp .ge 59, 3) := dk_162 0 59 (dk_at dksX0_changed_5 14 rfl rfl)
theorem dX0_changed_136 : decode cX0_changed 136 = .ok (.iload 4, 2) := dk_21 4 (dk_at dksX0_changed_5 17 rfl rfl)
theorem dX0_changed_138 : decode cX0_changed 138 = .ok (.aload_n 0, 1) := dk_42 (dk_at dksX0_changed_5 19 rfl rfl)
theorem dX0_changed_139 : decode cX0_changed 139 = .ok (.getfield 93, 3) := dk_180 0 93 (dk_at dksX0_changed_5 20 rfl rfl)
theorem dX0_changed_142 : decode cX0_changed 142 = .ok (.iload_n 3, 1) := dk_29 (dk_at dksX0_changed_5 23 rfl rfl)
theorem dX0_changed_143 : decode cX0_changed 143 = .ok (.iaload, 1) := dk_46 (dk_at dksX0_changed_6 0 rfl rfl)
theorem dX0_changed_144 : decode cX0_changed 144 = .ok (.iand, 1) := dk_126 (dk_at dksX0_changed_6 1 rfl rfl)
theorem dX0_changed_145 : decode cX0_changed 145 = .ok (.iload 5, 2) := dk_21 5 (dk_at dksX0_changed_6 2 rfl rfl)
theorem dX0_changed_147 : decode cX0_changed 147 = .ok (.invokestatic 191, 3) := dk_184 0 191 (dk_at dksX0_changed_6 4 rfl rfl)
theorem dX0_changed_150 : decode cX0_changed 150 = .ok (.ifCond .eq 36, 3) := dk_153 0 36 (dk_at dksX0_changed_6 7 rfl rfl)
theorem dX0_changed_153 : decode cX0_changed 153 = .ok (.aload_n 0, 1) := dk_42 (dk_at dksX0_changed_6 10 rfl rfl)
theorem dX0_changed_154 : decode cX0_changed 154 = .ok (.getfield 107, 3) := dk_180 0 107 (dk_at dksX0_changed_6 11 rfl rfl)
theorem dX0_changed_157 : decode cX0_changed 157 = .ok (.iload 4, 2) := dk_21 4 (dk_at dksX0_changed_6 14 rfl rfl)
theorem dX0_changed_159 : decode cX0_changed 159 = .ok (.aload_n 0, 1) := dk_42 (dk_at dksX0_changed_6 16 rfl rfl)
theorem dX0_changed_160 : decode cX0_changed 160 = .ok (.getfield 107, 3) := dk_180 0 107 (dk_at dksX0_changed_6 17 rfl rfl)
theorem dX0_changed_163 : decode cX0_changed 163 = .ok (.iload 4, 2) := dk_21 4 (dk_at dksX0_changed_6 20 rfl rfl)
theorem dX0_changed_165 : decode cX0_changed 165 = .ok (.iaload, 1) := dk_46 (dk_at dksX0_changed_6 22 rfl rfl)
theorem dX0_changed_166 : decode cX0_changed 166 = .ok (.aload_n 0, 1) := dk_42 (dk_at dksX0_changed_6 23 rfl rfl)
theorem dX0_changed_167 : decode cX0_changed 167 = .ok (.getfield 107, 3) := dk_180 0 107 (dk_at dksX0_changed_7 0 rfl rfl)
theorem dX0_changed_170 : decode cX0_changed 170 = .ok (.iload 4, 2) := dk_21 4 (dk_at dksX0_changed_7 3 rfl rfl)
theorem dX0_changed_172 : decode cX0_changed 172 = .ok (.iconst 1, 1) := dk_4 (dk_at dksX0_changed_7 5 rfl rfl)
theorem dX0_changed_173 : decode cX0_changed 173 = .ok (.iload 5, 2) := dk_21 5 (dk_at dksX0_changed_7 6 rfl rfl)
theorem dX0_changed_175 : decode cX0_changed 175 = .ok (.ishl, 1) := dk_120 (dk_at dksX0_changed_7 8 rfl rfl)
theorem dX0_changed_176 : decode cX0_changed 176 = .ok (.iconst (-1), 1) := dk_2 (dk_at dksX0_changed_7 9 rfl rfl)
theorem dX0_changed_177 : decode cX0_changed 177 = .ok (.ixor, 1) := dk_130 (dk_at dksX0_changed_7 10 rfl rfl)
theorem dX0_changed_178 : decode cX0_changed 178 = .ok (.iand, 1) := dk_126 (dk_at dksX0_changed_7 11 rfl rfl)
theorem dX0_changed_179 : decode cX0_changed 179 = .ok (.iaload, 1) := dk_46 (dk_at dksX0_changed_7 12 rfl rfl)
theorem dX0_changed_180 : decode cX0_changed 180 = .ok (.iconst 1, 1) := dk_4 (dk_at dksX0_changed_7 13 rfl rfl)
theorem dX0_changed_181 : decode cX0_changed 181 = .ok (.iadd, 1) := dk_96 (dk_at dksX0_changed_7 14 rfl rfl)
theorem dX0_changed_182 : decode cX0_changed 182 = .ok (.invokestatic 7, 3) := dk_184 0 7 (dk_at dksX0_changed_7 15 rfl rfl)
theorem dX0_changed_185 : decode cX0_changed 185 = .ok (.iastore, 1) := dk_79 (dk_at dksX0_changed_7 18 rfl rfl)
theorem dX0_changed_186 : decode cX0_changed 186 = .ok (.iinc 5 1, 3) := dk_132 5 1 (dk_at dksX0_changed_7 19 rfl rfl)
theorem dX0_changed_189 : decode cX0_changed 189 = .ok (.goto (-59), 3) := dk_167 255 197 (dk_at dksX0_changed_8 0 rfl rfl)
theorem dX0_changed_192 : decode cX0_changed 192 = .ok (.iinc 4 (-1), 3) := dk_132 4 255 (dk_at dksX0_changed_8 3 rfl rfl)
theorem dX0_changed_195 : decode cX0_changed 195 = .ok (.goto (-73), 3) := dk_167 255 183 (dk_at dksX0_changed_8 6 rfl rfl)
theorem dX0_changed_198 : decode cX0_changed 198 = .ok (.iinc 3 1, 3) := dk_132 3 1 (dk_at dksX0_changed_8 9 rfl rfl)
theorem dX0_changed_201 : decode cX0_changed 201 = .ok (.goto (-91), 3) := dk_167 255 165 (dk_at dksX0_changed_8 12 rfl rfl)
theorem dX0_changed_204 : decode cX0_changed 204 = .ok (.aload_n 0, 1) := dk_42 (dk_at dksX0_changed_8 15 rfl rfl)
theorem dX0_changed_205 : decode cX0_changed 205 = .ok (.getfield 107, 3) := dk_180 0 107 (dk_at dksX0_changed_8 16 rfl rfl)
theorem dX0_changed_208 : decode cX0_changed 208 = .ok (.iconst 1, 1) := dk_4 (dk_at dksX0_changed_8 19 rfl rfl)
theorem dX0_changed_209 : decode cX0_changed 209 = .ok (.iload_n 1, 1) := dk_27 (dk_at dksX0_changed_8 20 rfl rfl)
theorem dX0_changed_210 : decode cX0_changed 210 = .ok (.ishl, 1) := dk_120 (dk_at dksX0_changed_8 21 rfl rfl)
theorem dX0_changed_211 : decode cX0_changed 211 = .ok (.iconst 1, 1) := dk_4 (dk_at dksX0_changed_8 22 rfl rfl)
theorem dX0_changed_212 : decode cX0_changed 212 = .ok (.isub, 1) := dk_100 (dk_at dksX0_changed_8 23 rfl rfl)
theorem dX0_changed_213 : decode cX0_changed 213 = .ok (.iaload, 1) := dk_46 (dk_at dksX0_changed_9 0 rfl rfl)
theorem dX0_changed_214 : decode cX0_changed 214 = .ok (.ireturn, 1) := dk_172 (dk_at dksX0_changed_9 1 rfl rfl)
abbrev cX0_seed : ByteArray := prog_1_method_54_code
def yX0_seed : MethodName := ⟨RX0, "seed", "(I)Z"⟩
def dkwX0_seed_0 : List UInt8 := [27, 18, 78, 184, 0, 144, 154, 0, 5, 3, 172, 42, 180, 0, 63, 27, 181, 0, 110, 4, 172]
abbrev dktX0_seed_0 : List UInt8 := dkwX0_seed_0 ++ []
theorem dksX0_seed_0 : cX0_seed.data.toList.drop 0 = dktX0_seed_0 := by decide +kernel
theorem dX0_seed_0 : decode cX0_seed 0 = .ok (.iload_n 1, 1) := dk_27 (dk_at dksX0_seed_0 0 rfl rfl)
theorem dX0_seed_1 : decode cX0_seed 1 = .ok (.ldc 78, 2) := dk_18 78 (dk_at dksX0_seed_0 1 rfl rfl)
theorem dX0_seed_3 : decode cX0_seed 3 = .ok (.invokestatic 144, 3) := dk_184 0 144 (dk_at dksX0_seed_0 3 rfl rfl)
theorem dX0_seed_6 : decode cX0_seed 6 = .ok (.ifCond .ne 5, 3) := dk_154 0 5 (dk_at dksX0_seed_0 6 rfl rfl)
theorem dX0_seed_9 : decode cX0_seed 9 = .ok (.iconst 0, 1) := dk_3 (dk_at dksX0_seed_0 9 rfl rfl)
theorem dX0_seed_10 : decode cX0_seed 10 = .ok (.ireturn, 1) := dk_172 (dk_at dksX0_seed_0 10 rfl rfl)
theorem dX0_seed_11 : decode cX0_seed 11 = .ok (.aload_n 0, 1) := dk_42 (dk_at dksX0_seed_0 11 rfl rfl)
theorem dX0_seed_12 : decode cX0_seed 12 = .ok (.getfield 63, 3) := dk_180 0 63 (dk_at dksX0_seed_0 12 rfl rfl)
theorem dX0_seed_15 : decode cX0_seed 15 = .ok (.iload_n 1, 1) := dk_27 (dk_at dksX0_seed_0 15 rfl rfl)
theorem dX0_seed_16 : decode cX0_seed 16 = .ok (.putfield 110, 3) := dk_181 0 110 (dk_at dksX0_seed_0 16 rfl rfl)
theorem dX0_seed_19 : decode cX0_seed 19 = .ok (.iconst 1, 1) := dk_4 (dk_at dksX0_seed_0 19 rfl rfl)
theorem dX0_seed_20 : decode cX0_seed 20 = .ok (.ireturn, 1) := dk_172 (dk_at dksX0_seed_0 20 rfl rfl)
abbrev cX0_keep : ByteArray := prog_1_method_55_code
def yX0_keep : MethodName := ⟨RX0, "keep", "()I"⟩
def dkwX0_keep_1 : List UInt8 := [172]
abbrev dktX0_keep_1 : List UInt8 := dkwX0_keep_1 ++ []
def dkwX0_keep_0 : List UInt8 := [42, 4, 181, 1, 19, 42, 180, 0, 70, 42, 180, 0, 63, 182, 0, 172, 87, 42, 180, 0, 63, 180, 1, 23]
abbrev dktX0_keep_0 : List UInt8 := dkwX0_keep_0 ++ dktX0_keep_1
theorem dksX0_keep_0 : cX0_keep.data.toList.drop 0 = dktX0_keep_0 := by decide +kernel
theorem dksX0_keep_1 : cX0_keep.data.toList.drop 24 = dktX0_keep_1 := dk_seg dksX0_keep_0 24 rfl rfl
theorem dX0_keep_0 : decode cX0_keep 0 = .ok (.aload_n 0, 1) := dk_42 (dk_at dksX0_keep_0 0 rfl rfl)
theorem dX0_keep_1 : decode cX0_keep 1 = .ok (.iconst 1, 1) := dk_4 (dk_at dksX0_keep_0 1 rfl rfl)
theorem dX0_keep_2 : decode cX0_keep 2 = .ok (.putfield 275, 3) := dk_181 1 19 (dk_at dksX0_keep_0 2 rfl rfl)
theorem dX0_keep_5 : decode cX0_keep 5 = .ok (.aload_n 0, 1) := dk_42 (dk_at dksX0_keep_0 5 rfl rfl)
theorem dX0_keep_6 : decode cX0_keep 6 = .ok (.getfield 70, 3) := dk_180 0 70 (dk_at dksX0_keep_0 6 rfl rfl)
theorem dX0_keep_9 : decode cX0_keep 9 = .ok (.aload_n 0, 1) := dk_42 (dk_at dksX0_keep_0 9 rfl rfl)
theorem dX0_keep_10 : decode cX0_keep 10 = .ok (.getfield 63, 3) := dk_180 0 63 (dk_at dksX0_keep_0 10 rfl rfl)
theorem dX0_keep_13 : decode cX0_keep 13 = .ok (.invokevirtual 172, 3) := dk_182 0 172 (dk_at dksX0_keep_0 13 rfl rfl)
theorem dX0_keep_16 : decode cX0_keep 16 = .ok (.pop, 1) := dk_87 (dk_at dksX0_keep_0 16 rfl rfl)
theorem dX0_keep_17 : decode cX0_keep 17 = .ok (.aload_n 0, 1) := dk_42 (dk_at dksX0_keep_0 17 rfl rfl)
theorem dX0_keep_18 : decode cX0_keep 18 = .ok (.getfield 63, 3) := dk_180 0 63 (dk_at dksX0_keep_0 18 rfl rfl)
theorem dX0_keep_21 : decode cX0_keep 21 = .ok (.getfield 279, 3) := dk_180 1 23 (dk_at dksX0_keep_0 21 rfl rfl)
theorem dX0_keep_24 : decode cX0_keep 24 = .ok (.ireturn, 1) := dk_172 (dk_at dksX0_keep_1 0 rfl rfl)
abbrev cX0_undo : ByteArray := prog_1_method_56_code
def yX0_undo : MethodName := ⟨RX0, "undo", "()Z"⟩
def dkwX0_undo_0 : List UInt8 := [42, 180, 1, 19, 154, 0, 5, 3, 172, 42, 180, 0, 63, 42, 180, 0, 70, 182, 0, 172, 87, 4, 172]
abbrev dktX0_undo_0 : List UInt8 := dkwX0_undo_0 ++ []
theorem dksX0_undo_0 : cX0_undo.data.toList.drop 0 = dktX0_undo_0 := by decide +kernel
theorem dX0_undo_0 : decode cX0_undo 0 = .ok (.aload_n 0, 1) := dk_42 (dk_at dksX0_undo_0 0 rfl rfl)
theorem dX0_undo_1 : decode cX0_undo 1 = .ok (.getfield 275, 3) := dk_180 1 19 (dk_at dksX0_undo_0 1 rfl rfl)
theorem dX0_undo_4 : decode cX0_undo 4 = .ok (.ifCond .ne 5, 3) := dk_154 0 5 (dk_at dksX0_undo_0 4 rfl rfl)
theorem dX0_undo_7 : decode cX0_undo 7 = .ok (.iconst 0, 1) := dk_3 (dk_at dksX0_undo_0 7 rfl rfl)
theorem dX0_undo_8 : decode cX0_undo 8 = .ok (.ireturn, 1) := dk_172 (dk_at dksX0_undo_0 8 rfl rfl)
theorem dX0_undo_9 : decode cX0_undo 9 = .ok (.aload_n 0, 1) := dk_42 (dk_at dksX0_undo_0 9 rfl rfl)
theorem dX0_undo_10 : decode cX0_undo 10 = .ok (.getfield 63, 3) := dk_180 0 63 (dk_at dksX0_undo_0 10 rfl rfl)
theorem dX0_undo_13 : decode cX0_undo 13 = .ok (.aload_n 0, 1) := dk_42 (dk_at dksX0_undo_0 13 rfl rfl)
theorem dX0_undo_14 : decode cX0_undo 14 = .ok (.getfield 70, 3) := dk_180 0 70 (dk_at dksX0_undo_0 14 rfl rfl)
theorem dX0_undo_17 : decode cX0_undo 17 = .ok (.invokevirtual 172, 3) := dk_182 0 172 (dk_at dksX0_undo_0 17 rfl rfl)
theorem dX0_undo_20 : decode cX0_undo 20 = .ok (.pop, 1) := dk_87 (dk_at dksX0_undo_0 20 rfl rfl)
theorem dX0_undo_21 : decode cX0_undo 21 = .ok (.iconst 1, 1) := dk_4 (dk_at dksX0_undo_0 21 rfl rfl)
theorem dX0_undo_22 : decode cX0_undo 22 = .ok (.ireturn, 1) := dk_172 (dk_at dksX0_undo_0 22 rfl rfl)
abbrev cX0_check : ByteArray := prog_1_method_57_code
def yX0_check : MethodName := ⟨RX0, "check", "(I)I"⟩
def dkwX0_check_3 : List UInt8 := [132, 2, 1, 167, 255, 212, 2, 172]
abbrev dktX0_check_3 : List UInt8 := dkwX0_check_3 ++ []
def dkwX0_check_2 : List UInt8 := [153, 0, 15, 42, 180, 0, 16, 180, 0, 188, 28, 46, 167, 0, 6, 17, 0, 255, 159, 0, 5, 28, 172]
abbrev dktX0_check_2 : List UInt8 := dkwX0_check_2 ++ dktX0_check_3
def dkwX0_check_1 : List UInt8 := [181, 0, 113, 3, 61, 28, 27, 162, 0, 45, 42, 28, 182, 1, 2, 42, 180, 0, 16, 28, 182, 0, 168]
abbrev dktX0_check_1 : List UInt8 := dkwX0_check_1 ++ dktX0_check_2
def dkwX0_check_0 : List UInt8 := [27, 3, 16, 16, 184, 0, 120, 153, 0, 11, 27, 42, 180, 0, 113, 164, 0, 6, 16, 254, 172, 42, 3]
abbrev dktX0_check_0 : List UInt8 := dkwX0_check_0 ++ dktX0_check_1
theorem dksX0_check_0 : cX0_check.data.toList.drop 0 = dktX0_check_0 := by decide +kernel
theorem dksX0_check_1 : cX0_check.data.toList.drop 23 = dktX0_check_1 := dk_seg dksX0_check_0 23 rfl rfl
theorem dksX0_check_2 : cX0_check.data.toList.drop 46 = dktX0_check_2 := dk_seg dksX0_check_1 23 rfl rfl
theorem dksX0_check_3 : cX0_check.data.toList.drop 69 = dktX0_check_3 := dk_seg dksX0_check_2 23 rfl rfl
theorem dX0_check_0 : decode cX0_check 0 = .ok (.iload_n 1, 1) := dk_27 (dk_at dksX0_check_0 0 rfl rfl)
theorem dX0_check_1 : decode cX0_check 1 = .ok (.iconst 0, 1) := dk_3 (dk_at dksX0_check_0 1 rfl rfl)
theorem dX0_check_2 : decode cX0_check 2 = .ok (.bipush 16, 2) := dk_16 16 (dk_at dksX0_check_0 2 rfl rfl)
theorem dX0_check_4 : decode cX0_check 4 = .ok (.invokestatic 120, 3) := dk_184 0 120 (dk_at dksX0_check_0 4 rfl rfl)
theorem dX0_check_7 : decode cX0_check 7 = .ok (.ifCond .eq 11, 3) := dk_153 0 11 (dk_at dksX0_check_0 7 rfl rfl)
theorem dX0_check_10 : decode cX0_check 10 = .ok (.iload_n 1, 1) := dk_27 (dk_at dksX0_check_0 10 rfl rfl)
theorem dX0_check_11 : decode cX0_check 11 = .ok (.aload_n 0, 1) := dk_42 (dk_at dksX0_check_0 11 rfl rfl)
theorem dX0_check_12 : decode cX0_check 12 = .ok (.getfield 113, 3) := dk_180 0 113 (dk_at dksX0_check_0 12 rfl rfl)
theorem dX0_check_15 : decode cX0_check 15 = .ok (.if_icmp .le 6, 3) := dk_164 0 6 (dk_at dksX0_check_0 15 rfl rfl)
theorem dX0_check_18 : decode cX0_check 18 = .ok (.bipush (-2), 2) := dk_16 254 (dk_at dksX0_check_0 18 rfl rfl)
theorem dX0_check_20 : decode cX0_check 20 = .ok (.ireturn, 1) := dk_172 (dk_at dksX0_check_0 20 rfl rfl)
theorem dX0_check_21 : decode cX0_check 21 = .ok (.aload_n 0, 1) := dk_42 (dk_at dksX0_check_0 21 rfl rfl)
theorem dX0_check_22 : decode cX0_check 22 = .ok (.iconst 0, 1) := dk_3 (dk_at dksX0_check_0 22 rfl rfl)
theorem dX0_check_23 : decode cX0_check 23 = .ok (.putfield 113, 3) := dk_181 0 113 (dk_at dksX0_check_1 0 rfl rfl)
theorem dX0_check_26 : decode cX0_check 26 = .ok (.iconst 0, 1) := dk_3 (dk_at dksX0_check_1 3 rfl rfl)
theorem dX0_check_27 : decode cX0_check 27 = .ok (.istore_n 2, 1) := dk_61 (dk_at dksX0_check_1 4 rfl rfl)
theorem dX0_check_28 : decode cX0_check 28 = .ok (.iload_n 2, 1) := dk_28 (dk_at dksX0_check_1 5 rfl rfl)
theorem dX0_check_29 : decode cX0_check 29 = .ok (.iload_n 1, 1) := dk_27 (dk_at dksX0_check_1 6 rfl rfl)
theorem dX0_check_30 : decode cX0_check 30 = .ok (.if_icmp .ge 45, 3) := dk_162 0 45 (dk_at dksX0_check_1 7 rfl rfl)
theorem dX0_check_33 : decode cX0_check 33 = .ok (.aload_n 0, 1) := dk_42 (dk_at dksX0_check_1 10 rfl rfl)
theorem dX0_check_34 : decode cX0_check 34 = .ok (.iload_n 2, 1) := dk_28 (dk_at dksX0_check_1 11 rfl rfl)
theorem dX0_check_35 : decode cX0_check 35 = .ok (.invokevirtual 258, 3) := dk_182 1 2 (dk_at dksX0_check_1 12 rfl rfl)
theorem dX0_check_38 : decode cX0_check 38 = .ok (.aload_n 0, 1) := dk_42 (dk_at dksX0_check_1 15 rfl rfl)
theorem dX0_check_39 : decode cX0_check 39 = .ok (.getfield 16, 3) := dk_180 0 16 (dk_at dksX0_check_1 16 rfl rfl)
theorem dX0_check_42 : decode cX0_check 42 = .ok (.iload_n 2, 1) := dk_28 (dk_at dksX0_check_1 19 rfl rfl)
theorem dX0_check_43 : decode cX0_check 43 = .ok (.invokevirtual 168, 3) := dk_182 0 168 (dk_at dksX0_check_1 20 rfl rfl)
theorem dX0_check_46 : decode cX0_check 46 = .ok (.ifCond .eq 15, 3) := dk_153 0 15 (dk_at dksX0_check_2 0 rfl rfl)
theorem dX0_check_49 : decode cX0_check 49 = .ok (.aload_n 0, 1) := dk_42 (dk_at dksX0_check_2 3 rfl rfl)
theorem dX0_check_50 : decode cX0_check 50 = .ok (.getfield 16, 3) := dk_180 0 16 (dk_at dksX0_check_2 4 rfl rfl)
theorem dX0_check_53 : decode cX0_check 53 = .ok (.getfield 188, 3) := dk_180 0 188 (dk_at dksX0_check_2 7 rfl rfl)
theorem dX0_check_56 : decode cX0_check 56 = .ok (.iload_n 2, 1) := dk_28 (dk_at dksX0_check_2 10 rfl rfl)
theorem dX0_check_57 : decode cX0_check 57 = .ok (.iaload, 1) := dk_46 (dk_at dksX0_check_2 11 rfl rfl)
theorem dX0_check_58 : decode cX0_check 58 = .ok (.goto 6, 3) := dk_167 0 6 (dk_at dksX0_check_2 12 rfl rfl)
theorem dX0_check_61 : decode cX0_check 61 = .ok (.sipush 255, 3) := dk_17 0 255 (dk_at dksX0_check_2 15 rfl rfl)
theorem dX0_check_64 : decode cX0_check 64 = .ok (.if_icmp .eq 5, 3) := dk_159 0 5 (dk_at dksX0_check_2 18 rfl rfl)
theorem dX0_check_67 : decode cX0_check 67 = .ok (.iload_n 2, 1) := dk_28 (dk_at dksX0_check_2 21 rfl rfl)
theorem dX0_check_68 : decode cX0_check 68 = .ok (.ireturn, 1) := dk_172 (dk_at dksX0_check_2 22 rfl rfl)
theorem dX0_check_69 : decode cX0_check 69 = .ok (.iinc 2 1, 3) := dk_132 2 1 (dk_at dksX0_check_3 0 rfl rfl)
theorem dX0_check_72 : decode cX0_check 72 = .ok (.goto (-44), 3) := dk_167 255 212 (dk_at dksX0_check_3 3 rfl rfl)
theorem dX0_check_75 : decode cX0_check 75 = .ok (.iconst (-1), 1) := dk_2 (dk_at dksX0_check_3 6 rfl rfl)
theorem dX0_check_76 : decode cX0_check 76 = .ok (.ireturn, 1) := dk_172 (dk_at dksX0_check_3 7 rfl rfl)
abbrev cX0_count : ByteArray := prog_1_method_60_code
def yX0_count : MethodName := ⟨RX0, "count", "(I)I"⟩
def dkwX0_count_5 : List UInt8 := [172, 2, 172]
abbrev dktX0_count_5 : List UInt8 := dkwX0_count_5 ++ []
def dkwX0_count_4 : List UInt8 := [180, 1, 32, 172, 42, 180, 0, 113, 172, 42, 180, 0, 63, 180, 0, 110, 172, 42, 180, 0, 63, 182, 0, 178]
abbrev dktX0_count_4 : List UInt8 := dkwX0_count_4 ++ dktX0_count_5
def dkwX0_count_3 : List UInt8 := [180, 0, 16, 180, 0, 152, 126, 172, 42, 182, 1, 26, 172, 42, 182, 1, 29, 172, 42, 180, 0, 28]
abbrev dktX0_count_3 : List UInt8 := dkwX0_count_3 ++ dktX0_count_4
def dkwX0_count_2 : List UInt8 := [42, 180, 0, 63, 180, 1, 23, 172, 42, 180, 0, 16, 180, 0, 22, 172, 42, 180, 0, 16, 180, 0, 22, 42]
abbrev dktX0_count_2 : List UInt8 := dkwX0_count_2 ++ dktX0_count_3
def dkwX0_count_1 : List UInt8 := [170, 0, 0, 0, 0, 0, 122, 0, 0, 0, 0, 0, 0, 0, 8, 0, 0, 0, 51, 0, 0, 0, 59, 0, 0, 0, 67, 0, 0, 0, 83, 0, 0, 0, 88, 0, 0, 0, 93, 0, 0, 0, 101, 0, 0, 0, 106, 0, 0, 0, 114]
abbrev dktX0_count_1 : List UInt8 := dkwX0_count_1 ++ dktX0_count_2
def dkwX0_count_0 : List UInt8 := [27]
abbrev dktX0_count_0 : List UInt8 := dkwX0_count_0 ++ dktX0_count_1
theorem dksX0_count_0 : cX0_count.data.toList.drop 0 = dktX0_count_0 := by decide +kernel
theorem dksX0_count_1 : cX0_count.data.toList.drop 1 = dktX0_count_1 := dk_seg dksX0_count_0 1 rfl rfl
theorem dksX0_count_2 : cX0_count.data.toList.drop 52 = dktX0_count_2 := dk_seg dksX0_count_1 51 rfl rfl
theorem dksX0_count_3 : cX0_count.data.toList.drop 76 = dktX0_count_3 := dk_seg dksX0_count_2 24 rfl rfl
theorem dksX0_count_4 : cX0_count.data.toList.drop 98 = dktX0_count_4 := dk_seg dksX0_count_3 22 rfl rfl
theorem dksX0_count_5 : cX0_count.data.toList.drop 122 = dktX0_count_5 := dk_seg dksX0_count_4 24 rfl rfl
theorem dX0_count_0 : decode cX0_count 0 = .ok (.iload_n 1, 1) := dk_27 (dk_at dksX0_count_0 0 rfl rfl)
theorem dX0_count_1 : decode cX0_count 1 = .ok (.tableswitch 122 0 8 #[51, 59, 67, 83, 88, 93, 101, 106, 114], 51) := by decide +kernel
theorem dX0_count_52 : decode cX0_count 52 = .ok (.aload_n 0, 1) := dk_42 (dk_at dksX0_count_2 0 rfl rfl)
theorem dX0_count_53 : decode cX0_count 53 = .ok (.getfield 63, 3) := dk_180 0 63 (dk_at dksX0_count_2 1 rfl rfl)
theorem dX0_count_56 : decode cX0_count 56 = .ok (.getfield 279, 3) := dk_180 1 23 (dk_at dksX0_count_2 4 rfl rfl)
theorem dX0_count_59 : decode cX0_count 59 = .ok (.ireturn, 1) := dk_172 (dk_at dksX0_count_2 7 rfl rfl)
theorem dX0_count_60 : decode cX0_count 60 = .ok (.aload_n 0, 1) := dk_42 (dk_at dksX0_count_2 8 rfl rfl)
theorem dX0_count_61 : decode cX0_count 61 = .ok (.getfield 16, 3) := dk_180 0 16 (dk_at dksX0_count_2 9 rfl rfl)
theorem dX0_count_64 : decode cX0_count 64 = .ok (.getfield 22, 3) := dk_180 0 22 (dk_at dksX0_count_2 12 rfl rfl)
theorem dX0_count_67 : decode cX0_count 67 = .ok (.ireturn, 1) := dk_172 (dk_at dksX0_count_2 15 rfl rfl)
theorem dX0_count_68 : decode cX0_count 68 = .ok (.aload_n 0, 1) := dk_42 (dk_at dksX0_count_2 16 rfl rfl)
theorem dX0_count_69 : decode cX0_count 69 = .ok (.getfield 16, 3) := dk_180 0 16 (dk_at dksX0_count_2 17 rfl rfl)
theorem dX0_count_72 : decode cX0_count 72 = .ok (.getfield 22, 3) := dk_180 0 22 (dk_at dksX0_count_2 20 rfl rfl)
theorem dX0_count_75 : decode cX0_count 75 = .ok (.aload_n 0, 1) := dk_42 (dk_at dksX0_count_2 23 rfl rfl)
theorem dX0_count_76 : decode cX0_count 76 = .ok (.getfield 16, 3) := dk_180 0 16 (dk_at dksX0_count_3 0 rfl rfl)
theorem dX0_count_79 : decode cX0_count 79 = .ok (.getfield 152, 3) := dk_180 0 152 (dk_at dksX0_count_3 3 rfl rfl)
theorem dX0_count_82 : decode cX0_count 82 = .ok (.iand, 1) := dk_126 (dk_at dksX0_count_3 6 rfl rfl)
theorem dX0_count_83 : decode cX0_count 83 = .ok (.ireturn, 1) := dk_172 (dk_at dksX0_count_3 7 rfl rfl)
theorem dX0_count_84 : decode cX0_count 84 = .ok (.aload_n 0, 1) := dk_42 (dk_at dksX0_count_3 8 rfl rfl)
theorem dX0_count_85 : decode cX0_count 85 = .ok (.invokevirtual 282, 3) := dk_182 1 26 (dk_at dksX0_count_3 9 rfl rfl)
theorem dX0_count_88 : decode cX0_count 88 = .ok (.ireturn, 1) := dk_172 (dk_at dksX0_count_3 12 rfl rfl)
theorem dX0_count_89 : decode cX0_count 89 = .ok (.aload_n 0, 1) := dk_42 (dk_at dksX0_count_3 13 rfl rfl)
theorem dX0_count_90 : decode cX0_count 90 = .ok (.invokevirtual 285, 3) := dk_182 1 29 (dk_at dksX0_count_3 14 rfl rfl)
theorem dX0_count_93 : decode cX0_count 93 = .ok (.ireturn, 1) := dk_172 (dk_at dksX0_count_3 17 rfl rfl)
theorem dX0_count_94 : decode cX0_count 94 = .ok (.aload_n 0, 1) := dk_42 (dk_at dksX0_count_3 18 rfl rfl)
theorem dX0_count_95 : decode cX0_count 95 = .ok (.getfield 28, 3) := dk_180 0 28 (dk_at dksX0_count_3 19 rfl rfl)
theorem dX0_count_98 : decode cX0_count 98 = .ok (.getfield 288, 3) := dk_180 1 32 (dk_at dksX0_count_4 0 rfl rfl)
theorem dX0_count_101 : decode cX0_count 101 = .ok (.ireturn, 1) := dk_172 (dk_at dksX0_count_4 3 rfl rfl)
theorem dX0_count_102 : decode cX0_count 102 = .ok (.aload_n 0, 1) := dk_42 (dk_at dksX0_count_4 4 rfl rfl)
theorem dX0_count_103 : decode cX0_count 103 = .ok (.getfield 113, 3) := dk_180 0 113 (dk_at dksX0_count_4 5 rfl rfl)
theorem dX0_count_106 : decode cX0_count 106 = .ok (.ireturn, 1) := dk_172 (dk_at dksX0_count_4 8 rfl rfl)
theorem dX0_count_107 : decode cX0_count 107 = .ok (.aload_n 0, 1) := dk_42 (dk_at dksX0_count_4 9 rfl rfl)
theorem dX0_count_108 : decode cX0_count 108 = .ok (.getfield 63, 3) := dk_180 0 63 (dk_at dksX0_count_4 10 rfl rfl)
theorem dX0_count_111 : decode cX0_count 111 = .ok (.getfield 110, 3) := dk_180 0 110 (dk_at dksX0_count_4 13 rfl rfl)
theorem dX0_count_114 : decode cX0_count 114 = .ok (.ireturn, 1) := dk_172 (dk_at dksX0_count_4 16 rfl rfl)
theorem dX0_count_115 : decode cX0_count 115 = .ok (.aload_n 0, 1) := dk_42 (dk_at dksX0_count_4 17 rfl rfl)
theorem dX0_count_116 : decode cX0_count 116 = .ok (.getfield 63, 3) := dk_180 0 63 (dk_at dksX0_count_4 18 rfl rfl)
theorem dX0_count_119 : decode cX0_count 119 = .ok (.invokevirtual 178, 3) := dk_182 0 178 (dk_at dksX0_count_4 21 rfl rfl)
theorem dX0_count_122 : decode cX0_count 122 = .ok (.ireturn, 1) := dk_172 (dk_at dksX0_count_5 0 rfl rfl)
theorem dX0_count_123 : decode cX0_count 123 = .ok (.iconst (-1), 1) := dk_2 (dk_at dksX0_count_5 1 rfl rfl)
theorem dX0_count_124 : decode cX0_count 124 = .ok (.ireturn, 1) := dk_172 (dk_at dksX0_count_5 2 rfl rfl)
abbrev cX0_twos : ByteArray := prog_1_method_58_code
def yX0_twos : MethodName := ⟨RX0, "twos", "()I"⟩
def dkwX0_twos_1 : List UInt8 := [21, 4, 46, 54, 5, 27, 21, 5, 184, 0, 214, 96, 60, 132, 4, 1, 167, 255, 233, 27, 5, 108, 172]
abbrev dktX0_twos_1 : List UInt8 := dkwX0_twos_1 ++ []
def dkwX0_twos_0 : List UInt8 := [3, 60, 42, 180, 0, 16, 180, 0, 194, 77, 44, 190, 62, 3, 54, 4, 21, 4, 29, 162, 0, 23, 44]
abbrev dktX0_twos_0 : List UInt8 := dkwX0_twos_0 ++ dktX0_twos_1
theorem dksX0_twos_0 : cX0_twos.data.toList.drop 0 = dktX0_twos_0 := by decide +kernel
theorem dksX0_twos_1 : cX0_twos.data.toList.drop 23 = dktX0_twos_1 := dk_seg dksX0_twos_0 23 rfl rfl
theorem dX0_twos_0 : decode cX0_twos 0 = .ok (.iconst 0, 1) := dk_3 (dk_at dksX0_twos_0 0 rfl rfl)
theorem dX0_twos_1 : decode cX0_twos 1 = .ok (.istore_n 1, 1) := dk_60 (dk_at dksX0_twos_0 1 rfl rfl)
theorem dX0_twos_2 : decode cX0_twos 2 = .ok (.aload_n 0, 1) := dk_42 (dk_at dksX0_twos_0 2 rfl rfl)
theorem dX0_twos_3 : decode cX0_twos 3 = .ok (.getfield 16, 3) := dk_180 0 16 (dk_at dksX0_twos_0 3 rfl rfl)
theorem dX0_twos_6 : decode cX0_twos 6 = .ok (.getfield 194, 3) := dk_180 0 194 (dk_at dksX0_twos_0 6 rfl rfl)
theorem dX0_twos_9 : decode cX0_twos 9 = .ok (.astore_n 2, 1) := dk_77 (dk_at dksX0_twos_0 9 rfl rfl)
theorem dX0_twos_10 : decode cX0_twos 10 = .ok (.aload_n 2, 1) := dk_44 (dk_at dksX0_twos_0 10 rfl rfl)
theorem dX0_twos_11 : decode cX0_twos 11 = .ok (.arraylength, 1) := dk_190 (dk_at dksX0_twos_0 11 rfl rfl)
theorem dX0_twos_12 : decode cX0_twos 12 = .ok (.istore_n 3, 1) := dk_62 (dk_at dksX0_twos_0 12 rfl rfl)
theorem dX0_twos_13 : decode cX0_twos 13 = .ok (.iconst 0, 1) := dk_3 (dk_at dksX0_twos_0 13 rfl rfl)
theorem dX0_twos_14 : decode cX0_twos 14 = .ok (.istore 4, 2) := dk_54 4 (dk_at dksX0_twos_0 14 rfl rfl)
theorem dX0_twos_16 : decode cX0_twos 16 = .ok (.iload 4, 2) := dk_21 4 (dk_at dksX0_twos_0 16 rfl rfl)
theorem dX0_twos_18 : decode cX0_twos 18 = .ok (.iload_n 3, 1) := dk_29 (dk_at dksX0_twos_0 18 rfl rfl)
theorem dX0_twos_19 : decode cX0_twos 19 = .ok (.if_icmp .ge 23, 3) := dk_162 0 23 (dk_at dksX0_twos_0 19 rfl rfl)
theorem dX0_twos_22 : decode cX0_twos 22 = .ok (.aload_n 2, 1) := dk_44 (dk_at dksX0_twos_0 22 rfl rfl)
theorem dX0_twos_23 : decode cX0_twos 23 = .ok (.iload 4, 2) := dk_21 4 (dk_at dksX0_twos_1 0 rfl rfl)
theorem dX0_twos_25 : decode cX0_twos 25 = .ok (.iaload, 1) := dk_46 (dk_at dksX0_twos_1 2 rfl rfl)
theorem dX0_twos_26 : decode cX0_twos 26 = .ok (.istore 5, 2) := dk_54 5 (dk_at dksX0_twos_1 3 rfl rfl)
theorem dX0_twos_28 : decode cX0_twos 28 = .ok (.iload_n 1, 1) := dk_27 (dk_at dksX0_twos_1 5 rfl rfl)
theorem dX0_twos_29 : decode cX0_twos 29 = .ok (.iload 5, 2) := dk_21 5 (dk_at dksX0_twos_1 6 rfl rfl)
theorem dX0_twos_31 : decode cX0_twos 31 = .ok (.invokestatic 214, 3) := dk_184 0 214 (dk_at dksX0_twos_1 8 rfl rfl)
theorem dX0_twos_34 : decode cX0_twos 34 = .ok (.iadd, 1) := dk_96 (dk_at dksX0_twos_1 11 rfl rfl)
theorem dX0_twos_35 : decode cX0_twos 35 = .ok (.istore_n 1, 1) := dk_60 (dk_at dksX0_twos_1 12 rfl rfl)
theorem dX0_twos_36 : decode cX0_twos 36 = .ok (.iinc 4 1, 3) := dk_132 4 1 (dk_at dksX0_twos_1 13 rfl rfl)
theorem dX0_twos_39 : decode cX0_twos 39 = .ok (.goto (-23), 3) := dk_167 255 233 (dk_at dksX0_twos_1 16 rfl rfl)
theorem dX0_twos_42 : decode cX0_twos 42 = .ok (.iload_n 1, 1) := dk_27 (dk_at dksX0_twos_1 19 rfl rfl)
theorem dX0_twos_43 : decode cX0_twos 43 = .ok (.iconst 2, 1) := dk_5 (dk_at dksX0_twos_1 20 rfl rfl)
theorem dX0_twos_44 : decode cX0_twos 44 = .ok (.idiv, 1) := dk_108 (dk_at dksX0_twos_1 21 rfl rfl)
theorem dX0_twos_45 : decode cX0_twos 45 = .ok (.ireturn, 1) := dk_172 (dk_at dksX0_twos_1 22 rfl rfl)
abbrev cX0_favoursOfAll : ByteArray := prog_1_method_59_code
def yX0_favoursOfAll : MethodName := ⟨RX0, "favoursOfAll", "()I"⟩
def dkwX0_favoursOfAll_1 : List UInt8 := [132, 2, 1, 167, 255, 235, 27, 172]
abbrev dktX0_favoursOfAll_1 : List UInt8 := dkwX0_favoursOfAll_1 ++ []
def dkwX0_favoursOfAll_0 : List UInt8 := [3, 60, 3, 61, 28, 16, 16, 162, 0, 21, 27, 42, 180, 0, 63, 28, 3, 182, 0, 184, 96, 60]
abbrev dktX0_favoursOfAll_0 : List UInt8 := dkwX0_favoursOfAll_0 ++ dktX0_favoursOfAll_1
theorem dksX0_favoursOfAll_0 : cX0_favoursOfAll.data.toList.drop 0 = dktX0_favoursOfAll_0 := by decide +kernel
theorem dksX0_favoursOfAll_1 : cX0_favoursOfAll.data.toList.drop 22 = dktX0_favoursOfAll_1 := dk_seg dksX0_favoursOfAll_0 22 rfl rfl
theorem dX0_favoursOfAll_0 : decode cX0_favoursOfAll 0 = .ok (.iconst 0, 1) := dk_3 (dk_at dksX0_favoursOfAll_0 0 rfl rfl)
theorem dX0_favoursOfAll_1 : decode cX0_favoursOfAll 1 = .ok (.istore_n 1, 1) := dk_60 (dk_at dksX0_favoursOfAll_0 1 rfl rfl)
theorem dX0_favoursOfAll_2 : decode cX0_favoursOfAll 2 = .ok (.iconst 0, 1) := dk_3 (dk_at dksX0_favoursOfAll_0 2 rfl rfl)
theorem dX0_favoursOfAll_3 : decode cX0_favoursOfAll 3 = .ok (.istore_n 2, 1) := dk_61 (dk_at dksX0_favoursOfAll_0 3 rfl rfl)
theorem dX0_favoursOfAll_4 : decode cX0_favoursOfAll 4 = .ok (.iload_n 2, 1) := dk_28 (dk_at dksX0_favoursOfAll_0 4 rfl rfl)
theorem dX0_favoursOfAll_5 : decode cX0_favoursOfAll 5 = .ok (.bipush 16, 2) := dk_16 16 (dk_at dksX0_favoursOfAll_0 5 rfl rfl)
theorem dX0_favoursOfAll_7 : decode cX0_favoursOfAll 7 = .ok (.if_icmp .ge 21, 3) := dk_162 0 21 (dk_at dksX0_favoursOfAll_0 7 rfl rfl)
theorem dX0_favoursOfAll_10 : decode cX0_favoursOfAll 10 = .ok (.iload_n 1, 1) := dk_27 (dk_at dksX0_favoursOfAll_0 10 rfl rfl)
theorem dX0_favoursOfAll_11 : decode cX0_favoursOfAll 11 = .ok (.aload_n 0, 1) := dk_42 (dk_at dksX0_favoursOfAll_0 11 rfl rfl)
theorem dX0_favoursOfAll_12 : decode cX0_favoursOfAll 12 = .ok (.getfield 63, 3) := dk_180 0 63 (dk_at dksX0_favoursOfAll_0 12 rfl rfl)
theorem dX0_favoursOfAll_15 : decode cX0_favoursOfAll 15 = .ok (.iload_n 2, 1) := dk_28 (dk_at dksX0_favoursOfAll_0 15 rfl rfl)
theorem dX0_favoursOfAll_16 : decode cX0_favoursOfAll 16 = .ok (.iconst 0, 1) := dk_3 (dk_at dksX0_favoursOfAll_0 16 rfl rfl)
theorem dX0_favoursOfAll_17 : decode cX0_favoursOfAll 17 = .ok (.invokevirtual 184, 3) := dk_182 0 184 (dk_at dksX0_favoursOfAll_0 17 rfl rfl)
theorem dX0_favoursOfAll_20 : decode cX0_favoursOfAll 20 = .ok (.iadd, 1) := dk_96 (dk_at dksX0_favoursOfAll_0 20 rfl rfl)
theorem dX0_favoursOfAll_21 : decode cX0_favoursOfAll 21 = .ok (.istore_n 1, 1) := dk_60 (dk_at dksX0_favoursOfAll_0 21 rfl rfl)
theorem dX0_favoursOfAll_22 : decode cX0_favoursOfAll 22 = .ok (.iinc 2 1, 3) := dk_132 2 1 (dk_at dksX0_favoursOfAll_1 0 rfl rfl)
theorem dX0_favoursOfAll_25 : decode cX0_favoursOfAll 25 = .ok (.goto (-21), 3) := dk_167 255 235 (dk_at dksX0_favoursOfAll_1 3 rfl rfl)
theorem dX0_favoursOfAll_28 : decode cX0_favoursOfAll 28 = .ok (.iload_n 1, 1) := dk_27 (dk_at dksX0_favoursOfAll_1 6 rfl rfl)
theorem dX0_favoursOfAll_29 : decode cX0_favoursOfAll 29 = .ok (.ireturn, 1) := dk_172 (dk_at dksX0_favoursOfAll_1 7 rfl rfl)
theorem q101 : (Jvm.Cond.initialized "AnyKeyTown") ∈ lw_all := lw_g (lw_at lw_m1 1 rfl) rfl
theorem q128 : (Jvm.Cond.instantiable "AnyKeyTown" (19 : Nat)) ∈ lw_all := lw_g (lw_at lw_m1 28 rfl) rfl
theorem q130 : (Jvm.Cond.instanceMethod ({ cls := "AnyKeyTown", name := "<init>", desc := "()V" } : Jvm.MethodName)) ∈ lw_all := lw_g (lw_at lw_m1 30 rfl) rfl
theorem q131 : (Jvm.Cond.code ({ cls := "AnyKeyTown", name := "<init>", desc := "()V" } : Jvm.MethodName) prog_1_method_8_code (1 : Nat) (Option.none : Option Jvm.ClassFile.FieldType)) ∈ lw_all := lw_g (lw_at lw_m1 31 rfl) rfl
theorem q132 : (Jvm.Cond.methodLink "AnyKeyTown" (45 : Nat) ({ cls := "java/lang/Object", name := "<init>", desc := "()V" } : Jvm.MethodName)) ∈ lw_all := lw_g (lw_at lw_m1 32 rfl) rfl
theorem q135 : (Jvm.Cond.classLink "AnyKeyTown" (23 : Nat) "AnyKeyTown$Roll") ∈ lw_all := lw_g (lw_at lw_m1 35 rfl) rfl
theorem q137 : (Jvm.Cond.methodLinkNest "AnyKeyTown" (51 : Nat) ({ cls := "AnyKeyTown$Roll", name := "<init>", desc := "()V" } : Jvm.MethodName) "AnyKeyTown") ∈ lw_tbl := lw_at lw_m1 37 rfl
theorem q145 : (Jvm.Cond.fieldLinkNest "AnyKeyTown" (188 : Nat) "AnyKeyTown$Roll" "houses" "[I" "AnyKeyTown") ∈ lw_tbl := lw_at lw_m1 45 rfl
theorem q148 : (Jvm.Cond.fieldLinkNest "AnyKeyTown" (194 : Nat) "AnyKeyTown$Roll" "foes" "[I" "AnyKeyTown") ∈ lw_tbl := lw_at lw_m1 48 rfl
theorem q151 : (Jvm.Cond.fieldLinkNest "AnyKeyTown" (22 : Nat) "AnyKeyTown$Roll" "told" "I" "AnyKeyTown") ∈ lw_tbl := lw_at lw_m1 51 rfl
theorem q157 : (Jvm.Cond.fieldLinkNest "AnyKeyTown" (152 : Nat) "AnyKeyTown$Roll" "locked" "I" "AnyKeyTown") ∈ lw_tbl := lw_at lw_m1 57 rfl
theorem q168 : (Jvm.Cond.classLink "AnyKeyTown" (55 : Nat) "AnyKeyTown$Moment") ∈ lw_all := lw_g (lw_at lw_m1 68 rfl) rfl
theorem q170 : (Jvm.Cond.methodLinkNest "AnyKeyTown" (57 : Nat) ({ cls := "AnyKeyTown$Moment", name := "<init>", desc := "()V" } : Jvm.MethodName) "AnyKeyTown") ∈ lw_tbl := lw_at lw_m1 70 rfl
theorem q213 : (Jvm.Cond.classLink "AnyKeyTown" (58 : Nat) "AnyKeyTown$Town") ∈ lw_all := lw_g (lw_at lw_m1 113 rfl) rfl
theorem q215 : (Jvm.Cond.methodLinkNest "AnyKeyTown" (60 : Nat) ({ cls := "AnyKeyTown$Town", name := "<init>", desc := "(LAnyKeyTown;)V" } : Jvm.MethodName) "AnyKeyTown") ∈ lw_tbl := lw_at lw_m1 115 rfl
theorem q222 : (Jvm.Cond.fieldLinkNest "AnyKeyTown" (197 : Nat) "AnyKeyTown$Town" "favour" "[[I" "AnyKeyTown") ∈ lw_tbl := lw_at lw_m1 122 rfl
theorem q224 : (Jvm.Cond.fieldLinkNest "AnyKeyTown" (181 : Nat) "AnyKeyTown$Town" "nights" "[I" "AnyKeyTown") ∈ lw_tbl := lw_at lw_m1 124 rfl
theorem q227 : (Jvm.Cond.fieldLinkNest "AnyKeyTown" (279 : Nat) "AnyKeyTown$Town" "evening" "I" "AnyKeyTown") ∈ lw_tbl := lw_at lw_m1 127 rfl
theorem q229 : (Jvm.Cond.fieldLinkNest "AnyKeyTown" (110 : Nat) "AnyKeyTown$Town" "x" "I" "AnyKeyTown") ∈ lw_tbl := lw_at lw_m1 129 rfl
theorem q231 : (Jvm.Cond.fieldLinkNest "AnyKeyTown" (165 : Nat) "AnyKeyTown$Town" "letIn" "I" "AnyKeyTown") ∈ lw_tbl := lw_at lw_m1 131 rfl
theorem q233 : (Jvm.Cond.fieldLinkNest "AnyKeyTown" (175 : Nat) "AnyKeyTown$Town" "bed" "I" "AnyKeyTown") ∈ lw_tbl := lw_at lw_m1 133 rfl
theorem q258 : (Jvm.Cond.classLink "AnyKeyTown" (37 : Nat) "AnyKeyTown$Text") ∈ lw_all := lw_g (lw_at lw_m1 158 rfl) rfl
theorem q260 : (Jvm.Cond.methodLinkNest "AnyKeyTown" (77 : Nat) ({ cls := "AnyKeyTown$Text", name := "<init>", desc := "()V" } : Jvm.MethodName) "AnyKeyTown") ∈ lw_tbl := lw_at lw_m1 160 rfl
theorem q276 : (Jvm.Cond.fieldLinkNest "AnyKeyTown" (288 : Nat) "AnyKeyTown$Text" "many" "I" "AnyKeyTown") ∈ lw_tbl := lw_at lw_m1 176 rfl
theorem q287 : (Jvm.Cond.constant "AnyKeyTown" (78 : Nat) (65536 : Int32)) ∈ lw_all := lw_g (lw_at lw_m1 187 rfl) rfl
theorem q288 : (Jvm.Cond.classLink "AnyKeyTown" (99 : Nat) "[[I") ∈ lw_all := lw_g (lw_at lw_m1 188 rfl) rfl
theorem q292 : (Jvm.Cond.fieldLink "AnyKeyTown" (16 : Nat) "AnyKeyTown" "roll" "LAnyKeyTown$Roll;") ∈ lw_all := lw_g (lw_at lw_m1 192 rfl) rfl
theorem q294 : (Jvm.Cond.fieldLink "AnyKeyTown" (52 : Nat) "AnyKeyTown" "trial" "LAnyKeyTown$Roll;") ∈ lw_all := lw_g (lw_at lw_m1 194 rfl) rfl
theorem q296 : (Jvm.Cond.fieldLink "AnyKeyTown" (32 : Nat) "AnyKeyTown" "moment" "LAnyKeyTown$Moment;") ∈ lw_all := lw_g (lw_at lw_m1 196 rfl) rfl
theorem q297 : (Jvm.Cond.fieldLink "AnyKeyTown" (63 : Nat) "AnyKeyTown" "town" "LAnyKeyTown$Town;") ∈ lw_all := lw_g (lw_at lw_m1 197 rfl) rfl
theorem q298 : (Jvm.Cond.fieldLink "AnyKeyTown" (67 : Nat) "AnyKeyTown" "then" "LAnyKeyTown$Town;") ∈ lw_all := lw_g (lw_at lw_m1 198 rfl) rfl
theorem q299 : (Jvm.Cond.fieldLink "AnyKeyTown" (70 : Nat) "AnyKeyTown" "kept" "LAnyKeyTown$Town;") ∈ lw_all := lw_g (lw_at lw_m1 199 rfl) rfl
theorem q302 : (Jvm.Cond.fieldLink "AnyKeyTown" (73 : Nat) "AnyKeyTown" "tape" "[B") ∈ lw_all := lw_g (lw_at lw_m1 202 rfl) rfl
theorem q303 : (Jvm.Cond.fieldLink "AnyKeyTown" (28 : Nat) "AnyKeyTown" "law" "LAnyKeyTown$Text;") ∈ lw_all := lw_g (lw_at lw_m1 203 rfl) rfl
theorem q305 : (Jvm.Cond.fieldLink "AnyKeyTown" (113 : Nat) "AnyKeyTown" "taped" "I") ∈ lw_all := lw_g (lw_at lw_m1 205 rfl) rfl
theorem q306 : (Jvm.Cond.fieldLink "AnyKeyTown" (275 : Nat) "AnyKeyTown" "isKept" "Z") ∈ lw_all := lw_g (lw_at lw_m1 206 rfl) rfl
theorem q307 : (Jvm.Cond.fieldLink "AnyKeyTown" (79 : Nat) "AnyKeyTown" "left" "[J") ∈ lw_all := lw_g (lw_at lw_m1 207 rfl) rfl
theorem q308 : (Jvm.Cond.fieldLink "AnyKeyTown" (83 : Nat) "AnyKeyTown" "partyOf" "[I") ∈ lw_all := lw_g (lw_at lw_m1 208 rfl) rfl
theorem q309 : (Jvm.Cond.fieldLink "AnyKeyTown" (87 : Nat) "AnyKeyTown" "heads" "[I") ∈ lw_all := lw_g (lw_at lw_m1 209 rfl) rfl
theorem q310 : (Jvm.Cond.fieldLink "AnyKeyTown" (90 : Nat) "AnyKeyTown" "paired" "[I") ∈ lw_all := lw_g (lw_at lw_m1 210 rfl) rfl
theorem q311 : (Jvm.Cond.fieldLink "AnyKeyTown" (93 : Nat) "AnyKeyTown" "rows" "[I") ∈ lw_all := lw_g (lw_at lw_m1 211 rfl) rfl
theorem q312 : (Jvm.Cond.fieldLink "AnyKeyTown" (96 : Nat) "AnyKeyTown" "order" "[I") ∈ lw_all := lw_g (lw_at lw_m1 212 rfl) rfl
theorem q313 : (Jvm.Cond.fieldLink "AnyKeyTown" (101 : Nat) "AnyKeyTown" "atLeft" "[[I") ∈ lw_all := lw_g (lw_at lw_m1 213 rfl) rfl
theorem q314 : (Jvm.Cond.fieldLink "AnyKeyTown" (104 : Nat) "AnyKeyTown" "atRight" "[[I") ∈ lw_all := lw_g (lw_at lw_m1 214 rfl) rfl
theorem q315 : (Jvm.Cond.fieldLink "AnyKeyTown" (107 : Nat) "AnyKeyTown" "most" "[I") ∈ lw_all := lw_g (lw_at lw_m1 215 rfl) rfl
theorem q316 : (Jvm.Cond.laysFinal "AnyKeyTown" "AnyKeyTown" "roll" "LAnyKeyTown$Roll;") ∈ lw_all := lw_g (lw_at lw_m1 216 rfl) rfl
theorem q317 : (Jvm.Cond.soleField "AnyKeyTown" "roll") ∈ lw_all := lw_g (lw_at lw_m1 217 rfl) rfl
theorem q318 : (Jvm.Cond.laysFinal "AnyKeyTown" "AnyKeyTown" "trial" "LAnyKeyTown$Roll;") ∈ lw_all := lw_g (lw_at lw_m1 218 rfl) rfl
theorem q319 : (Jvm.Cond.soleField "AnyKeyTown" "trial") ∈ lw_all := lw_g (lw_at lw_m1 219 rfl) rfl
theorem q320 : (Jvm.Cond.laysFinal "AnyKeyTown" "AnyKeyTown" "moment" "LAnyKeyTown$Moment;") ∈ lw_all := lw_g (lw_at lw_m1 220 rfl) rfl
theorem q321 : (Jvm.Cond.soleField "AnyKeyTown" "moment") ∈ lw_all := lw_g (lw_at lw_m1 221 rfl) rfl
theorem q322 : (Jvm.Cond.laysFinal "AnyKeyTown" "AnyKeyTown" "town" "LAnyKeyTown$Town;") ∈ lw_all := lw_g (lw_at lw_m1 222 rfl) rfl
theorem q323 : (Jvm.Cond.soleField "AnyKeyTown" "town") ∈ lw_all := lw_g (lw_at lw_m1 223 rfl) rfl
theorem q324 : (Jvm.Cond.laysFinal "AnyKeyTown" "AnyKeyTown" "then" "LAnyKeyTown$Town;") ∈ lw_all := lw_g (lw_at lw_m1 224 rfl) rfl
theorem q325 : (Jvm.Cond.soleField "AnyKeyTown" "then") ∈ lw_all := lw_g (lw_at lw_m1 225 rfl) rfl
theorem q326 : (Jvm.Cond.laysFinal "AnyKeyTown" "AnyKeyTown" "kept" "LAnyKeyTown$Town;") ∈ lw_all := lw_g (lw_at lw_m1 226 rfl) rfl
theorem q327 : (Jvm.Cond.soleField "AnyKeyTown" "kept") ∈ lw_all := lw_g (lw_at lw_m1 227 rfl) rfl
theorem q328 : (Jvm.Cond.laysFinal "AnyKeyTown" "AnyKeyTown" "tape" "[B") ∈ lw_all := lw_g (lw_at lw_m1 228 rfl) rfl
theorem q329 : (Jvm.Cond.soleField "AnyKeyTown" "tape") ∈ lw_all := lw_g (lw_at lw_m1 229 rfl) rfl
theorem q330 : (Jvm.Cond.lays "AnyKeyTown" "AnyKeyTown" "law" "LAnyKeyTown$Text;") ∈ lw_all := lw_g (lw_at lw_m1 230 rfl) rfl
theorem q331 : (Jvm.Cond.soleField "AnyKeyTown" "law") ∈ lw_all := lw_g (lw_at lw_m1 231 rfl) rfl
theorem q332 : (Jvm.Cond.lays "AnyKeyTown" "AnyKeyTown" "taped" "I") ∈ lw_all := lw_g (lw_at lw_m1 232 rfl) rfl
theorem q333 : (Jvm.Cond.soleField "AnyKeyTown" "taped") ∈ lw_all := lw_g (lw_at lw_m1 233 rfl) rfl
theorem q334 : (Jvm.Cond.lays "AnyKeyTown" "AnyKeyTown" "isKept" "Z") ∈ lw_all := lw_g (lw_at lw_m1 234 rfl) rfl
theorem q335 : (Jvm.Cond.soleField "AnyKeyTown" "isKept") ∈ lw_all := lw_g (lw_at lw_m1 235 rfl) rfl
theorem q336 : (Jvm.Cond.laysFinal "AnyKeyTown" "AnyKeyTown" "left" "[J") ∈ lw_all := lw_g (lw_at lw_m1 236 rfl) rfl
theorem q337 : (Jvm.Cond.soleField "AnyKeyTown" "left") ∈ lw_all := lw_g (lw_at lw_m1 237 rfl) rfl
theorem q338 : (Jvm.Cond.laysFinal "AnyKeyTown" "AnyKeyTown" "partyOf" "[I") ∈ lw_all := lw_g (lw_at lw_m1 238 rfl) rfl
theorem q339 : (Jvm.Cond.soleField "AnyKeyTown" "partyOf") ∈ lw_all := lw_g (lw_at lw_m1 239 rfl) rfl
theorem q340 : (Jvm.Cond.laysFinal "AnyKeyTown" "AnyKeyTown" "heads" "[I") ∈ lw_all := lw_g (lw_at lw_m2 0 rfl) rfl
theorem q341 : (Jvm.Cond.soleField "AnyKeyTown" "heads") ∈ lw_all := lw_g (lw_at lw_m2 1 rfl) rfl
theorem q342 : (Jvm.Cond.laysFinal "AnyKeyTown" "AnyKeyTown" "paired" "[I") ∈ lw_all := lw_g (lw_at lw_m2 2 rfl) rfl
theorem q343 : (Jvm.Cond.soleField "AnyKeyTown" "paired") ∈ lw_all := lw_g (lw_at lw_m2 3 rfl) rfl
theorem q344 : (Jvm.Cond.laysFinal "AnyKeyTown" "AnyKeyTown" "rows" "[I") ∈ lw_all := lw_g (lw_at lw_m2 4 rfl) rfl
theorem q345 : (Jvm.Cond.soleField "AnyKeyTown" "rows") ∈ lw_all := lw_g (lw_at lw_m2 5 rfl) rfl
theorem q346 : (Jvm.Cond.laysFinal "AnyKeyTown" "AnyKeyTown" "order" "[I") ∈ lw_all := lw_g (lw_at lw_m2 6 rfl) rfl
theorem q347 : (Jvm.Cond.soleField "AnyKeyTown" "order") ∈ lw_all := lw_g (lw_at lw_m2 7 rfl) rfl
theorem q348 : (Jvm.Cond.laysFinal "AnyKeyTown" "AnyKeyTown" "atLeft" "[[I") ∈ lw_all := lw_g (lw_at lw_m2 8 rfl) rfl
theorem q349 : (Jvm.Cond.soleField "AnyKeyTown" "atLeft") ∈ lw_all := lw_g (lw_at lw_m2 9 rfl) rfl
theorem q350 : (Jvm.Cond.laysFinal "AnyKeyTown" "AnyKeyTown" "atRight" "[[I") ∈ lw_all := lw_g (lw_at lw_m2 10 rfl) rfl
theorem q351 : (Jvm.Cond.soleField "AnyKeyTown" "atRight") ∈ lw_all := lw_g (lw_at lw_m2 11 rfl) rfl
theorem q352 : (Jvm.Cond.laysFinal "AnyKeyTown" "AnyKeyTown" "most" "[I") ∈ lw_all := lw_g (lw_at lw_m2 12 rfl) rfl
theorem q353 : (Jvm.Cond.soleField "AnyKeyTown" "most") ∈ lw_all := lw_g (lw_at lw_m2 13 rfl) rfl
theorem q354 : (Jvm.Cond.superclass "AnyKeyTown" "java/lang/Object") ∈ lw_all := lw_g (lw_at lw_m2 14 rfl) rfl
theorem q357 : (Jvm.Cond.instanceMethod ({ cls := "AnyKeyTown", name := "feed", desc := "(IIIII)I" } : Jvm.MethodName)) ∈ lw_all := lw_g (lw_at lw_m2 17 rfl) rfl
theorem q358 : (Jvm.Cond.selects "AnyKeyTown" ({ cls := "AnyKeyTown", name := "feed", desc := "(IIIII)I" } : Jvm.MethodName) ({ cls := "AnyKeyTown", name := "feed", desc := "(IIIII)I" } : Jvm.MethodName)) ∈ lw_all := lw_g (lw_at lw_m2 18 rfl) rfl
theorem q359 : (Jvm.Cond.code ({ cls := "AnyKeyTown", name := "feed", desc := "(IIIII)I" } : Jvm.MethodName) prog_1_method_10_code (6 : Nat) (Option.some Jvm.ClassFile.FieldType.int)) ∈ lw_all := lw_g (lw_at lw_m2 19 rfl) rfl
theorem q360 : (Jvm.Cond.methodLink "AnyKeyTown" (116 : Nat) ({ cls := "AnyKeyTown", name := "push", desc := "(I)V" } : Jvm.MethodName)) ∈ lw_all := lw_g (lw_at lw_m2 20 rfl) rfl
theorem q361 : (Jvm.Cond.privateMethod ({ cls := "AnyKeyTown", name := "push", desc := "(I)V" } : Jvm.MethodName)) ∈ lw_tbl := lw_at lw_m2 21 rfl
theorem q362 : (Jvm.Cond.instanceMethod ({ cls := "AnyKeyTown", name := "push", desc := "(I)V" } : Jvm.MethodName)) ∈ lw_all := lw_g (lw_at lw_m2 22 rfl) rfl
theorem q363 : (Jvm.Cond.code ({ cls := "AnyKeyTown", name := "push", desc := "(I)V" } : Jvm.MethodName) prog_1_method_9_code (3 : Nat) (Option.none : Option Jvm.ClassFile.FieldType)) ∈ lw_all := lw_g (lw_at lw_m2 23 rfl) rfl
theorem q365 : (Jvm.Cond.instanceMethod ({ cls := "AnyKeyTown", name := "law", desc := "(I)I" } : Jvm.MethodName)) ∈ lw_all := lw_g (lw_at lw_m2 25 rfl) rfl
theorem q366 : (Jvm.Cond.selects "AnyKeyTown" ({ cls := "AnyKeyTown", name := "law", desc := "(I)I" } : Jvm.MethodName) ({ cls := "AnyKeyTown", name := "law", desc := "(I)I" } : Jvm.MethodName)) ∈ lw_all := lw_g (lw_at lw_m2 26 rfl) rfl
theorem q367 : (Jvm.Cond.code ({ cls := "AnyKeyTown", name := "law", desc := "(I)I" } : Jvm.MethodName) prog_1_method_11_code (4 : Nat) (Option.some Jvm.ClassFile.FieldType.int)) ∈ lw_all := lw_g (lw_at lw_m2 27 rfl) rfl
theorem q368 : (Jvm.Cond.methodLink "AnyKeyTown" (120 : Nat) ({ cls := "AnyKeyTown", name := "within", desc := "(III)Z" } : Jvm.MethodName)) ∈ lw_all := lw_g (lw_at lw_m2 28 rfl) rfl
theorem q369 : (Jvm.Cond.static ({ cls := "AnyKeyTown", name := "within", desc := "(III)Z" } : Jvm.MethodName)) ∈ lw_all := lw_g (lw_at lw_m2 29 rfl) rfl
theorem q370 : (Jvm.Cond.code ({ cls := "AnyKeyTown", name := "within", desc := "(III)Z" } : Jvm.MethodName) prog_1_method_2_code (3 : Nat) (Option.some Jvm.ClassFile.FieldType.boolean)) ∈ lw_all := lw_g (lw_at lw_m2 30 rfl) rfl
theorem q371 : (Jvm.Cond.classLink "AnyKeyTown" (124 : Nat) "AnyKeyTown$Reader") ∈ lw_all := lw_g (lw_at lw_m2 31 rfl) rfl
theorem q373 : (Jvm.Cond.methodLink "AnyKeyTown" (126 : Nat) ({ cls := "AnyKeyTown$Reader", name := "<init>", desc := "(LAnyKeyTown;I)V" } : Jvm.MethodName)) ∈ lw_all := lw_g (lw_at lw_m2 33 rfl) rfl
theorem q381 : (Jvm.Cond.fieldLinkNest "AnyKeyTown" (133 : Nat) "AnyKeyTown$Reader" "text" "LAnyKeyTown$Text;" "AnyKeyTown") ∈ lw_tbl := lw_at lw_m2 41 rfl
theorem q402 : (Jvm.Cond.methodLink "AnyKeyTown" (129 : Nat) ({ cls := "AnyKeyTown$Reader", name := "read", desc := "()I" } : Jvm.MethodName)) ∈ lw_all := lw_g (lw_at lw_m2 62 rfl) rfl
theorem q637 : (Jvm.Cond.instanceMethod ({ cls := "AnyKeyTown", name := "orders", desc := "(I)I" } : Jvm.MethodName)) ∈ lw_all := lw_g (lw_at lw_m3 57 rfl) rfl
theorem q638 : (Jvm.Cond.selects "AnyKeyTown" ({ cls := "AnyKeyTown", name := "orders", desc := "(I)I" } : Jvm.MethodName) ({ cls := "AnyKeyTown", name := "orders", desc := "(I)I" } : Jvm.MethodName)) ∈ lw_all := lw_g (lw_at lw_m3 58 rfl) rfl
theorem q639 : (Jvm.Cond.code ({ cls := "AnyKeyTown", name := "orders", desc := "(I)I" } : Jvm.MethodName) prog_1_method_12_code (4 : Nat) (Option.some Jvm.ClassFile.FieldType.int)) ∈ lw_all := lw_g (lw_at lw_m3 59 rfl) rfl
theorem q640 : (Jvm.Cond.classLink "AnyKeyTown" (136 : Nat) "AnyKeyTown$Constable") ∈ lw_all := lw_g (lw_at lw_m3 60 rfl) rfl
theorem q642 : (Jvm.Cond.methodLink "AnyKeyTown" (138 : Nat) ({ cls := "AnyKeyTown$Constable", name := "<init>", desc := "(LAnyKeyTown;I)V" } : Jvm.MethodName)) ∈ lw_all := lw_g (lw_at lw_m3 62 rfl) rfl
theorem q675 : (Jvm.Cond.methodLink "AnyKeyTown" (139 : Nat) ({ cls := "AnyKeyTown$Constable", name := "read", desc := "()I" } : Jvm.MethodName)) ∈ lw_all := lw_g (lw_at lw_m3 95 rfl) rfl
theorem q708 : (Jvm.Cond.static ({ cls := "AnyKeyTown", name := "in", desc := "(II)Z" } : Jvm.MethodName)) ∈ lw_all := lw_g (lw_at lw_m3 128 rfl) rfl
theorem q709 : (Jvm.Cond.code ({ cls := "AnyKeyTown", name := "in", desc := "(II)Z" } : Jvm.MethodName) prog_1_method_1_code (2 : Nat) (Option.some Jvm.ClassFile.FieldType.boolean)) ∈ lw_all := lw_g (lw_at lw_m3 129 rfl) rfl
theorem q770 : (Jvm.Cond.methodLink "AnyKeyTown" (140 : Nat) ({ cls := "AnyKeyTown$Roll", name := "takes", desc := "(LAnyKeyTown$Roll;)V" } : Jvm.MethodName)) ∈ lw_all := lw_g (lw_at lw_m3 190 rfl) rfl
theorem q772 : (Jvm.Cond.instanceMethod ({ cls := "AnyKeyTown", name := "dance", desc := "(II)I" } : Jvm.MethodName)) ∈ lw_all := lw_g (lw_at lw_m3 192 rfl) rfl
theorem q773 : (Jvm.Cond.selects "AnyKeyTown" ({ cls := "AnyKeyTown", name := "dance", desc := "(II)I" } : Jvm.MethodName) ({ cls := "AnyKeyTown", name := "dance", desc := "(II)I" } : Jvm.MethodName)) ∈ lw_all := lw_g (lw_at lw_m3 193 rfl) rfl
theorem q774 : (Jvm.Cond.code ({ cls := "AnyKeyTown", name := "dance", desc := "(II)I" } : Jvm.MethodName) prog_1_method_13_code (5 : Nat) (Option.some Jvm.ClassFile.FieldType.int)) ∈ lw_all := lw_g (lw_at lw_m3 194 rfl) rfl
theorem q775 : (Jvm.Cond.methodLink "AnyKeyTown" (144 : Nat) ({ cls := "AnyKeyTown", name := "in", desc := "(II)Z" } : Jvm.MethodName)) ∈ lw_all := lw_g (lw_at lw_m3 195 rfl) rfl
theorem q776 : (Jvm.Cond.classLink "AnyKeyTown" (148 : Nat) "AnyKeyTown$Dancer") ∈ lw_all := lw_g (lw_at lw_m3 196 rfl) rfl
theorem q778 : (Jvm.Cond.methodLink "AnyKeyTown" (150 : Nat) ({ cls := "AnyKeyTown$Dancer", name := "<init>", desc := "(LAnyKeyTown;I)V" } : Jvm.MethodName)) ∈ lw_all := lw_g (lw_at lw_m3 198 rfl) rfl
theorem q784 : (Jvm.Cond.fieldLinkNest "AnyKeyTown" (155 : Nat) "AnyKeyTown$Dancer" "inside" "I" "AnyKeyTown") ∈ lw_tbl := lw_at lw_m3 204 rfl
theorem q787 : (Jvm.Cond.fieldLinkNest "AnyKeyTown" (158 : Nat) "AnyKeyTown$Dancer" "steps" "I" "AnyKeyTown") ∈ lw_tbl := lw_at lw_m3 207 rfl
theorem q805 : (Jvm.Cond.methodLink "AnyKeyTown" (151 : Nat) ({ cls := "AnyKeyTown$Dancer", name := "read", desc := "()I" } : Jvm.MethodName)) ∈ lw_all := lw_g (lw_at lw_m3 225 rfl) rfl
theorem q827 : (Jvm.Cond.static ({ cls := "AnyKeyTown", name := "has", desc := "(II)Z" } : Jvm.MethodName)) ∈ lw_all := lw_g (lw_at lw_m4 7 rfl) rfl
theorem q828 : (Jvm.Cond.code ({ cls := "AnyKeyTown", name := "has", desc := "(II)Z" } : Jvm.MethodName) prog_1_method_3_code (2 : Nat) (Option.some Jvm.ClassFile.FieldType.boolean)) ∈ lw_all := lw_g (lw_at lw_m4 8 rfl) rfl
theorem q839 : (Jvm.Cond.instanceMethod ({ cls := "AnyKeyTown", name := "evenings", desc := "(I)I" } : Jvm.MethodName)) ∈ lw_all := lw_g (lw_at lw_m4 19 rfl) rfl
theorem q840 : (Jvm.Cond.selects "AnyKeyTown" ({ cls := "AnyKeyTown", name := "evenings", desc := "(I)I" } : Jvm.MethodName) ({ cls := "AnyKeyTown", name := "evenings", desc := "(I)I" } : Jvm.MethodName)) ∈ lw_all := lw_g (lw_at lw_m4 20 rfl) rfl
theorem q841 : (Jvm.Cond.code ({ cls := "AnyKeyTown", name := "evenings", desc := "(I)I" } : Jvm.MethodName) prog_1_method_14_code (2 : Nat) (Option.some Jvm.ClassFile.FieldType.int)) ∈ lw_all := lw_g (lw_at lw_m4 21 rfl) rfl
theorem q842 : (Jvm.Cond.methodLink "AnyKeyTown" (161 : Nat) ({ cls := "AnyKeyTown$Town", name := "goes", desc := "(I)LAnyKeyTown$Town;" } : Jvm.MethodName)) ∈ lw_all := lw_g (lw_at lw_m4 22 rfl) rfl
theorem q925 : (Jvm.Cond.privateMethod ({ cls := "AnyKeyTown", name := "tells", desc := "(I)I" } : Jvm.MethodName)) ∈ lw_tbl := lw_at lw_m4 105 rfl
theorem q926 : (Jvm.Cond.instanceMethod ({ cls := "AnyKeyTown", name := "tells", desc := "(I)I" } : Jvm.MethodName)) ∈ lw_all := lw_g (lw_at lw_m4 106 rfl) rfl
theorem q927 : (Jvm.Cond.code ({ cls := "AnyKeyTown", name := "tells", desc := "(I)I" } : Jvm.MethodName) prog_1_method_7_code (2 : Nat) (Option.some Jvm.ClassFile.FieldType.int)) ∈ lw_all := lw_g (lw_at lw_m4 107 rfl) rfl
theorem q928 : (Jvm.Cond.methodLink "AnyKeyTown" (36 : Nat) ({ cls := "AnyKeyTown$Text", name := "tells", desc := "(ILAnyKeyTown$Asked;)I" } : Jvm.MethodName)) ∈ lw_all := lw_g (lw_at lw_m4 108 rfl) rfl
theorem q940 : (Jvm.Cond.methodLink "AnyKeyTown" (42 : Nat) ({ cls := "AnyKeyTown", name := "held", desc := "(II)I" } : Jvm.MethodName)) ∈ lw_all := lw_g (lw_at lw_m4 120 rfl) rfl
theorem q941 : (Jvm.Cond.static ({ cls := "AnyKeyTown", name := "held", desc := "(II)I" } : Jvm.MethodName)) ∈ lw_all := lw_g (lw_at lw_m4 121 rfl) rfl
theorem q942 : (Jvm.Cond.code ({ cls := "AnyKeyTown", name := "held", desc := "(II)I" } : Jvm.MethodName) prog_1_method_4_code (2 : Nat) (Option.some Jvm.ClassFile.FieldType.int)) ∈ lw_all := lw_g (lw_at lw_m4 122 rfl) rfl
theorem q943 : (Jvm.Cond.methodLink "AnyKeyTown" (1 : Nat) ({ cls := "java/lang/Math", name := "min", desc := "(II)I" } : Jvm.MethodName)) ∈ lw_all := lw_g (lw_at lw_m4 123 rfl) rfl
theorem q944 : (Jvm.Cond.methodLink "AnyKeyTown" (7 : Nat) ({ cls := "java/lang/Math", name := "max", desc := "(II)I" } : Jvm.MethodName)) ∈ lw_all := lw_g (lw_at lw_m4 124 rfl) rfl
theorem q951 : (Jvm.Cond.instanceMethod ({ cls := "AnyKeyTown", name := "tried", desc := "(II)I" } : Jvm.MethodName)) ∈ lw_all := lw_g (lw_at lw_m4 131 rfl) rfl
theorem q952 : (Jvm.Cond.selects "AnyKeyTown" ({ cls := "AnyKeyTown", name := "tried", desc := "(II)I" } : Jvm.MethodName) ({ cls := "AnyKeyTown", name := "tried", desc := "(II)I" } : Jvm.MethodName)) ∈ lw_all := lw_g (lw_at lw_m4 132 rfl) rfl
theorem q953 : (Jvm.Cond.code ({ cls := "AnyKeyTown", name := "tried", desc := "(II)I" } : Jvm.MethodName) prog_1_method_15_code (3 : Nat) (Option.some Jvm.ClassFile.FieldType.int)) ∈ lw_all := lw_g (lw_at lw_m4 133 rfl) rfl
theorem q954 : (Jvm.Cond.methodLink "AnyKeyTown" (168 : Nat) ({ cls := "AnyKeyTown$Roll", name := "isTold", desc := "(I)Z" } : Jvm.MethodName)) ∈ lw_all := lw_g (lw_at lw_m4 134 rfl) rfl
theorem q955 : (Jvm.Cond.methodLink "AnyKeyTown" (172 : Nat) ({ cls := "AnyKeyTown$Town", name := "takes", desc := "(LAnyKeyTown$Town;)LAnyKeyTown$Town;" } : Jvm.MethodName)) ∈ lw_all := lw_g (lw_at lw_m4 135 rfl) rfl
theorem q959 : (Jvm.Cond.methodLink "AnyKeyTown" (178 : Nat) ({ cls := "AnyKeyTown$Town", name := "nightsOfAll", desc := "()I" } : Jvm.MethodName)) ∈ lw_all := lw_g (lw_at lw_m4 139 rfl) rfl
theorem q963 : (Jvm.Cond.methodLink "AnyKeyTown" (184 : Nat) ({ cls := "AnyKeyTown$Town", name := "favoursOf", desc := "(IZ)I" } : Jvm.MethodName)) ∈ lw_all := lw_g (lw_at lw_m4 143 rfl) rfl
theorem q968 : (Jvm.Cond.instanceMethod ({ cls := "AnyKeyTown", name := "personIs", desc := "(II)I" } : Jvm.MethodName)) ∈ lw_all := lw_g (lw_at lw_m4 148 rfl) rfl
theorem q969 : (Jvm.Cond.selects "AnyKeyTown" ({ cls := "AnyKeyTown", name := "personIs", desc := "(II)I" } : Jvm.MethodName) ({ cls := "AnyKeyTown", name := "personIs", desc := "(II)I" } : Jvm.MethodName)) ∈ lw_all := lw_g (lw_at lw_m4 149 rfl) rfl
theorem q970 : (Jvm.Cond.code ({ cls := "AnyKeyTown", name := "personIs", desc := "(II)I" } : Jvm.MethodName) prog_1_method_16_code (3 : Nat) (Option.some Jvm.ClassFile.FieldType.int)) ∈ lw_all := lw_g (lw_at lw_m4 150 rfl) rfl
theorem q971 : (Jvm.Cond.methodLink "AnyKeyTown" (191 : Nat) ({ cls := "AnyKeyTown", name := "has", desc := "(II)Z" } : Jvm.MethodName)) ∈ lw_all := lw_g (lw_at lw_m4 151 rfl) rfl
theorem q973 : (Jvm.Cond.instanceMethod ({ cls := "AnyKeyTown", name := "favours", desc := "(II)I" } : Jvm.MethodName)) ∈ lw_all := lw_g (lw_at lw_m4 153 rfl) rfl
theorem q974 : (Jvm.Cond.selects "AnyKeyTown" ({ cls := "AnyKeyTown", name := "favours", desc := "(II)I" } : Jvm.MethodName) ({ cls := "AnyKeyTown", name := "favours", desc := "(II)I" } : Jvm.MethodName)) ∈ lw_all := lw_g (lw_at lw_m4 154 rfl) rfl
theorem q975 : (Jvm.Cond.code ({ cls := "AnyKeyTown", name := "favours", desc := "(II)I" } : Jvm.MethodName) prog_1_method_17_code (3 : Nat) (Option.some Jvm.ClassFile.FieldType.int)) ∈ lw_all := lw_g (lw_at lw_m4 155 rfl) rfl
theorem q977 : (Jvm.Cond.instanceMethod ({ cls := "AnyKeyTown", name := "stayOut", desc := "(I)I" } : Jvm.MethodName)) ∈ lw_all := lw_g (lw_at lw_m4 157 rfl) rfl
theorem q978 : (Jvm.Cond.selects "AnyKeyTown" ({ cls := "AnyKeyTown", name := "stayOut", desc := "(I)I" } : Jvm.MethodName) ({ cls := "AnyKeyTown", name := "stayOut", desc := "(I)I" } : Jvm.MethodName)) ∈ lw_all := lw_g (lw_at lw_m4 158 rfl) rfl
theorem q979 : (Jvm.Cond.code ({ cls := "AnyKeyTown", name := "stayOut", desc := "(I)I" } : Jvm.MethodName) prog_1_method_20_code (2 : Nat) (Option.some Jvm.ClassFile.FieldType.int)) ∈ lw_all := lw_g (lw_at lw_m4 159 rfl) rfl
theorem q980 : (Jvm.Cond.methodLink "AnyKeyTown" (210 : Nat) ({ cls := "AnyKeyTown", name := "outOf", desc := "(LAnyKeyTown$Roll;)I" } : Jvm.MethodName)) ∈ lw_all := lw_g (lw_at lw_m4 160 rfl) rfl
theorem q981 : (Jvm.Cond.static ({ cls := "AnyKeyTown", name := "outOf", desc := "(LAnyKeyTown$Roll;)I" } : Jvm.MethodName)) ∈ lw_all := lw_g (lw_at lw_m4 161 rfl) rfl
theorem q982 : (Jvm.Cond.code ({ cls := "AnyKeyTown", name := "outOf", desc := "(LAnyKeyTown$Roll;)I" } : Jvm.MethodName) prog_1_method_19_code (4 : Nat) (Option.some Jvm.ClassFile.FieldType.int)) ∈ lw_all := lw_g (lw_at lw_m4 162 rfl) rfl
theorem q983 : (Jvm.Cond.methodLink "AnyKeyTown" (203 : Nat) ({ cls := "AnyKeyTown", name := "groupOf", desc := "(LAnyKeyTown$Roll;I)I" } : Jvm.MethodName)) ∈ lw_all := lw_g (lw_at lw_m4 163 rfl) rfl
theorem q984 : (Jvm.Cond.static ({ cls := "AnyKeyTown", name := "groupOf", desc := "(LAnyKeyTown$Roll;I)I" } : Jvm.MethodName)) ∈ lw_all := lw_g (lw_at lw_m4 164 rfl) rfl
theorem q985 : (Jvm.Cond.code ({ cls := "AnyKeyTown", name := "groupOf", desc := "(LAnyKeyTown$Roll;I)I" } : Jvm.MethodName) prog_1_method_18_code (5 : Nat) (Option.some Jvm.ClassFile.FieldType.int)) ∈ lw_all := lw_g (lw_at lw_m4 165 rfl) rfl
theorem q986 : (Jvm.Cond.methodLink "AnyKeyTown" (200 : Nat) ({ cls := "AnyKeyTown$Roll", name := "friends", desc := "(I)I" } : Jvm.MethodName)) ∈ lw_all := lw_g (lw_at lw_m4 166 rfl) rfl
theorem q987 : (Jvm.Cond.methodLink "AnyKeyTown" (207 : Nat) ({ cls := "AnyKeyTown", name := "lowest", desc := "(I)I" } : Jvm.MethodName)) ∈ lw_all := lw_g (lw_at lw_m4 167 rfl) rfl
theorem q988 : (Jvm.Cond.static ({ cls := "AnyKeyTown", name := "lowest", desc := "(I)I" } : Jvm.MethodName)) ∈ lw_all := lw_g (lw_at lw_m4 168 rfl) rfl
theorem q989 : (Jvm.Cond.code ({ cls := "AnyKeyTown", name := "lowest", desc := "(I)I" } : Jvm.MethodName) prog_1_method_5_code (1 : Nat) (Option.some Jvm.ClassFile.FieldType.int)) ∈ lw_all := lw_g (lw_at lw_m4 169 rfl) rfl
theorem q990 : (Jvm.Cond.methodLink "AnyKeyTown" (10 : Nat) ({ cls := "java/lang/Integer", name := "numberOfTrailingZeros", desc := "(I)I" } : Jvm.MethodName)) ∈ lw_all := lw_g (lw_at lw_m4 170 rfl) rfl
theorem q994 : (Jvm.Cond.methodLink "AnyKeyTown" (214 : Nat) ({ cls := "java/lang/Integer", name := "bitCount", desc := "(I)I" } : Jvm.MethodName)) ∈ lw_all := lw_g (lw_at lw_m4 174 rfl) rfl
theorem q996 : (Jvm.Cond.instanceMethod ({ cls := "AnyKeyTown", name := "inOrder", desc := "(II)I" } : Jvm.MethodName)) ∈ lw_all := lw_g (lw_at lw_m4 176 rfl) rfl
theorem q997 : (Jvm.Cond.selects "AnyKeyTown" ({ cls := "AnyKeyTown", name := "inOrder", desc := "(II)I" } : Jvm.MethodName) ({ cls := "AnyKeyTown", name := "inOrder", desc := "(II)I" } : Jvm.MethodName)) ∈ lw_all := lw_g (lw_at lw_m4 177 rfl) rfl
theorem q998 : (Jvm.Cond.code ({ cls := "AnyKeyTown", name := "inOrder", desc := "(II)I" } : Jvm.MethodName) prog_1_method_22_code (7 : Nat) (Option.some Jvm.ClassFile.FieldType.int)) ∈ lw_all := lw_g (lw_at lw_m4 178 rfl) rfl
theorem q999 : (Jvm.Cond.methodLink "AnyKeyTown" (217 : Nat) ({ cls := "AnyKeyTown", name := "laysOrders", desc := "(I)V" } : Jvm.MethodName)) ∈ lw_all := lw_g (lw_at lw_m4 179 rfl) rfl
theorem q1000 : (Jvm.Cond.privateMethod ({ cls := "AnyKeyTown", name := "laysOrders", desc := "(I)V" } : Jvm.MethodName)) ∈ lw_tbl := lw_at lw_m4 180 rfl
theorem q1001 : (Jvm.Cond.instanceMethod ({ cls := "AnyKeyTown", name := "laysOrders", desc := "(I)V" } : Jvm.MethodName)) ∈ lw_all := lw_g (lw_at lw_m4 181 rfl) rfl
theorem q1002 : (Jvm.Cond.code ({ cls := "AnyKeyTown", name := "laysOrders", desc := "(I)V" } : Jvm.MethodName) prog_1_method_21_code (4 : Nat) (Option.none : Option Jvm.ClassFile.FieldType)) ∈ lw_all := lw_g (lw_at lw_m4 182 rfl) rfl
theorem q1004 : (Jvm.Cond.instanceMethod ({ cls := "AnyKeyTown", name := "ways", desc := "(I)J" } : Jvm.MethodName)) ∈ lw_all := lw_g (lw_at lw_m4 184 rfl) rfl
theorem q1005 : (Jvm.Cond.selects "AnyKeyTown" ({ cls := "AnyKeyTown", name := "ways", desc := "(I)J" } : Jvm.MethodName) ({ cls := "AnyKeyTown", name := "ways", desc := "(I)J" } : Jvm.MethodName)) ∈ lw_all := lw_g (lw_at lw_m4 185 rfl) rfl
theorem q1006 : (Jvm.Cond.code ({ cls := "AnyKeyTown", name := "ways", desc := "(I)J" } : Jvm.MethodName) prog_1_method_23_code (2 : Nat) (Option.some Jvm.ClassFile.FieldType.long)) ∈ lw_all := lw_g (lw_at lw_m4 186 rfl) rfl
theorem q1007 : (Jvm.Cond.methodLink "AnyKeyTown" (220 : Nat) ({ cls := "AnyKeyTown", name := "areTold", desc := "(I)Z" } : Jvm.MethodName)) ∈ lw_all := lw_g (lw_at lw_m4 187 rfl) rfl
theorem q1008 : (Jvm.Cond.privateMethod ({ cls := "AnyKeyTown", name := "areTold", desc := "(I)Z" } : Jvm.MethodName)) ∈ lw_tbl := lw_at lw_m4 188 rfl
theorem q1009 : (Jvm.Cond.instanceMethod ({ cls := "AnyKeyTown", name := "areTold", desc := "(I)Z" } : Jvm.MethodName)) ∈ lw_all := lw_g (lw_at lw_m4 189 rfl) rfl
theorem q1010 : (Jvm.Cond.code ({ cls := "AnyKeyTown", name := "areTold", desc := "(I)Z" } : Jvm.MethodName) prog_1_method_6_code (2 : Nat) (Option.some Jvm.ClassFile.FieldType.boolean)) ∈ lw_all := lw_g (lw_at lw_m4 190 rfl) rfl
theorem q1011 : (Jvm.Cond.constantLong "AnyKeyTown" (223 : Nat) (-1 : Int64)) ∈ lw_all := lw_g (lw_at lw_m4 191 rfl) rfl
theorem q1013 : (Jvm.Cond.instanceMethod ({ cls := "AnyKeyTown", name := "keepsOut", desc := "(I)I" } : Jvm.MethodName)) ∈ lw_all := lw_g (lw_at lw_m4 193 rfl) rfl
theorem q1014 : (Jvm.Cond.selects "AnyKeyTown" ({ cls := "AnyKeyTown", name := "keepsOut", desc := "(I)I" } : Jvm.MethodName) ({ cls := "AnyKeyTown", name := "keepsOut", desc := "(I)I" } : Jvm.MethodName)) ∈ lw_all := lw_g (lw_at lw_m4 194 rfl) rfl
theorem q1015 : (Jvm.Cond.code ({ cls := "AnyKeyTown", name := "keepsOut", desc := "(I)I" } : Jvm.MethodName) prog_1_method_24_code (7 : Nat) (Option.some Jvm.ClassFile.FieldType.int)) ∈ lw_all := lw_g (lw_at lw_m4 195 rfl) rfl
theorem q1016 : (Jvm.Cond.methodLink "AnyKeyTown" (225 : Nat) ({ cls := "AnyKeyTown$Roll", name := "parts", desc := "(IIZ)V" } : Jvm.MethodName)) ∈ lw_all := lw_g (lw_at lw_m4 196 rfl) rfl
theorem q1018 : (Jvm.Cond.instanceMethod ({ cls := "AnyKeyTown", name := "chain", desc := "(II)I" } : Jvm.MethodName)) ∈ lw_all := lw_g (lw_at lw_m4 198 rfl) rfl
theorem q1019 : (Jvm.Cond.selects "AnyKeyTown" ({ cls := "AnyKeyTown", name := "chain", desc := "(II)I" } : Jvm.MethodName) ({ cls := "AnyKeyTown", name := "chain", desc := "(II)I" } : Jvm.MethodName)) ∈ lw_all := lw_g (lw_at lw_m4 199 rfl) rfl
theorem q1020 : (Jvm.Cond.code ({ cls := "AnyKeyTown", name := "chain", desc := "(II)I" } : Jvm.MethodName) prog_1_method_25_code (7 : Nat) (Option.some Jvm.ClassFile.FieldType.int)) ∈ lw_all := lw_g (lw_at lw_m4 200 rfl) rfl
theorem q1022 : (Jvm.Cond.instanceMethod ({ cls := "AnyKeyTown", name := "party", desc := "(I)I" } : Jvm.MethodName)) ∈ lw_all := lw_g (lw_at lw_m4 202 rfl) rfl
theorem q1023 : (Jvm.Cond.selects "AnyKeyTown" ({ cls := "AnyKeyTown", name := "party", desc := "(I)I" } : Jvm.MethodName) ({ cls := "AnyKeyTown", name := "party", desc := "(I)I" } : Jvm.MethodName)) ∈ lw_all := lw_g (lw_at lw_m4 203 rfl) rfl
theorem q1024 : (Jvm.Cond.code ({ cls := "AnyKeyTown", name := "party", desc := "(I)I" } : Jvm.MethodName) prog_1_method_27_code (4 : Nat) (Option.some Jvm.ClassFile.FieldType.int)) ∈ lw_all := lw_g (lw_at lw_m4 204 rfl) rfl
theorem q1025 : (Jvm.Cond.methodLink "AnyKeyTown" (229 : Nat) ({ cls := "AnyKeyTown", name := "isParty", desc := "(I)Z" } : Jvm.MethodName)) ∈ lw_all := lw_g (lw_at lw_m4 205 rfl) rfl
theorem q1026 : (Jvm.Cond.privateMethod ({ cls := "AnyKeyTown", name := "isParty", desc := "(I)Z" } : Jvm.MethodName)) ∈ lw_tbl := lw_at lw_m4 206 rfl
theorem q1027 : (Jvm.Cond.instanceMethod ({ cls := "AnyKeyTown", name := "isParty", desc := "(I)Z" } : Jvm.MethodName)) ∈ lw_all := lw_g (lw_at lw_m4 207 rfl) rfl
theorem q1028 : (Jvm.Cond.code ({ cls := "AnyKeyTown", name := "isParty", desc := "(I)Z" } : Jvm.MethodName) prog_1_method_26_code (3 : Nat) (Option.some Jvm.ClassFile.FieldType.boolean)) ∈ lw_all := lw_g (lw_at lw_m4 208 rfl) rfl
theorem q1030 : (Jvm.Cond.instanceMethod ({ cls := "AnyKeyTown", name := "parties", desc := "(I)I" } : Jvm.MethodName)) ∈ lw_all := lw_g (lw_at lw_m4 210 rfl) rfl
theorem q1031 : (Jvm.Cond.selects "AnyKeyTown" ({ cls := "AnyKeyTown", name := "parties", desc := "(I)I" } : Jvm.MethodName) ({ cls := "AnyKeyTown", name := "parties", desc := "(I)I" } : Jvm.MethodName)) ∈ lw_all := lw_g (lw_at lw_m4 211 rfl) rfl
theorem q1032 : (Jvm.Cond.code ({ cls := "AnyKeyTown", name := "parties", desc := "(I)I" } : Jvm.MethodName) prog_1_method_29_code (3 : Nat) (Option.some Jvm.ClassFile.FieldType.int)) ∈ lw_all := lw_g (lw_at lw_m4 212 rfl) rfl
theorem q1033 : (Jvm.Cond.methodLink "AnyKeyTown" (232 : Nat) ({ cls := "AnyKeyTown", name := "canParty", desc := "(III)Z" } : Jvm.MethodName)) ∈ lw_all := lw_g (lw_at lw_m4 213 rfl) rfl
theorem q1034 : (Jvm.Cond.privateMethod ({ cls := "AnyKeyTown", name := "canParty", desc := "(III)Z" } : Jvm.MethodName)) ∈ lw_tbl := lw_at lw_m4 214 rfl
theorem q1035 : (Jvm.Cond.instanceMethod ({ cls := "AnyKeyTown", name := "canParty", desc := "(III)Z" } : Jvm.MethodName)) ∈ lw_all := lw_g (lw_at lw_m4 215 rfl) rfl
theorem q1036 : (Jvm.Cond.code ({ cls := "AnyKeyTown", name := "canParty", desc := "(III)Z" } : Jvm.MethodName) prog_1_method_28_code (7 : Nat) (Option.some Jvm.ClassFile.FieldType.boolean)) ∈ lw_all := lw_g (lw_at lw_m4 216 rfl) rfl
theorem q1038 : (Jvm.Cond.instanceMethod ({ cls := "AnyKeyTown", name := "mended", desc := "(I)I" } : Jvm.MethodName)) ∈ lw_all := lw_g (lw_at lw_m4 218 rfl) rfl
theorem q1039 : (Jvm.Cond.selects "AnyKeyTown" ({ cls := "AnyKeyTown", name := "mended", desc := "(I)I" } : Jvm.MethodName) ({ cls := "AnyKeyTown", name := "mended", desc := "(I)I" } : Jvm.MethodName)) ∈ lw_all := lw_g (lw_at lw_m4 219 rfl) rfl
theorem q1040 : (Jvm.Cond.code ({ cls := "AnyKeyTown", name := "mended", desc := "(I)I" } : Jvm.MethodName) prog_1_method_31_code (4 : Nat) (Option.some Jvm.ClassFile.FieldType.int)) ∈ lw_all := lw_g (lw_at lw_m4 220 rfl) rfl
theorem q1041 : (Jvm.Cond.methodLink "AnyKeyTown" (235 : Nat) ({ cls := "AnyKeyTown", name := "groups", desc := "()I" } : Jvm.MethodName)) ∈ lw_all := lw_g (lw_at lw_m4 221 rfl) rfl
theorem q1042 : (Jvm.Cond.privateMethod ({ cls := "AnyKeyTown", name := "groups", desc := "()I" } : Jvm.MethodName)) ∈ lw_tbl := lw_at lw_m4 222 rfl
theorem q1043 : (Jvm.Cond.instanceMethod ({ cls := "AnyKeyTown", name := "groups", desc := "()I" } : Jvm.MethodName)) ∈ lw_all := lw_g (lw_at lw_m4 223 rfl) rfl
theorem q1044 : (Jvm.Cond.code ({ cls := "AnyKeyTown", name := "groups", desc := "()I" } : Jvm.MethodName) prog_1_method_30_code (3 : Nat) (Option.some Jvm.ClassFile.FieldType.int)) ∈ lw_all := lw_g (lw_at lw_m4 224 rfl) rfl
theorem q1046 : (Jvm.Cond.instanceMethod ({ cls := "AnyKeyTown", name := "longest", desc := "(I)I" } : Jvm.MethodName)) ∈ lw_all := lw_g (lw_at lw_m4 226 rfl) rfl
theorem q1047 : (Jvm.Cond.selects "AnyKeyTown" ({ cls := "AnyKeyTown", name := "longest", desc := "(I)I" } : Jvm.MethodName) ({ cls := "AnyKeyTown", name := "longest", desc := "(I)I" } : Jvm.MethodName)) ∈ lw_all := lw_g (lw_at lw_m4 227 rfl) rfl
theorem q1048 : (Jvm.Cond.code ({ cls := "AnyKeyTown", name := "longest", desc := "(I)I" } : Jvm.MethodName) prog_1_method_32_code (5 : Nat) (Option.some Jvm.ClassFile.FieldType.int)) ∈ lw_all := lw_g (lw_at lw_m4 228 rfl) rfl
theorem q1050 : (Jvm.Cond.instanceMethod ({ cls := "AnyKeyTown", name := "luckless", desc := "(I)I" } : Jvm.MethodName)) ∈ lw_all := lw_g (lw_at lw_m4 230 rfl) rfl
theorem q1051 : (Jvm.Cond.selects "AnyKeyTown" ({ cls := "AnyKeyTown", name := "luckless", desc := "(I)I" } : Jvm.MethodName) ({ cls := "AnyKeyTown", name := "luckless", desc := "(I)I" } : Jvm.MethodName)) ∈ lw_all := lw_g (lw_at lw_m4 231 rfl) rfl
theorem q1052 : (Jvm.Cond.code ({ cls := "AnyKeyTown", name := "luckless", desc := "(I)I" } : Jvm.MethodName) prog_1_method_33_code (6 : Nat) (Option.some Jvm.ClassFile.FieldType.int)) ∈ lw_all := lw_g (lw_at lw_m4 232 rfl) rfl
theorem q1054 : (Jvm.Cond.instanceMethod ({ cls := "AnyKeyTown", name := "meeting", desc := "(I)I" } : Jvm.MethodName)) ∈ lw_all := lw_g (lw_at lw_m4 234 rfl) rfl
theorem q1055 : (Jvm.Cond.selects "AnyKeyTown" ({ cls := "AnyKeyTown", name := "meeting", desc := "(I)I" } : Jvm.MethodName) ({ cls := "AnyKeyTown", name := "meeting", desc := "(I)I" } : Jvm.MethodName)) ∈ lw_all := lw_g (lw_at lw_m4 235 rfl) rfl
theorem q1056 : (Jvm.Cond.code ({ cls := "AnyKeyTown", name := "meeting", desc := "(I)I" } : Jvm.MethodName) prog_1_method_35_code (4 : Nat) (Option.some Jvm.ClassFile.FieldType.int)) ∈ lw_all := lw_g (lw_at lw_m4 236 rfl) rfl
theorem q1057 : (Jvm.Cond.methodLink "AnyKeyTown" (241 : Nat) ({ cls := "AnyKeyTown", name := "stepsTo", desc := "(I)I" } : Jvm.MethodName)) ∈ lw_all := lw_g (lw_at lw_m4 237 rfl) rfl
theorem q1058 : (Jvm.Cond.privateMethod ({ cls := "AnyKeyTown", name := "stepsTo", desc := "(I)I" } : Jvm.MethodName)) ∈ lw_tbl := lw_at lw_m4 238 rfl
theorem q1059 : (Jvm.Cond.instanceMethod ({ cls := "AnyKeyTown", name := "stepsTo", desc := "(I)I" } : Jvm.MethodName)) ∈ lw_all := lw_g (lw_at lw_m4 239 rfl) rfl
theorem q1060 : (Jvm.Cond.code ({ cls := "AnyKeyTown", name := "stepsTo", desc := "(I)I" } : Jvm.MethodName) prog_1_method_34_code (4 : Nat) (Option.some Jvm.ClassFile.FieldType.int)) ∈ lw_all := lw_g (lw_at lw_m5 0 rfl) rfl
theorem q1061 : (Jvm.Cond.methodLink "AnyKeyTown" (238 : Nat) ({ cls := "java/lang/Math", name := "abs", desc := "(I)I" } : Jvm.MethodName)) ∈ lw_all := lw_g (lw_at lw_m5 1 rfl) rfl
theorem q1063 : (Jvm.Cond.instanceMethod ({ cls := "AnyKeyTown", name := "stretch", desc := "(I)I" } : Jvm.MethodName)) ∈ lw_all := lw_g (lw_at lw_m5 3 rfl) rfl
theorem q1064 : (Jvm.Cond.selects "AnyKeyTown" ({ cls := "AnyKeyTown", name := "stretch", desc := "(I)I" } : Jvm.MethodName) ({ cls := "AnyKeyTown", name := "stretch", desc := "(I)I" } : Jvm.MethodName)) ∈ lw_all := lw_g (lw_at lw_m5 4 rfl) rfl
theorem q1065 : (Jvm.Cond.code ({ cls := "AnyKeyTown", name := "stretch", desc := "(I)I" } : Jvm.MethodName) prog_1_method_36_code (6 : Nat) (Option.some Jvm.ClassFile.FieldType.int)) ∈ lw_all := lw_g (lw_at lw_m5 5 rfl) rfl
theorem q1066 : (Jvm.Cond.methodLink "AnyKeyTown" (244 : Nat) ({ cls := "AnyKeyTown", name := "between", desc := "(II)I" } : Jvm.MethodName)) ∈ lw_all := lw_g (lw_at lw_m5 6 rfl) rfl
theorem q1067 : (Jvm.Cond.instanceMethod ({ cls := "AnyKeyTown", name := "between", desc := "(II)I" } : Jvm.MethodName)) ∈ lw_all := lw_g (lw_at lw_m5 7 rfl) rfl
theorem q1068 : (Jvm.Cond.selects "AnyKeyTown" ({ cls := "AnyKeyTown", name := "between", desc := "(II)I" } : Jvm.MethodName) ({ cls := "AnyKeyTown", name := "between", desc := "(II)I" } : Jvm.MethodName)) ∈ lw_all := lw_g (lw_at lw_m5 8 rfl) rfl
theorem q1069 : (Jvm.Cond.code ({ cls := "AnyKeyTown", name := "between", desc := "(II)I" } : Jvm.MethodName) prog_1_method_53_code (5 : Nat) (Option.some Jvm.ClassFile.FieldType.int)) ∈ lw_all := lw_g (lw_at lw_m5 9 rfl) rfl
theorem q1071 : (Jvm.Cond.instanceMethod ({ cls := "AnyKeyTown", name := "inDebt", desc := "(I)I" } : Jvm.MethodName)) ∈ lw_all := lw_g (lw_at lw_m5 11 rfl) rfl
theorem q1072 : (Jvm.Cond.selects "AnyKeyTown" ({ cls := "AnyKeyTown", name := "inDebt", desc := "(I)I" } : Jvm.MethodName) ({ cls := "AnyKeyTown", name := "inDebt", desc := "(I)I" } : Jvm.MethodName)) ∈ lw_all := lw_g (lw_at lw_m5 12 rfl) rfl
theorem q1073 : (Jvm.Cond.code ({ cls := "AnyKeyTown", name := "inDebt", desc := "(I)I" } : Jvm.MethodName) prog_1_method_37_code (4 : Nat) (Option.some Jvm.ClassFile.FieldType.int)) ∈ lw_all := lw_g (lw_at lw_m5 13 rfl) rfl
theorem q1075 : (Jvm.Cond.instanceMethod ({ cls := "AnyKeyTown", name := "twoStreets", desc := "()I" } : Jvm.MethodName)) ∈ lw_all := lw_g (lw_at lw_m5 15 rfl) rfl
theorem q1076 : (Jvm.Cond.selects "AnyKeyTown" ({ cls := "AnyKeyTown", name := "twoStreets", desc := "()I" } : Jvm.MethodName) ({ cls := "AnyKeyTown", name := "twoStreets", desc := "()I" } : Jvm.MethodName)) ∈ lw_all := lw_g (lw_at lw_m5 16 rfl) rfl
theorem q1077 : (Jvm.Cond.code ({ cls := "AnyKeyTown", name := "twoStreets", desc := "()I" } : Jvm.MethodName) prog_1_method_39_code (5 : Nat) (Option.some Jvm.ClassFile.FieldType.int)) ∈ lw_all := lw_g (lw_at lw_m5 17 rfl) rfl
theorem q1078 : (Jvm.Cond.methodLink "AnyKeyTown" (247 : Nat) ({ cls := "AnyKeyTown", name := "foesOf", desc := "(I)I" } : Jvm.MethodName)) ∈ lw_all := lw_g (lw_at lw_m5 18 rfl) rfl
theorem q1079 : (Jvm.Cond.privateMethod ({ cls := "AnyKeyTown", name := "foesOf", desc := "(I)I" } : Jvm.MethodName)) ∈ lw_tbl := lw_at lw_m5 19 rfl
theorem q1080 : (Jvm.Cond.instanceMethod ({ cls := "AnyKeyTown", name := "foesOf", desc := "(I)I" } : Jvm.MethodName)) ∈ lw_all := lw_g (lw_at lw_m5 20 rfl) rfl
theorem q1081 : (Jvm.Cond.code ({ cls := "AnyKeyTown", name := "foesOf", desc := "(I)I" } : Jvm.MethodName) prog_1_method_38_code (4 : Nat) (Option.some Jvm.ClassFile.FieldType.int)) ∈ lw_all := lw_g (lw_at lw_m5 21 rfl) rfl
theorem q1083 : (Jvm.Cond.instanceMethod ({ cls := "AnyKeyTown", name := "across", desc := "(II)I" } : Jvm.MethodName)) ∈ lw_all := lw_g (lw_at lw_m5 23 rfl) rfl
theorem q1084 : (Jvm.Cond.selects "AnyKeyTown" ({ cls := "AnyKeyTown", name := "across", desc := "(II)I" } : Jvm.MethodName) ({ cls := "AnyKeyTown", name := "across", desc := "(II)I" } : Jvm.MethodName)) ∈ lw_all := lw_g (lw_at lw_m5 24 rfl) rfl
theorem q1085 : (Jvm.Cond.code ({ cls := "AnyKeyTown", name := "across", desc := "(II)I" } : Jvm.MethodName) prog_1_method_41_code (8 : Nat) (Option.some Jvm.ClassFile.FieldType.int)) ∈ lw_all := lw_g (lw_at lw_m5 25 rfl) rfl
theorem q1086 : (Jvm.Cond.methodLink "AnyKeyTown" (250 : Nat) ({ cls := "AnyKeyTown", name := "pairings", desc := "([II)I" } : Jvm.MethodName)) ∈ lw_all := lw_g (lw_at lw_m5 26 rfl) rfl
theorem q1087 : (Jvm.Cond.privateMethod ({ cls := "AnyKeyTown", name := "pairings", desc := "([II)I" } : Jvm.MethodName)) ∈ lw_tbl := lw_at lw_m5 27 rfl
theorem q1088 : (Jvm.Cond.instanceMethod ({ cls := "AnyKeyTown", name := "pairings", desc := "([II)I" } : Jvm.MethodName)) ∈ lw_all := lw_g (lw_at lw_m5 28 rfl) rfl
theorem q1089 : (Jvm.Cond.code ({ cls := "AnyKeyTown", name := "pairings", desc := "([II)I" } : Jvm.MethodName) prog_1_method_40_code (6 : Nat) (Option.some Jvm.ClassFile.FieldType.int)) ∈ lw_all := lw_g (lw_at lw_m5 29 rfl) rfl
theorem q1091 : (Jvm.Cond.instanceMethod ({ cls := "AnyKeyTown", name := "madeEven", desc := "(I)I" } : Jvm.MethodName)) ∈ lw_all := lw_g (lw_at lw_m5 31 rfl) rfl
theorem q1092 : (Jvm.Cond.selects "AnyKeyTown" ({ cls := "AnyKeyTown", name := "madeEven", desc := "(I)I" } : Jvm.MethodName) ({ cls := "AnyKeyTown", name := "madeEven", desc := "(I)I" } : Jvm.MethodName)) ∈ lw_all := lw_g (lw_at lw_m5 32 rfl) rfl
theorem q1093 : (Jvm.Cond.code ({ cls := "AnyKeyTown", name := "madeEven", desc := "(I)I" } : Jvm.MethodName) prog_1_method_42_code (2 : Nat) (Option.some Jvm.ClassFile.FieldType.int)) ∈ lw_all := lw_g (lw_at lw_m5 33 rfl) rfl
theorem q1094 : (Jvm.Cond.constant "AnyKeyTown" (254 : Nat) (-1000000 : Int32)) ∈ lw_all := lw_g (lw_at lw_m5 34 rfl) rfl
theorem q1096 : (Jvm.Cond.instanceMethod ({ cls := "AnyKeyTown", name := "mostOwed", desc := "()I" } : Jvm.MethodName)) ∈ lw_all := lw_g (lw_at lw_m5 36 rfl) rfl
theorem q1097 : (Jvm.Cond.selects "AnyKeyTown" ({ cls := "AnyKeyTown", name := "mostOwed", desc := "()I" } : Jvm.MethodName) ({ cls := "AnyKeyTown", name := "mostOwed", desc := "()I" } : Jvm.MethodName)) ∈ lw_all := lw_g (lw_at lw_m5 37 rfl) rfl
theorem q1098 : (Jvm.Cond.code ({ cls := "AnyKeyTown", name := "mostOwed", desc := "()I" } : Jvm.MethodName) prog_1_method_43_code (3 : Nat) (Option.some Jvm.ClassFile.FieldType.int)) ∈ lw_all := lw_g (lw_at lw_m5 38 rfl) rfl
theorem q1099 : (Jvm.Cond.methodLink "AnyKeyTown" (255 : Nat) ({ cls := "AnyKeyTown", name := "madeEven", desc := "(I)I" } : Jvm.MethodName)) ∈ lw_all := lw_g (lw_at lw_m5 39 rfl) rfl
theorem q1101 : (Jvm.Cond.instanceMethod ({ cls := "AnyKeyTown", name := "hermit", desc := "(II)I" } : Jvm.MethodName)) ∈ lw_all := lw_g (lw_at lw_m5 41 rfl) rfl
theorem q1102 : (Jvm.Cond.selects "AnyKeyTown" ({ cls := "AnyKeyTown", name := "hermit", desc := "(II)I" } : Jvm.MethodName) ({ cls := "AnyKeyTown", name := "hermit", desc := "(II)I" } : Jvm.MethodName)) ∈ lw_all := lw_g (lw_at lw_m5 42 rfl) rfl
theorem q1103 : (Jvm.Cond.code ({ cls := "AnyKeyTown", name := "hermit", desc := "(II)I" } : Jvm.MethodName) prog_1_method_45_code (5 : Nat) (Option.some Jvm.ClassFile.FieldType.int)) ∈ lw_all := lw_g (lw_at lw_m5 43 rfl) rfl
theorem q1104 : (Jvm.Cond.methodLink "AnyKeyTown" (258 : Nat) ({ cls := "AnyKeyTown", name := "fed", desc := "(I)I" } : Jvm.MethodName)) ∈ lw_all := lw_g (lw_at lw_m5 44 rfl) rfl
theorem q1105 : (Jvm.Cond.privateMethod ({ cls := "AnyKeyTown", name := "fed", desc := "(I)I" } : Jvm.MethodName)) ∈ lw_tbl := lw_at lw_m5 45 rfl
theorem q1106 : (Jvm.Cond.instanceMethod ({ cls := "AnyKeyTown", name := "fed", desc := "(I)I" } : Jvm.MethodName)) ∈ lw_all := lw_g (lw_at lw_m5 46 rfl) rfl
theorem q1107 : (Jvm.Cond.code ({ cls := "AnyKeyTown", name := "fed", desc := "(I)I" } : Jvm.MethodName) prog_1_method_44_code (2 : Nat) (Option.some Jvm.ClassFile.FieldType.int)) ∈ lw_all := lw_g (lw_at lw_m5 47 rfl) rfl
theorem q1109 : (Jvm.Cond.instanceMethod ({ cls := "AnyKeyTown", name := "burglar", desc := "(I)I" } : Jvm.MethodName)) ∈ lw_all := lw_g (lw_at lw_m5 49 rfl) rfl
theorem q1110 : (Jvm.Cond.selects "AnyKeyTown" ({ cls := "AnyKeyTown", name := "burglar", desc := "(I)I" } : Jvm.MethodName) ({ cls := "AnyKeyTown", name := "burglar", desc := "(I)I" } : Jvm.MethodName)) ∈ lw_all := lw_g (lw_at lw_m5 50 rfl) rfl
theorem q1111 : (Jvm.Cond.code ({ cls := "AnyKeyTown", name := "burglar", desc := "(I)I" } : Jvm.MethodName) prog_1_method_46_code (4 : Nat) (Option.some Jvm.ClassFile.FieldType.int)) ∈ lw_all := lw_g (lw_at lw_m5 51 rfl) rfl
theorem q1113 : (Jvm.Cond.instanceMethod ({ cls := "AnyKeyTown", name := "calls", desc := "(II)I" } : Jvm.MethodName)) ∈ lw_all := lw_g (lw_at lw_m5 53 rfl) rfl
theorem q1114 : (Jvm.Cond.selects "AnyKeyTown" ({ cls := "AnyKeyTown", name := "calls", desc := "(II)I" } : Jvm.MethodName) ({ cls := "AnyKeyTown", name := "calls", desc := "(II)I" } : Jvm.MethodName)) ∈ lw_all := lw_g (lw_at lw_m5 54 rfl) rfl
theorem q1115 : (Jvm.Cond.code ({ cls := "AnyKeyTown", name := "calls", desc := "(II)I" } : Jvm.MethodName) prog_1_method_51_code (5 : Nat) (Option.some Jvm.ClassFile.FieldType.int)) ∈ lw_all := lw_g (lw_at lw_m5 55 rfl) rfl
theorem q1116 : (Jvm.Cond.methodLink "AnyKeyTown" (268 : Nat) ({ cls := "AnyKeyTown", name := "sorts", desc := "(I)V" } : Jvm.MethodName)) ∈ lw_all := lw_g (lw_at lw_m5 56 rfl) rfl
theorem q1117 : (Jvm.Cond.privateMethod ({ cls := "AnyKeyTown", name := "sorts", desc := "(I)V" } : Jvm.MethodName)) ∈ lw_tbl := lw_at lw_m5 57 rfl
theorem q1118 : (Jvm.Cond.instanceMethod ({ cls := "AnyKeyTown", name := "sorts", desc := "(I)V" } : Jvm.MethodName)) ∈ lw_all := lw_g (lw_at lw_m5 58 rfl) rfl
theorem q1119 : (Jvm.Cond.code ({ cls := "AnyKeyTown", name := "sorts", desc := "(I)V" } : Jvm.MethodName) prog_1_method_49_code (4 : Nat) (Option.none : Option Jvm.ClassFile.FieldType)) ∈ lw_all := lw_g (lw_at lw_m5 59 rfl) rfl
theorem q1120 : (Jvm.Cond.methodLink "AnyKeyTown" (271 : Nat) ({ cls := "AnyKeyTown", name := "laysCalls", desc := "(III)V" } : Jvm.MethodName)) ∈ lw_all := lw_g (lw_at lw_m5 60 rfl) rfl
theorem q1121 : (Jvm.Cond.privateMethod ({ cls := "AnyKeyTown", name := "laysCalls", desc := "(III)V" } : Jvm.MethodName)) ∈ lw_tbl := lw_at lw_m5 61 rfl
theorem q1122 : (Jvm.Cond.instanceMethod ({ cls := "AnyKeyTown", name := "laysCalls", desc := "(III)V" } : Jvm.MethodName)) ∈ lw_all := lw_g (lw_at lw_m5 62 rfl) rfl
theorem q1123 : (Jvm.Cond.code ({ cls := "AnyKeyTown", name := "laysCalls", desc := "(III)V" } : Jvm.MethodName) prog_1_method_50_code (4 : Nat) (Option.none : Option Jvm.ClassFile.FieldType)) ∈ lw_all := lw_g (lw_at lw_m5 63 rfl) rfl
theorem q1124 : (Jvm.Cond.methodLink "AnyKeyTown" (262 : Nat) ({ cls := "AnyKeyTown", name := "houseAt", desc := "(I)I" } : Jvm.MethodName)) ∈ lw_all := lw_g (lw_at lw_m5 64 rfl) rfl
theorem q1125 : (Jvm.Cond.privateMethod ({ cls := "AnyKeyTown", name := "houseAt", desc := "(I)I" } : Jvm.MethodName)) ∈ lw_tbl := lw_at lw_m5 65 rfl
theorem q1126 : (Jvm.Cond.instanceMethod ({ cls := "AnyKeyTown", name := "houseAt", desc := "(I)I" } : Jvm.MethodName)) ∈ lw_all := lw_g (lw_at lw_m5 66 rfl) rfl
theorem q1127 : (Jvm.Cond.code ({ cls := "AnyKeyTown", name := "houseAt", desc := "(I)I" } : Jvm.MethodName) prog_1_method_47_code (2 : Nat) (Option.some Jvm.ClassFile.FieldType.int)) ∈ lw_all := lw_g (lw_at lw_m5 67 rfl) rfl
theorem q1128 : (Jvm.Cond.methodLink "AnyKeyTown" (265 : Nat) ({ cls := "AnyKeyTown", name := "inTime", desc := "(II)I" } : Jvm.MethodName)) ∈ lw_all := lw_g (lw_at lw_m5 68 rfl) rfl
theorem q1129 : (Jvm.Cond.privateMethod ({ cls := "AnyKeyTown", name := "inTime", desc := "(II)I" } : Jvm.MethodName)) ∈ lw_tbl := lw_at lw_m5 69 rfl
theorem q1130 : (Jvm.Cond.instanceMethod ({ cls := "AnyKeyTown", name := "inTime", desc := "(II)I" } : Jvm.MethodName)) ∈ lw_all := lw_g (lw_at lw_m5 70 rfl) rfl
theorem q1131 : (Jvm.Cond.code ({ cls := "AnyKeyTown", name := "inTime", desc := "(II)I" } : Jvm.MethodName) prog_1_method_48_code (3 : Nat) (Option.some Jvm.ClassFile.FieldType.int)) ∈ lw_all := lw_g (lw_at lw_m5 71 rfl) rfl
theorem q1132 : (Jvm.Cond.constant "AnyKeyTown" (261 : Nat) (268435456 : Int32)) ∈ lw_all := lw_g (lw_at lw_m5 72 rfl) rfl
theorem q1134 : (Jvm.Cond.instanceMethod ({ cls := "AnyKeyTown", name := "changed", desc := "(II)I" } : Jvm.MethodName)) ∈ lw_all := lw_g (lw_at lw_m5 74 rfl) rfl
theorem q1135 : (Jvm.Cond.selects "AnyKeyTown" ({ cls := "AnyKeyTown", name := "changed", desc := "(II)I" } : Jvm.MethodName) ({ cls := "AnyKeyTown", name := "changed", desc := "(II)I" } : Jvm.MethodName)) ∈ lw_all := lw_g (lw_at lw_m5 75 rfl) rfl
theorem q1136 : (Jvm.Cond.code ({ cls := "AnyKeyTown", name := "changed", desc := "(II)I" } : Jvm.MethodName) prog_1_method_52_code (6 : Nat) (Option.some Jvm.ClassFile.FieldType.int)) ∈ lw_all := lw_g (lw_at lw_m5 76 rfl) rfl
theorem q1139 : (Jvm.Cond.instanceMethod ({ cls := "AnyKeyTown", name := "seed", desc := "(I)Z" } : Jvm.MethodName)) ∈ lw_all := lw_g (lw_at lw_m5 79 rfl) rfl
theorem q1140 : (Jvm.Cond.selects "AnyKeyTown" ({ cls := "AnyKeyTown", name := "seed", desc := "(I)Z" } : Jvm.MethodName) ({ cls := "AnyKeyTown", name := "seed", desc := "(I)Z" } : Jvm.MethodName)) ∈ lw_all := lw_g (lw_at lw_m5 80 rfl) rfl
theorem q1141 : (Jvm.Cond.code ({ cls := "AnyKeyTown", name := "seed", desc := "(I)Z" } : Jvm.MethodName) prog_1_method_54_code (2 : Nat) (Option.some Jvm.ClassFile.FieldType.boolean)) ∈ lw_all := lw_g (lw_at lw_m5 81 rfl) rfl
theorem q1143 : (Jvm.Cond.instanceMethod ({ cls := "AnyKeyTown", name := "keep", desc := "()I" } : Jvm.MethodName)) ∈ lw_all := lw_g (lw_at lw_m5 83 rfl) rfl
theorem q1144 : (Jvm.Cond.selects "AnyKeyTown" ({ cls := "AnyKeyTown", name := "keep", desc := "()I" } : Jvm.MethodName) ({ cls := "AnyKeyTown", name := "keep", desc := "()I" } : Jvm.MethodName)) ∈ lw_all := lw_g (lw_at lw_m5 84 rfl) rfl
theorem q1145 : (Jvm.Cond.code ({ cls := "AnyKeyTown", name := "keep", desc := "()I" } : Jvm.MethodName) prog_1_method_55_code (1 : Nat) (Option.some Jvm.ClassFile.FieldType.int)) ∈ lw_all := lw_g (lw_at lw_m5 85 rfl) rfl
theorem q1147 : (Jvm.Cond.instanceMethod ({ cls := "AnyKeyTown", name := "undo", desc := "()Z" } : Jvm.MethodName)) ∈ lw_all := lw_g (lw_at lw_m5 87 rfl) rfl
theorem q1148 : (Jvm.Cond.selects "AnyKeyTown" ({ cls := "AnyKeyTown", name := "undo", desc := "()Z" } : Jvm.MethodName) ({ cls := "AnyKeyTown", name := "undo", desc := "()Z" } : Jvm.MethodName)) ∈ lw_all := lw_g (lw_at lw_m5 88 rfl) rfl
theorem q1149 : (Jvm.Cond.code ({ cls := "AnyKeyTown", name := "undo", desc := "()Z" } : Jvm.MethodName) prog_1_method_56_code (1 : Nat) (Option.some Jvm.ClassFile.FieldType.boolean)) ∈ lw_all := lw_g (lw_at lw_m5 89 rfl) rfl
theorem q1151 : (Jvm.Cond.instanceMethod ({ cls := "AnyKeyTown", name := "check", desc := "(I)I" } : Jvm.MethodName)) ∈ lw_all := lw_g (lw_at lw_m5 91 rfl) rfl
theorem q1152 : (Jvm.Cond.selects "AnyKeyTown" ({ cls := "AnyKeyTown", name := "check", desc := "(I)I" } : Jvm.MethodName) ({ cls := "AnyKeyTown", name := "check", desc := "(I)I" } : Jvm.MethodName)) ∈ lw_all := lw_g (lw_at lw_m5 92 rfl) rfl
theorem q1153 : (Jvm.Cond.code ({ cls := "AnyKeyTown", name := "check", desc := "(I)I" } : Jvm.MethodName) prog_1_method_57_code (3 : Nat) (Option.some Jvm.ClassFile.FieldType.int)) ∈ lw_all := lw_g (lw_at lw_m5 93 rfl) rfl
theorem q1155 : (Jvm.Cond.instanceMethod ({ cls := "AnyKeyTown", name := "count", desc := "(I)I" } : Jvm.MethodName)) ∈ lw_all := lw_g (lw_at lw_m5 95 rfl) rfl
theorem q1156 : (Jvm.Cond.selects "AnyKeyTown" ({ cls := "AnyKeyTown", name := "count", desc := "(I)I" } : Jvm.MethodName) ({ cls := "AnyKeyTown", name := "count", desc := "(I)I" } : Jvm.MethodName)) ∈ lw_all := lw_g (lw_at lw_m5 96 rfl) rfl
theorem q1157 : (Jvm.Cond.code ({ cls := "AnyKeyTown", name := "count", desc := "(I)I" } : Jvm.MethodName) prog_1_method_60_code (2 : Nat) (Option.some Jvm.ClassFile.FieldType.int)) ∈ lw_all := lw_g (lw_at lw_m5 97 rfl) rfl
theorem q1158 : (Jvm.Cond.methodLink "AnyKeyTown" (282 : Nat) ({ cls := "AnyKeyTown", name := "twos", desc := "()I" } : Jvm.MethodName)) ∈ lw_all := lw_g (lw_at lw_m5 98 rfl) rfl
theorem q1159 : (Jvm.Cond.privateMethod ({ cls := "AnyKeyTown", name := "twos", desc := "()I" } : Jvm.MethodName)) ∈ lw_tbl := lw_at lw_m5 99 rfl
theorem q1160 : (Jvm.Cond.instanceMethod ({ cls := "AnyKeyTown", name := "twos", desc := "()I" } : Jvm.MethodName)) ∈ lw_all := lw_g (lw_at lw_m5 100 rfl) rfl
theorem q1161 : (Jvm.Cond.code ({ cls := "AnyKeyTown", name := "twos", desc := "()I" } : Jvm.MethodName) prog_1_method_58_code (6 : Nat) (Option.some Jvm.ClassFile.FieldType.int)) ∈ lw_all := lw_g (lw_at lw_m5 101 rfl) rfl
theorem q1162 : (Jvm.Cond.methodLink "AnyKeyTown" (285 : Nat) ({ cls := "AnyKeyTown", name := "favoursOfAll", desc := "()I" } : Jvm.MethodName)) ∈ lw_all := lw_g (lw_at lw_m5 102 rfl) rfl
theorem q1163 : (Jvm.Cond.privateMethod ({ cls := "AnyKeyTown", name := "favoursOfAll", desc := "()I" } : Jvm.MethodName)) ∈ lw_tbl := lw_at lw_m5 103 rfl
theorem q1164 : (Jvm.Cond.instanceMethod ({ cls := "AnyKeyTown", name := "favoursOfAll", desc := "()I" } : Jvm.MethodName)) ∈ lw_all := lw_g (lw_at lw_m5 104 rfl) rfl
theorem q1165 : (Jvm.Cond.code ({ cls := "AnyKeyTown", name := "favoursOfAll", desc := "()I" } : Jvm.MethodName) prog_1_method_59_code (3 : Nat) (Option.some Jvm.ClassFile.FieldType.int)) ∈ lw_all := lw_g (lw_at lw_m5 105 rfl) rfl
theorem in_X0 : ∀ w ∈ wsX00, w ∈ lw_all := lw_in wsX00 [316, 318, 320, 322, 324, 326, 328, 330, 332, 334, 336, 338, 340, 342, 344, 346, 348, 350, 352] (by decide +kernel) (by decide +kernel)
