/-! GuildCharter -/
set_option maxRecDepth 100000
def RX0 : String := "GuildCharter"
def TX0 : u_T := fun k => match k with
  | 0 => ("GuildCharter", "row", "[I", true)
  | 1 => ("GuildCharter", "ways", "[J", true)
  | 2 => ("GuildCharter", "parent", "[I", true)
  | 3 => ("GuildCharter", "words", "[I", true)
  | 4 => ("GuildCharter", "size", "[I", true)
  | 5 => ("GuildCharter", "best", "[I", true)
  | 6 => ("GuildCharter", "sums", "[I", true)
  | 7 => ("GuildCharter", "nodes", "I", false)
  | 8 => ("GuildCharter", "isSpent", "Z", false)
  | 9 => ("GuildCharter", "path", "[I", true)
  | 10 => ("GuildCharter", "tape", "[B", true)
  | 11 => ("GuildCharter", "taped", "I", false)
  | 12 => ("GuildCharter", "faultKind", "I", false)
  | 13 => ("GuildCharter", "faultPlace", "I", false)
  | 14 => ("GuildCharter", "port", "LGuildCharter$Port;", false)
  | 15 => ("GuildCharter", "time", "I", false)
  | 16 => ("GuildCharter", "now", "[I", true)
  | 17 => ("GuildCharter", "were", "[[I", true)
  | 18 => ("GuildCharter", "acts", "I", false)
  | 19 => ("GuildCharter", "undone", "I", false)
  | 20 => ("GuildCharter", "whose", "[I", true)
  | 21 => ("GuildCharter", "lies", "[I", true)
  | 22 => ("GuildCharter", "none", "[I", true)
  | 23 => ("GuildCharter", "lain", "I", false)
  | 24 => ("GuildCharter", "bribed", "I", false)
  | 25 => ("GuildCharter", "bribePlace", "I", false)
  | 26 => ("GuildCharter", "bribeWord", "I", false)
  | 27 => ("GuildCharter", "bribe", "I", false)
  | 28 => ("GuildCharter", "fewest", "[I", true)
  | 29 => ("GuildCharter", "holes", "[I", true)
  | 30 => ("GuildCharter", "less", "[I", true)
  | 31 => ("GuildCharter", "seens", "Ljava/util/ArrayList;", true)
  | 32 => ("GuildCharter", "boxes", "[[I", true)
  | _ => ("GuildCharter", "isThere", "[Z", true)
def tyX0 : Nat → FieldType := fun k => match k with
  | 0 => .array .int
  | 1 => .array .long
  | 2 => .array .int
  | 3 => .array .int
  | 4 => .array .int
  | 5 => .array .int
  | 6 => .array .int
  | 7 => .int
  | 8 => .boolean
  | 9 => .array .int
  | 10 => .array .byte
  | 11 => .int
  | 12 => .int
  | 13 => .int
  | 14 => .object "GuildCharter$Port"
  | 15 => .int
  | 16 => .array .int
  | 17 => .array (.array .int)
  | 18 => .int
  | 19 => .int
  | 20 => .array .int
  | 21 => .array .int
  | 22 => .array .int
  | 23 => .int
  | 24 => .int
  | 25 => .int
  | 26 => .int
  | 27 => .int
  | 28 => .array .int
  | 29 => .array .int
  | 30 => .array .int
  | 31 => .object "java/util/ArrayList"
  | 32 => .array (.array .int)
  | _ => .array .boolean
abbrev wsX00 : List Cond := u_ws RX0 TX0 34
set_option maxRecDepth 100000 in
theorem nmX0 : ∀ a, a < 34 → ∀ b, b < 34 → a ≠ b → (TX0 a).2.1 ≠ (TX0 b).2.1 := by decide +kernel
set_option maxRecDepth 100000 in
theorem tyX0_ok : ∀ k, k < 34 → parseFieldDescriptor (TX0 k).2.2.1 = some (tyX0 k) := by decide +kernel
abbrev cX0_init : ByteArray := prog_1_method_14_code
def yX0_init : MethodName := ⟨RX0, "<init>", "()V"⟩
def dkwX0_init_9 : List UInt8 := [162, 0, 16, 42, 180, 0, 184, 27, 2, 79, 132, 1, 1, 167, 255, 240, 177]
abbrev dktX0_init_9 : List UInt8 := dkwX0_init_9 ++ []
def dkwX0_init_8 : List UInt8 := [197, 0, 167, 2, 181, 0, 196, 42, 6, 188, 4, 181, 0, 199, 42, 182, 0, 203, 3, 60, 27, 16, 6]
abbrev dktX0_init_8 : List UInt8 := dkwX0_init_8 ++ dktX0_init_9
def dkwX0_init_7 : List UInt8 := [42, 16, 6, 188, 10, 181, 0, 187, 42, 187, 0, 42, 89, 5, 183, 0, 190, 181, 0, 193, 42, 6, 16, 13]
abbrev dktX0_init_7 : List UInt8 := dkwX0_init_7 ++ dktX0_init_8
def dkwX0_init_6 : List UInt8 := [181, 0, 178, 42, 2, 181, 0, 117, 42, 16, 8, 188, 10, 181, 0, 181, 42, 16, 6, 188, 10, 181, 0, 184]
abbrev dktX0_init_6 : List UInt8 := dkwX0_init_6 ++ dktX0_init_7
def dkwX0_init_5 : List UInt8 := [181, 0, 169, 42, 16, 6, 188, 10, 181, 0, 172, 42, 16, 6, 188, 10, 181, 0, 175, 42, 16, 6, 188, 10]
abbrev dktX0_init_5 : List UInt8 := dkwX0_init_5 ++ dktX0_init_6
def dkwX0_init_4 : List UInt8 := [183, 0, 163, 181, 0, 31, 42, 16, 13, 188, 10, 181, 0, 164, 42, 16, 40, 16, 13, 197, 0, 167, 2]
abbrev dktX0_init_4 : List UInt8 := dkwX0_init_4 ++ dktX0_init_5
def dkwX0_init_3 : List UInt8 := [188, 10, 181, 0, 108, 42, 17, 6, 64, 188, 8, 181, 0, 156, 42, 2, 181, 0, 160, 42, 187, 0, 36, 89]
abbrev dktX0_init_3 : List UInt8 := dkwX0_init_3 ++ dktX0_init_4
def dkwX0_init_2 : List UInt8 := [181, 0, 78, 42, 17, 11, 184, 188, 10, 181, 0, 129, 42, 17, 11, 184, 188, 10, 181, 0, 153, 42, 16, 6]
abbrev dktX0_init_2 : List UInt8 := dkwX0_init_2 ++ dktX0_init_3
def dkwX0_init_1 : List UInt8 := [17, 11, 184, 188, 10, 181, 0, 95, 42, 17, 11, 184, 188, 10, 181, 0, 98, 42, 17, 11, 184, 188, 10]
abbrev dktX0_init_1 : List UInt8 := dkwX0_init_1 ++ dktX0_init_2
def dkwX0_init_0 : List UInt8 := [42, 183, 0, 147, 42, 16, 6, 188, 10, 181, 0, 11, 42, 17, 1, 136, 188, 11, 181, 0, 3, 42]
abbrev dktX0_init_0 : List UInt8 := dkwX0_init_0 ++ dktX0_init_1
theorem dksX0_init_0 : cX0_init.data.toList.drop 0 = dktX0_init_0 := by decide +kernel
theorem dksX0_init_1 : cX0_init.data.toList.drop 22 = dktX0_init_1 := dk_seg dksX0_init_0 22 rfl rfl
theorem dksX0_init_2 : cX0_init.data.toList.drop 45 = dktX0_init_2 := dk_seg dksX0_init_1 23 rfl rfl
theorem dksX0_init_3 : cX0_init.data.toList.drop 69 = dktX0_init_3 := dk_seg dksX0_init_2 24 rfl rfl
theorem dksX0_init_4 : cX0_init.data.toList.drop 93 = dktX0_init_4 := dk_seg dksX0_init_3 24 rfl rfl
theorem dksX0_init_5 : cX0_init.data.toList.drop 116 = dktX0_init_5 := dk_seg dksX0_init_4 23 rfl rfl
theorem dksX0_init_6 : cX0_init.data.toList.drop 140 = dktX0_init_6 := dk_seg dksX0_init_5 24 rfl rfl
theorem dksX0_init_7 : cX0_init.data.toList.drop 164 = dktX0_init_7 := dk_seg dksX0_init_6 24 rfl rfl
theorem dksX0_init_8 : cX0_init.data.toList.drop 188 = dktX0_init_8 := dk_seg dksX0_init_7 24 rfl rfl
theorem dksX0_init_9 : cX0_init.data.toList.drop 211 = dktX0_init_9 := dk_seg dksX0_init_8 23 rfl rfl
theorem dX0_init_0 : decode cX0_init 0 = .ok (.aload_n 0, 1) := dk_42 (dk_at dksX0_init_0 0 rfl rfl)
theorem dX0_init_1 : decode cX0_init 1 = .ok (.invokespecial 147, 3) := dk_183 0 147 (dk_at dksX0_init_0 1 rfl rfl)
theorem dX0_init_4 : decode cX0_init 4 = .ok (.aload_n 0, 1) := dk_42 (dk_at dksX0_init_0 4 rfl rfl)
theorem dX0_init_5 : decode cX0_init 5 = .ok (.bipush 6, 2) := dk_16 6 (dk_at dksX0_init_0 5 rfl rfl)
theorem dX0_init_7 : decode cX0_init 7 = .ok (.newarray .int, 2) := dk_188_10 (dk_at dksX0_init_0 7 rfl rfl)
theorem dX0_init_9 : decode cX0_init 9 = .ok (.putfield 11, 3) := dk_181 0 11 (dk_at dksX0_init_0 9 rfl rfl)
theorem dX0_init_12 : decode cX0_init 12 = .ok (.aload_n 0, 1) := dk_42 (dk_at dksX0_init_0 12 rfl rfl)
theorem dX0_init_13 : decode cX0_init 13 = .ok (.sipush 392, 3) := dk_17 1 136 (dk_at dksX0_init_0 13 rfl rfl)
theorem dX0_init_16 : decode cX0_init 16 = .ok (.newarray .long, 2) := dk_188_11 (dk_at dksX0_init_0 16 rfl rfl)
theorem dX0_init_18 : decode cX0_init 18 = .ok (.putfield 3, 3) := dk_181 0 3 (dk_at dksX0_init_0 18 rfl rfl)
theorem dX0_init_21 : decode cX0_init 21 = .ok (.aload_n 0, 1) := dk_42 (dk_at dksX0_init_0 21 rfl rfl)
theorem dX0_init_22 : decode cX0_init 22 = .ok (.sipush 3000, 3) := dk_17 11 184 (dk_at dksX0_init_1 0 rfl rfl)
theorem dX0_init_25 : decode cX0_init 25 = .ok (.newarray .int, 2) := dk_188_10 (dk_at dksX0_init_1 3 rfl rfl)
theorem dX0_init_27 : decode cX0_init 27 = .ok (.putfield 95, 3) := dk_181 0 95 (dk_at dksX0_init_1 5 rfl rfl)
theorem dX0_init_30 : decode cX0_init 30 = .ok (.aload_n 0, 1) := dk_42 (dk_at dksX0_init_1 8 rfl rfl)
theorem dX0_init_31 : decode cX0_init 31 = .ok (.sipush 3000, 3) := dk_17 11 184 (dk_at dksX0_init_1 9 rfl rfl)
theorem dX0_init_34 : decode cX0_init 34 = .ok (.newarray .int, 2) := dk_188_10 (dk_at dksX0_init_1 12 rfl rfl)
theorem dX0_init_36 : decode cX0_init 36 = .ok (.putfield 98, 3) := dk_181 0 98 (dk_at dksX0_init_1 14 rfl rfl)
theorem dX0_init_39 : decode cX0_init 39 = .ok (.aload_n 0, 1) := dk_42 (dk_at dksX0_init_1 17 rfl rfl)
theorem dX0_init_40 : decode cX0_init 40 = .ok (.sipush 3000, 3) := dk_17 11 184 (dk_at dksX0_init_1 18 rfl rfl)
theorem dX0_init_43 : decode cX0_init 43 = .ok (.newarray .int, 2) := dk_188_10 (dk_at dksX0_init_1 21 rfl rfl)
theorem dX0_init_45 : decode cX0_init 45 = .ok (.putfield 78, 3) := dk_181 0 78 (dk_at dksX0_init_2 0 rfl rfl)
theorem dX0_init_48 : decode cX0_init 48 = .ok (.aload_n 0, 1) := dk_42 (dk_at dksX0_init_2 3 rfl rfl)
theorem dX0_init_49 : decode cX0_init 49 = .ok (.sipush 3000, 3) := dk_17 11 184 (dk_at dksX0_init_2 4 rfl rfl)
theorem dX0_init_52 : decode cX0_init 52 = .ok (.newarray .int, 2) := dk_188_10 (dk_at dksX0_init_2 7 rfl rfl)
theorem dX0_init_54 : decode cX0_init 54 = .ok (.putfield 129, 3) := dk_181 0 129 (dk_at dksX0_init_2 9 rfl rfl)
theorem dX0_init_57 : decode cX0_init 57 = .ok (.aload_n 0, 1) := dk_42 (dk_at dksX0_init_2 12 rfl rfl)
theorem dX0_init_58 : decode cX0_init 58 = .ok (.sipush 3000, 3) := dk_17 11 184 (dk_at dksX0_init_2 13 rfl rfl)
theorem dX0_init_61 : decode cX0_init 61 = .ok (.newarray .int, 2) := dk_188_10 (dk_at dksX0_init_2 16 rfl rfl)
theorem dX0_init_63 : decode cX0_init 63 = .ok (.putfield 153, 3) := dk_181 0 153 (dk_at dksX0_init_2 18 rfl rfl)
theorem dX0_init_66 : decode cX0_init 66 = .ok (.aload_n 0, 1) := dk_42 (dk_at dksX0_init_2 21 rfl rfl)
theorem dX0_init_67 : decode cX0_init 67 = .ok (.bipush 6, 2) := dk_16 6 (dk_at dksX0_init_2 22 rfl rfl)
theorem dX0_init_69 : decode cX0_init 69 = .ok (.newarray .int, 2) := dk_188_10 (dk_at dksX0_init_3 0 rfl rfl)
theorem dX0_init_71 : decode cX0_init 71 = .ok (.putfield 108, 3) := dk_181 0 108 (dk_at dksX0_init_3 2 rfl rfl)
theorem dX0_init_74 : decode cX0_init 74 = .ok (.aload_n 0, 1) := dk_42 (dk_at dksX0_init_3 5 rfl rfl)
theorem dX0_init_75 : decode cX0_init 75 = .ok (.sipush 1600, 3) := dk_17 6 64 (dk_at dksX0_init_3 6 rfl rfl)
theorem dX0_init_78 : decode cX0_init 78 = .ok (.newarray .byte, 2) := dk_188_8 (dk_at dksX0_init_3 9 rfl rfl)
theorem dX0_init_80 : decode cX0_init 80 = .ok (.putfield 156, 3) := dk_181 0 156 (dk_at dksX0_init_3 11 rfl rfl)
theorem dX0_init_83 : decode cX0_init 83 = .ok (.aload_n 0, 1) := dk_42 (dk_at dksX0_init_3 14 rfl rfl)
theorem dX0_init_84 : decode cX0_init 84 = .ok (.iconst (-1), 1) := dk_2 (dk_at dksX0_init_3 15 rfl rfl)
theorem dX0_init_85 : decode cX0_init 85 = .ok (.putfield 160, 3) := dk_181 0 160 (dk_at dksX0_init_3 16 rfl rfl)
theorem dX0_init_88 : decode cX0_init 88 = .ok (.aload_n 0, 1) := dk_42 (dk_at dksX0_init_3 19 rfl rfl)
theorem dX0_init_89 : decode cX0_init 89 = .ok (.new 36, 3) := dk_187 0 36 (dk_at dksX0_init_3 20 rfl rfl)
theorem dX0_init_92 : decode cX0_init 92 = .ok (.dup, 1) := dk_89 (dk_at dksX0_init_3 23 rfl rfl)
theorem dX0_init_93 : decode cX0_init 93 = .ok (.invokespecial 163, 3) := dk_183 0 163 (dk_at dksX0_init_4 0 rfl rfl)
theorem dX0_init_96 : decode cX0_init 96 = .ok (.putfield 31, 3) := dk_181 0 31 (dk_at dksX0_init_4 3 rfl rfl)
theorem dX0_init_99 : decode cX0_init 99 = .ok (.aload_n 0, 1) := dk_42 (dk_at dksX0_init_4 6 rfl rfl)
theorem dX0_init_100 : decode cX0_init 100 = .ok (.bipush 13, 2) := dk_16 13 (dk_at dksX0_init_4 7 rfl rfl)
theorem dX0_init_102 : decode cX0_init 102 = .ok (.newarray .int, 2) := dk_188_10 (dk_at dksX0_init_4 9 rfl rfl)
theorem dX0_init_104 : decode cX0_init 104 = .ok (.putfield 164, 3) := dk_181 0 164 (dk_at dksX0_init_4 11 rfl rfl)
theorem dX0_init_107 : decode cX0_init 107 = .ok (.aload_n 0, 1) := dk_42 (dk_at dksX0_init_4 14 rfl rfl)
theorem dX0_init_108 : decode cX0_init 108 = .ok (.bipush 40, 2) := dk_16 40 (dk_at dksX0_init_4 15 rfl rfl)
theorem dX0_init_110 : decode cX0_init 110 = .ok (.bipush 13, 2) := dk_16 13 (dk_at dksX0_init_4 17 rfl rfl)
theorem dX0_init_112 : decode cX0_init 112 = .ok (.multianewarray 167 2, 4) := by decide +kernel
theorem dX0_init_116 : decode cX0_init 116 = .ok (.putfield 169, 3) := dk_181 0 169 (dk_at dksX0_init_5 0 rfl rfl)
theorem dX0_init_119 : decode cX0_init 119 = .ok (.aload_n 0, 1) := dk_42 (dk_at dksX0_init_5 3 rfl rfl)
theorem dX0_init_120 : decode cX0_init 120 = .ok (.bipush 6, 2) := dk_16 6 (dk_at dksX0_init_5 4 rfl rfl)
theorem dX0_init_122 : decode cX0_init 122 = .ok (.newarray .int, 2) := dk_188_10 (dk_at dksX0_init_5 6 rfl rfl)
theorem dX0_init_124 : decode cX0_init 124 = .ok (.putfield 172, 3) := dk_181 0 172 (dk_at dksX0_init_5 8 rfl rfl)
theorem dX0_init_127 : decode cX0_init 127 = .ok (.aload_n 0, 1) := dk_42 (dk_at dksX0_init_5 11 rfl rfl)
theorem dX0_init_128 : decode cX0_init 128 = .ok (.bipush 6, 2) := dk_16 6 (dk_at dksX0_init_5 12 rfl rfl)
theorem dX0_init_130 : decode cX0_init 130 = .ok (.newarray .int, 2) := dk_188_10 (dk_at dksX0_init_5 14 rfl rfl)
theorem dX0_init_132 : decode cX0_init 132 = .ok (.putfield 175, 3) := dk_181 0 175 (dk_at dksX0_init_5 16 rfl rfl)
theorem dX0_init_135 : decode cX0_init 135 = .ok (.aload_n 0, 1) := dk_42 (dk_at dksX0_init_5 19 rfl rfl)
theorem dX0_init_136 : decode cX0_init 136 = .ok (.bipush 6, 2) := dk_16 6 (dk_at dksX0_init_5 20 rfl rfl)
theorem dX0_init_138 : decode cX0_init 138 = .ok (.newarray .int, 2) := dk_188_10 (dk_at dksX0_init_5 22 rfl rfl)
theorem dX0_init_140 : decode cX0_init 140 = .ok (.putfield 178, 3) := dk_181 0 178 (dk_at dksX0_init_6 0 rfl rfl)
theorem dX0_init_143 : decode cX0_init 143 = .ok (.aload_n 0, 1) := dk_42 (dk_at dksX0_init_6 3 rfl rfl)
theorem dX0_init_144 : decode cX0_init 144 = .ok (.iconst (-1), 1) := dk_2 (dk_at dksX0_init_6 4 rfl rfl)
theorem dX0_init_145 : decode cX0_init 145 = .ok (.putfield 117, 3) := dk_181 0 117 (dk_at dksX0_init_6 5 rfl rfl)
theorem dX0_init_148 : decode cX0_init 148 = .ok (.aload_n 0, 1) := dk_42 (dk_at dksX0_init_6 8 rfl rfl)
theorem dX0_init_149 : decode cX0_init 149 = .ok (.bipush 8, 2) := dk_16 8 (dk_at dksX0_init_6 9 rfl rfl)
theorem dX0_init_151 : decode cX0_init 151 = .ok (.newarray .int, 2) := dk_188_10 (dk_at dksX0_init_6 11 rfl rfl)
theorem dX0_init_153 : decode cX0_init 153 = .ok (.putfield 181, 3) := dk_181 0 181 (dk_at dksX0_init_6 13 rfl rfl)
theorem dX0_init_156 : decode cX0_init 156 = .ok (.aload_n 0, 1) := dk_42 (dk_at dksX0_init_6 16 rfl rfl)
theorem dX0_init_157 : decode cX0_init 157 = .ok (.bipush 6, 2) := dk_16 6 (dk_at dksX0_init_6 17 rfl rfl)
theorem dX0_init_159 : decode cX0_init 159 = .ok (.newarray .int, 2) := dk_188_10 (dk_at dksX0_init_6 19 rfl rfl)
theorem dX0_init_161 : decode cX0_init 161 = .ok (.putfield 184, 3) := dk_181 0 184 (dk_at dksX0_init_6 21 rfl rfl)
theorem dX0_init_164 : decode cX0_init 164 = .ok (.aload_n 0, 1) := dk_42 (dk_at dksX0_init_7 0 rfl rfl)
theorem dX0_init_165 : decode cX0_init 165 = .ok (.bipush 6, 2) := dk_16 6 (dk_at dksX0_init_7 1 rfl rfl)
theorem dX0_init_167 : decode cX0_init 167 = .ok (.newarray .int, 2) := dk_188_10 (dk_at dksX0_init_7 3 rfl rfl)
theorem dX0_init_169 : decode cX0_init 169 = .ok (.putfield 187, 3) := dk_181 0 187 (dk_at dksX0_init_7 5 rfl rfl)
theorem dX0_init_172 : decode cX0_init 172 = .ok (.aload_n 0, 1) := dk_42 (dk_at dksX0_init_7 8 rfl rfl)
theorem dX0_init_173 : decode cX0_init 173 = .ok (.new 42, 3) := dk_187 0 42 (dk_at dksX0_init_7 9 rfl rfl)
theorem dX0_init_176 : decode cX0_init 176 = .ok (.dup, 1) := dk_89 (dk_at dksX0_init_7 12 rfl rfl)
theorem dX0_init_177 : decode cX0_init 177 = .ok (.iconst 2, 1) := dk_5 (dk_at dksX0_init_7 13 rfl rfl)
theorem dX0_init_178 : decode cX0_init 178 = .ok (.invokespecial 190, 3) := dk_183 0 190 (dk_at dksX0_init_7 14 rfl rfl)
theorem dX0_init_181 : decode cX0_init 181 = .ok (.putfield 193, 3) := dk_181 0 193 (dk_at dksX0_init_7 17 rfl rfl)
theorem dX0_init_184 : decode cX0_init 184 = .ok (.aload_n 0, 1) := dk_42 (dk_at dksX0_init_7 20 rfl rfl)
theorem dX0_init_185 : decode cX0_init 185 = .ok (.iconst 3, 1) := dk_6 (dk_at dksX0_init_7 21 rfl rfl)
theorem dX0_init_186 : decode cX0_init 186 = .ok (.bipush 13, 2) := dk_16 13 (dk_at dksX0_init_7 22 rfl rfl)
theorem dX0_init_188 : decode cX0_init 188 = .ok (.multianewarray 167 2, 4) := by decide +kernel
theorem dX0_init_192 : decode cX0_init 192 = .ok (.putfield 196, 3) := dk_181 0 196 (dk_at dksX0_init_8 4 rfl rfl)
theorem dX0_init_195 : decode cX0_init 195 = .ok (.aload_n 0, 1) := dk_42 (dk_at dksX0_init_8 7 rfl rfl)
theorem dX0_init_196 : decode cX0_init 196 = .ok (.iconst 3, 1) := dk_6 (dk_at dksX0_init_8 8 rfl rfl)
theorem dX0_init_197 : decode cX0_init 197 = .ok (.newarray .boolean, 2) := dk_188_4 (dk_at dksX0_init_8 9 rfl rfl)
theorem dX0_init_199 : decode cX0_init 199 = .ok (.putfield 199, 3) := dk_181 0 199 (dk_at dksX0_init_8 11 rfl rfl)
theorem dX0_init_202 : decode cX0_init 202 = .ok (.aload_n 0, 1) := dk_42 (dk_at dksX0_init_8 14 rfl rfl)
theorem dX0_init_203 : decode cX0_init 203 = .ok (.invokevirtual 203, 3) := dk_182 0 203 (dk_at dksX0_init_8 15 rfl rfl)
theorem dX0_init_206 : decode cX0_init 206 = .ok (.iconst 0, 1) := dk_3 (dk_at dksX0_init_8 18 rfl rfl)
theorem dX0_init_207 : decode cX0_init 207 = .ok (.istore_n 1, 1) := dk_60 (dk_at dksX0_init_8 19 rfl rfl)
theorem dX0_init_208 : decode cX0_init 208 = .ok (.iload_n 1, 1) := dk_27 (dk_at dksX0_init_8 20 rfl rfl)
theorem dX0_init_209 : decode cX0_init 209 = .ok (.bipush 6, 2) := dk_16 6 (dk_at dksX0_init_8 21 rfl rfl)
theorem dX0_init_211 : decode cX0_init 211 = .ok (.if_icmp .ge 16, 3) := dk_162 0 16 (dk_at dksX0_init_9 0 rfl rfl)
theorem dX0_init_214 : decode cX0_init 214 = .ok (.aload_n 0, 1) := dk_42 (dk_at dksX0_init_9 3 rfl rfl)
theorem dX0_init_215 : decode cX0_init 215 = .ok (.getfield 184, 3) := dk_180 0 184 (dk_at dksX0_init_9 4 rfl rfl)
theorem dX0_init_218 : decode cX0_init 218 = .ok (.iload_n 1, 1) := dk_27 (dk_at dksX0_init_9 7 rfl rfl)
theorem dX0_init_219 : decode cX0_init 219 = .ok (.iconst (-1), 1) := dk_2 (dk_at dksX0_init_9 8 rfl rfl)
theorem dX0_init_220 : decode cX0_init 220 = .ok (.iastore, 1) := dk_79 (dk_at dksX0_init_9 9 rfl rfl)
theorem dX0_init_221 : decode cX0_init 221 = .ok (.iinc 1 1, 3) := dk_132 1 1 (dk_at dksX0_init_9 10 rfl rfl)
theorem dX0_init_224 : decode cX0_init 224 = .ok (.goto (-16), 3) := dk_167 255 240 (dk_at dksX0_init_9 13 rfl rfl)
theorem dX0_init_227 : decode cX0_init 227 = .ok (.return_, 1) := dk_177 (dk_at dksX0_init_9 16 rfl rfl)
abbrev cX0_begin : ByteArray := prog_1_method_25_code
def yX0_begin : MethodName := ⟨RX0, "begin", "()V"⟩
def dkwX0_begin_2 : List UInt8 := [181, 0, 250, 42, 3, 181, 0, 253, 177]
abbrev dktX0_begin_2 : List UInt8 := dkwX0_begin_2 ++ []
def dkwX0_begin_1 : List UInt8 := [180, 0, 31, 27, 182, 0, 246, 79, 132, 1, 1, 167, 255, 223, 42, 180, 0, 164, 16, 12, 3, 79, 42, 3]
abbrev dktX0_begin_1 : List UInt8 := dkwX0_begin_1 ++ dktX0_begin_2
def dkwX0_begin_0 : List UInt8 := [3, 60, 27, 16, 6, 162, 0, 33, 42, 180, 0, 164, 27, 2, 79, 42, 180, 0, 164, 16, 6, 27, 96, 42]
abbrev dktX0_begin_0 : List UInt8 := dkwX0_begin_0 ++ dktX0_begin_1
theorem dksX0_begin_0 : cX0_begin.data.toList.drop 0 = dktX0_begin_0 := by decide +kernel
theorem dksX0_begin_1 : cX0_begin.data.toList.drop 24 = dktX0_begin_1 := dk_seg dksX0_begin_0 24 rfl rfl
theorem dksX0_begin_2 : cX0_begin.data.toList.drop 48 = dktX0_begin_2 := dk_seg dksX0_begin_1 24 rfl rfl
theorem dX0_begin_0 : decode cX0_begin 0 = .ok (.iconst 0, 1) := dk_3 (dk_at dksX0_begin_0 0 rfl rfl)
theorem dX0_begin_1 : decode cX0_begin 1 = .ok (.istore_n 1, 1) := dk_60 (dk_at dksX0_begin_0 1 rfl rfl)
theorem dX0_begin_2 : decode cX0_begin 2 = .ok (.iload_n 1, 1) := dk_27 (dk_at dksX0_begin_0 2 rfl rfl)
theorem dX0_begin_3 : decode cX0_begin 3 = .ok (.bipush 6, 2) := dk_16 6 (dk_at dksX0_begin_0 3 rfl rfl)
theorem dX0_begin_5 : decode cX0_begin 5 = .ok (.if_icmp .ge 33, 3) := dk_162 0 33 (dk_at dksX0_begin_0 5 rfl rfl)
theorem dX0_begin_8 : decode cX0_begin 8 = .ok (.aload_n 0, 1) := dk_42 (dk_at dksX0_begin_0 8 rfl rfl)
theorem dX0_begin_9 : decode cX0_begin 9 = .ok (.getfield 164, 3) := dk_180 0 164 (dk_at dksX0_begin_0 9 rfl rfl)
theorem dX0_begin_12 : decode cX0_begin 12 = .ok (.iload_n 1, 1) := dk_27 (dk_at dksX0_begin_0 12 rfl rfl)
theorem dX0_begin_13 : decode cX0_begin 13 = .ok (.iconst (-1), 1) := dk_2 (dk_at dksX0_begin_0 13 rfl rfl)
theorem dX0_begin_14 : decode cX0_begin 14 = .ok (.iastore, 1) := dk_79 (dk_at dksX0_begin_0 14 rfl rfl)
theorem dX0_begin_15 : decode cX0_begin 15 = .ok (.aload_n 0, 1) := dk_42 (dk_at dksX0_begin_0 15 rfl rfl)
theorem dX0_begin_16 : decode cX0_begin 16 = .ok (.getfield 164, 3) := dk_180 0 164 (dk_at dksX0_begin_0 16 rfl rfl)
theorem dX0_begin_19 : decode cX0_begin 19 = .ok (.bipush 6, 2) := dk_16 6 (dk_at dksX0_begin_0 19 rfl rfl)
theorem dX0_begin_21 : decode cX0_begin 21 = .ok (.iload_n 1, 1) := dk_27 (dk_at dksX0_begin_0 21 rfl rfl)
theorem dX0_begin_22 : decode cX0_begin 22 = .ok (.iadd, 1) := dk_96 (dk_at dksX0_begin_0 22 rfl rfl)
theorem dX0_begin_23 : decode cX0_begin 23 = .ok (.aload_n 0, 1) := dk_42 (dk_at dksX0_begin_0 23 rfl rfl)
theorem dX0_begin_24 : decode cX0_begin 24 = .ok (.getfield 31, 3) := dk_180 0 31 (dk_at dksX0_begin_1 0 rfl rfl)
theorem dX0_begin_27 : decode cX0_begin 27 = .ok (.iload_n 1, 1) := dk_27 (dk_at dksX0_begin_1 3 rfl rfl)
theorem dX0_begin_28 : decode cX0_begin 28 = .ok (.invokevirtual 246, 3) := dk_182 0 246 (dk_at dksX0_begin_1 4 rfl rfl)
theorem dX0_begin_31 : decode cX0_begin 31 = .ok (.iastore, 1) := dk_79 (dk_at dksX0_begin_1 7 rfl rfl)
theorem dX0_begin_32 : decode cX0_begin 32 = .ok (.iinc 1 1, 3) := dk_132 1 1 (dk_at dksX0_begin_1 8 rfl rfl)
theorem dX0_begin_35 : decode cX0_begin 35 = .ok (.goto (-33), 3) := dk_167 255 223 (dk_at dksX0_begin_1 11 rfl rfl)
theorem dX0_begin_38 : decode cX0_begin 38 = .ok (.aload_n 0, 1) := dk_42 (dk_at dksX0_begin_1 14 rfl rfl)
theorem dX0_begin_39 : decode cX0_begin 39 = .ok (.getfield 164, 3) := dk_180 0 164 (dk_at dksX0_begin_1 15 rfl rfl)
theorem dX0_begin_42 : decode cX0_begin 42 = .ok (.bipush 12, 2) := dk_16 12 (dk_at dksX0_begin_1 18 rfl rfl)
theorem dX0_begin_44 : decode cX0_begin 44 = .ok (.iconst 0, 1) := dk_3 (dk_at dksX0_begin_1 20 rfl rfl)
theorem dX0_begin_45 : decode cX0_begin 45 = .ok (.iastore, 1) := dk_79 (dk_at dksX0_begin_1 21 rfl rfl)
theorem dX0_begin_46 : decode cX0_begin 46 = .ok (.aload_n 0, 1) := dk_42 (dk_at dksX0_begin_1 22 rfl rfl)
theorem dX0_begin_47 : decode cX0_begin 47 = .ok (.iconst 0, 1) := dk_3 (dk_at dksX0_begin_1 23 rfl rfl)
theorem dX0_begin_48 : decode cX0_begin 48 = .ok (.putfield 250, 3) := dk_181 0 250 (dk_at dksX0_begin_2 0 rfl rfl)
theorem dX0_begin_51 : decode cX0_begin 51 = .ok (.aload_n 0, 1) := dk_42 (dk_at dksX0_begin_2 3 rfl rfl)
theorem dX0_begin_52 : decode cX0_begin 52 = .ok (.iconst 0, 1) := dk_3 (dk_at dksX0_begin_2 4 rfl rfl)
theorem dX0_begin_53 : decode cX0_begin 53 = .ok (.putfield 253, 3) := dk_181 0 253 (dk_at dksX0_begin_2 5 rfl rfl)
theorem dX0_begin_56 : decode cX0_begin 56 = .ok (.return_, 1) := dk_177 (dk_at dksX0_begin_2 8 rfl rfl)
abbrev cX0_feed : ByteArray := prog_1_method_15_code
def yX0_feed : MethodName := ⟨RX0, "feed", "(IIIII)I"⟩
def dkwX0_feed_5 : List UInt8 := [172]
abbrev dktX0_feed_5 : List UInt8 := dkwX0_feed_5 ++ []
def dkwX0_feed_4 : List UInt8 := [180, 0, 206, 4, 96, 181, 0, 206, 132, 11, 248, 167, 255, 223, 132, 9, 1, 167, 255, 199, 42, 180, 0, 206]
abbrev dktX0_feed_4 : List UInt8 := dkwX0_feed_4 ++ dktX0_feed_5
def dkwX0_feed_3 : List UInt8 := [21, 11, 155, 0, 34, 42, 180, 0, 156, 42, 180, 0, 206, 21, 10, 21, 11, 122, 145, 84, 42, 89]
abbrev dktX0_feed_3 : List UInt8 := dkwX0_feed_3 ++ dktX0_feed_4
def dkwX0_feed_2 : List UInt8 := [190, 54, 8, 3, 54, 9, 21, 9, 21, 8, 162, 0, 56, 25, 7, 21, 9, 46, 54, 10, 16, 24, 54, 11]
abbrev dktX0_feed_2 : List UInt8 := dkwX0_feed_2 ++ dktX0_feed_3
def dkwX0_feed_1 : List UInt8 := [28, 79, 89, 5, 29, 79, 89, 6, 21, 4, 79, 89, 7, 21, 5, 79, 58, 6, 25, 6, 58, 7, 25, 7]
abbrev dktX0_feed_1 : List UInt8 := dkwX0_feed_1 ++ dktX0_feed_2
def dkwX0_feed_0 : List UInt8 := [42, 180, 0, 206, 16, 20, 96, 17, 6, 64, 164, 0, 5, 2, 172, 8, 188, 10, 89, 3, 27, 79, 89, 4]
abbrev dktX0_feed_0 : List UInt8 := dkwX0_feed_0 ++ dktX0_feed_1
theorem dksX0_feed_0 : cX0_feed.data.toList.drop 0 = dktX0_feed_0 := by decide +kernel
theorem dksX0_feed_1 : cX0_feed.data.toList.drop 24 = dktX0_feed_1 := dk_seg dksX0_feed_0 24 rfl rfl
theorem dksX0_feed_2 : cX0_feed.data.toList.drop 48 = dktX0_feed_2 := dk_seg dksX0_feed_1 24 rfl rfl
theorem dksX0_feed_3 : cX0_feed.data.toList.drop 72 = dktX0_feed_3 := dk_seg dksX0_feed_2 24 rfl rfl
theorem dksX0_feed_4 : cX0_feed.data.toList.drop 94 = dktX0_feed_4 := dk_seg dksX0_feed_3 22 rfl rfl
theorem dksX0_feed_5 : cX0_feed.data.toList.drop 118 = dktX0_feed_5 := dk_seg dksX0_feed_4 24 rfl rfl
theorem dX0_feed_0 : decode cX0_feed 0 = .ok (.aload_n 0, 1) := dk_42 (dk_at dksX0_feed_0 0 rfl rfl)
theorem dX0_feed_1 : decode cX0_feed 1 = .ok (.getfield 206, 3) := dk_180 0 206 (dk_at dksX0_feed_0 1 rfl rfl)
theorem dX0_feed_4 : decode cX0_feed 4 = .ok (.bipush 20, 2) := dk_16 20 (dk_at dksX0_feed_0 4 rfl rfl)
theorem dX0_feed_6 : decode cX0_feed 6 = .ok (.iadd, 1) := dk_96 (dk_at dksX0_feed_0 6 rfl rfl)
theorem dX0_feed_7 : decode cX0_feed 7 = .ok (.sipush 1600, 3) := dk_17 6 64 (dk_at dksX0_feed_0 7 rfl rfl)
theorem dX0_feed_10 : decode cX0_feed 10 = .ok (.if_icmp .le 5, 3) := dk_164 0 5 (dk_at dksX0_feed_0 10 rfl rfl)
theorem dX0_feed_13 : decode cX0_feed 13 = .ok (.iconst (-1), 1) := dk_2 (dk_at dksX0_feed_0 13 rfl rfl)
theorem dX0_feed_14 : decode cX0_feed 14 = .ok (.ireturn, 1) := dk_172 (dk_at dksX0_feed_0 14 rfl rfl)
theorem dX0_feed_15 : decode cX0_feed 15 = .ok (.iconst 5, 1) := dk_8 (dk_at dksX0_feed_0 15 rfl rfl)
theorem dX0_feed_16 : decode cX0_feed 16 = .ok (.newarray .int, 2) := dk_188_10 (dk_at dksX0_feed_0 16 rfl rfl)
theorem dX0_feed_18 : decode cX0_feed 18 = .ok (.dup, 1) := dk_89 (dk_at dksX0_feed_0 18 rfl rfl)
theorem dX0_feed_19 : decode cX0_feed 19 = .ok (.iconst 0, 1) := dk_3 (dk_at dksX0_feed_0 19 rfl rfl)
theorem dX0_feed_20 : decode cX0_feed 20 = .ok (.iload_n 1, 1) := dk_27 (dk_at dksX0_feed_0 20 rfl rfl)
theorem dX0_feed_21 : decode cX0_feed 21 = .ok (.iastore, 1) := dk_79 (dk_at dksX0_feed_0 21 rfl rfl)
theorem dX0_feed_22 : decode cX0_feed 22 = .ok (.dup, 1) := dk_89 (dk_at dksX0_feed_0 22 rfl rfl)
theorem dX0_feed_23 : decode cX0_feed 23 = .ok (.iconst 1, 1) := dk_4 (dk_at dksX0_feed_0 23 rfl rfl)
theorem dX0_feed_24 : decode cX0_feed 24 = .ok (.iload_n 2, 1) := dk_28 (dk_at dksX0_feed_1 0 rfl rfl)
theorem dX0_feed_25 : decode cX0_feed 25 = .ok (.iastore, 1) := dk_79 (dk_at dksX0_feed_1 1 rfl rfl)
theorem dX0_feed_26 : decode cX0_feed 26 = .ok (.dup, 1) := dk_89 (dk_at dksX0_feed_1 2 rfl rfl)
theorem dX0_feed_27 : decode cX0_feed 27 = .ok (.iconst 2, 1) := dk_5 (dk_at dksX0_feed_1 3 rfl rfl)
theorem dX0_feed_28 : decode cX0_feed 28 = .ok (.iload_n 3, 1) := dk_29 (dk_at dksX0_feed_1 4 rfl rfl)
theorem dX0_feed_29 : decode cX0_feed 29 = .ok (.iastore, 1) := dk_79 (dk_at dksX0_feed_1 5 rfl rfl)
theorem dX0_feed_30 : decode cX0_feed 30 = .ok (.dup, 1) := dk_89 (dk_at dksX0_feed_1 6 rfl rfl)
theorem dX0_feed_31 : decode cX0_feed 31 = .ok (.iconst 3, 1) := dk_6 (dk_at dksX0_feed_1 7 rfl rfl)
theorem dX0_feed_32 : decode cX0_feed 32 = .ok (.iload 4, 2) := dk_21 4 (dk_at dksX0_feed_1 8 rfl rfl)
theorem dX0_feed_34 : decode cX0_feed 34 = .ok (.iastore, 1) := dk_79 (dk_at dksX0_feed_1 10 rfl rfl)
theorem dX0_feed_35 : decode cX0_feed 35 = .ok (.dup, 1) := dk_89 (dk_at dksX0_feed_1 11 rfl rfl)
theorem dX0_feed_36 : decode cX0_feed 36 = .ok (.iconst 4, 1) := dk_7 (dk_at dksX0_feed_1 12 rfl rfl)
theorem dX0_feed_37 : decode cX0_feed 37 = .ok (.iload 5, 2) := dk_21 5 (dk_at dksX0_feed_1 13 rfl rfl)
theorem dX0_feed_39 : decode cX0_feed 39 = .ok (.iastore, 1) := dk_79 (dk_at dksX0_feed_1 15 rfl rfl)
theorem dX0_feed_40 : decode cX0_feed 40 = .ok (.astore 6, 2) := dk_58 6 (dk_at dksX0_feed_1 16 rfl rfl)
theorem dX0_feed_42 : decode cX0_feed 42 = .ok (.aload 6, 2) := dk_25 6 (dk_at dksX0_feed_1 18 rfl rfl)
theorem dX0_feed_44 : decode cX0_feed 44 = .ok (.astore 7, 2) := dk_58 7 (dk_at dksX0_feed_1 20 rfl rfl)
theorem dX0_feed_46 : decode cX0_feed 46 = .ok (.aload 7, 2) := dk_25 7 (dk_at dksX0_feed_1 22 rfl rfl)
theorem dX0_feed_48 : decode cX0_feed 48 = .ok (.arraylength, 1) := dk_190 (dk_at dksX0_feed_2 0 rfl rfl)
theorem dX0_feed_49 : decode cX0_feed 49 = .ok (.istore 8, 2) := dk_54 8 (dk_at dksX0_feed_2 1 rfl rfl)
theorem dX0_feed_51 : decode cX0_feed 51 = .ok (.iconst 0, 1) := dk_3 (dk_at dksX0_feed_2 3 rfl rfl)
theorem dX0_feed_52 : decode cX0_feed 52 = .ok (.istore 9, 2) := dk_54 9 (dk_at dksX0_feed_2 4 rfl rfl)
theorem dX0_feed_54 : decode cX0_feed 54 = .ok (.iload 9, 2) := dk_21 9 (dk_at dksX0_feed_2 6 rfl rfl)
theorem dX0_feed_56 : decode cX0_feed 56 = .ok (.iload 8, 2) := dk_21 8 (dk_at dksX0_feed_2 8 rfl rfl)
theorem dX0_feed_58 : decode cX0_feed 58 = .ok (.if_icmp .ge 56, 3) := dk_162 0 56 (dk_at dksX0_feed_2 10 rfl rfl)
theorem dX0_feed_61 : decode cX0_feed 61 = .ok (.aload 7, 2) := dk_25 7 (dk_at dksX0_feed_2 13 rfl rfl)
theorem dX0_feed_63 : decode cX0_feed 63 = .ok (.iload 9, 2) := dk_21 9 (dk_at dksX0_feed_2 15 rfl rfl)
theorem dX0_feed_65 : decode cX0_feed 65 = .ok (.iaload, 1) := dk_46 (dk_at dksX0_feed_2 17 rfl rfl)
theorem dX0_feed_66 : decode cX0_feed 66 = .ok (.istore 10, 2) := dk_54 10 (dk_at dksX0_feed_2 18 rfl rfl)
theorem dX0_feed_68 : decode cX0_feed 68 = .ok (.bipush 24, 2) := dk_16 24 (dk_at dksX0_feed_2 20 rfl rfl)
theorem dX0_feed_70 : decode cX0_feed 70 = .ok (.istore 11, 2) := dk_54 11 (dk_at dksX0_feed_2 22 rfl rfl)
theorem dX0_feed_72 : decode cX0_feed 72 = .ok (.iload 11, 2) := dk_21 11 (dk_at dksX0_feed_3 0 rfl rfl)
theorem dX0_feed_74 : decode cX0_feed 74 = .ok (.ifCond .lt 34, 3) := dk_155 0 34 (dk_at dksX0_feed_3 2 rfl rfl)
theorem dX0_feed_77 : decode cX0_feed 77 = .ok (.aload_n 0, 1) := dk_42 (dk_at dksX0_feed_3 5 rfl rfl)
theorem dX0_feed_78 : decode cX0_feed 78 = .ok (.getfield 156, 3) := dk_180 0 156 (dk_at dksX0_feed_3 6 rfl rfl)
theorem dX0_feed_81 : decode cX0_feed 81 = .ok (.aload_n 0, 1) := dk_42 (dk_at dksX0_feed_3 9 rfl rfl)
theorem dX0_feed_82 : decode cX0_feed 82 = .ok (.getfield 206, 3) := dk_180 0 206 (dk_at dksX0_feed_3 10 rfl rfl)
theorem dX0_feed_85 : decode cX0_feed 85 = .ok (.iload 10, 2) := dk_21 10 (dk_at dksX0_feed_3 13 rfl rfl)
theorem dX0_feed_87 : decode cX0_feed 87 = .ok (.iload 11, 2) := dk_21 11 (dk_at dksX0_feed_3 15 rfl rfl)
theorem dX0_feed_89 : decode cX0_feed 89 = .ok (.ishr, 1) := dk_122 (dk_at dksX0_feed_3 17 rfl rfl)
theorem dX0_feed_90 : decode cX0_feed 90 = .ok (.i2b, 1) := dk_145 (dk_at dksX0_feed_3 18 rfl rfl)
theorem dX0_feed_91 : decode cX0_feed 91 = .ok (.bastore, 1) := dk_84 (dk_at dksX0_feed_3 19 rfl rfl)
theorem dX0_feed_92 : decode cX0_feed 92 = .ok (.aload_n 0, 1) := dk_42 (dk_at dksX0_feed_3 20 rfl rfl)
theorem dX0_feed_93 : decode cX0_feed 93 = .ok (.dup, 1) := dk_89 (dk_at dksX0_feed_3 21 rfl rfl)
theorem dX0_feed_94 : decode cX0_feed 94 = .ok (.getfield 206, 3) := dk_180 0 206 (dk_at dksX0_feed_4 0 rfl rfl)
theorem dX0_feed_97 : decode cX0_feed 97 = .ok (.iconst 1, 1) := dk_4 (dk_at dksX0_feed_4 3 rfl rfl)
theorem dX0_feed_98 : decode cX0_feed 98 = .ok (.iadd, 1) := dk_96 (dk_at dksX0_feed_4 4 rfl rfl)
theorem dX0_feed_99 : decode cX0_feed 99 = .ok (.putfield 206, 3) := dk_181 0 206 (dk_at dksX0_feed_4 5 rfl rfl)
theorem dX0_feed_102 : decode cX0_feed 102 = .ok (.iinc 11 (-8), 3) := dk_132 11 248 (dk_at dksX0_feed_4 8 rfl rfl)
theorem dX0_feed_105 : decode cX0_feed 105 = .ok (.goto (-33), 3) := dk_167 255 223 (dk_at dksX0_feed_4 11 rfl rfl)
theorem dX0_feed_108 : decode cX0_feed 108 = .ok (.iinc 9 1, 3) := dk_132 9 1 (dk_at dksX0_feed_4 14 rfl rfl)
theorem dX0_feed_111 : decode cX0_feed 111 = .ok (.goto (-57), 3) := dk_167 255 199 (dk_at dksX0_feed_4 17 rfl rfl)
theorem dX0_feed_114 : decode cX0_feed 114 = .ok (.aload_n 0, 1) := dk_42 (dk_at dksX0_feed_4 20 rfl rfl)
theorem dX0_feed_115 : decode cX0_feed 115 = .ok (.getfield 206, 3) := dk_180 0 206 (dk_at dksX0_feed_4 21 rfl rfl)
theorem dX0_feed_118 : decode cX0_feed 118 = .ok (.ireturn, 1) := dk_172 (dk_at dksX0_feed_5 0 rfl rfl)
abbrev cX0_end : ByteArray := prog_1_method_16_code
def yX0_end : MethodName := ⟨RX0, "end", "(I)I"⟩
def dkwX0_end_0 : List UInt8 := [27, 155, 0, 11, 27, 42, 180, 0, 206, 164, 0, 5, 2, 172, 42, 27, 181, 0, 206, 27, 172]
abbrev dktX0_end_0 : List UInt8 := dkwX0_end_0 ++ []
theorem dksX0_end_0 : cX0_end.data.toList.drop 0 = dktX0_end_0 := by decide +kernel
theorem dX0_end_0 : decode cX0_end 0 = .ok (.iload_n 1, 1) := dk_27 (dk_at dksX0_end_0 0 rfl rfl)
theorem dX0_end_1 : decode cX0_end 1 = .ok (.ifCond .lt 11, 3) := dk_155 0 11 (dk_at dksX0_end_0 1 rfl rfl)
theorem dX0_end_4 : decode cX0_end 4 = .ok (.iload_n 1, 1) := dk_27 (dk_at dksX0_end_0 4 rfl rfl)
theorem dX0_end_5 : decode cX0_end 5 = .ok (.aload_n 0, 1) := dk_42 (dk_at dksX0_end_0 5 rfl rfl)
theorem dX0_end_6 : decode cX0_end 6 = .ok (.getfield 206, 3) := dk_180 0 206 (dk_at dksX0_end_0 6 rfl rfl)
theorem dX0_end_9 : decode cX0_end 9 = .ok (.if_icmp .le 5, 3) := dk_164 0 5 (dk_at dksX0_end_0 9 rfl rfl)
theorem dX0_end_12 : decode cX0_end 12 = .ok (.iconst (-1), 1) := dk_2 (dk_at dksX0_end_0 12 rfl rfl)
theorem dX0_end_13 : decode cX0_end 13 = .ok (.ireturn, 1) := dk_172 (dk_at dksX0_end_0 13 rfl rfl)
theorem dX0_end_14 : decode cX0_end 14 = .ok (.aload_n 0, 1) := dk_42 (dk_at dksX0_end_0 14 rfl rfl)
theorem dX0_end_15 : decode cX0_end 15 = .ok (.iload_n 1, 1) := dk_27 (dk_at dksX0_end_0 15 rfl rfl)
theorem dX0_end_16 : decode cX0_end 16 = .ok (.putfield 206, 3) := dk_181 0 206 (dk_at dksX0_end_0 16 rfl rfl)
theorem dX0_end_19 : decode cX0_end 19 = .ok (.iload_n 1, 1) := dk_27 (dk_at dksX0_end_0 19 rfl rfl)
theorem dX0_end_20 : decode cX0_end 20 = .ok (.ireturn, 1) := dk_172 (dk_at dksX0_end_0 20 rfl rfl)
abbrev cX0_port : ByteArray := prog_1_method_17_code
def yX0_port : MethodName := ⟨RX0, "port", "()I"⟩
def dkwX0_port_5 : List UInt8 := [43, 199, 0, 16, 42, 180, 0, 31, 180, 0, 80, 182, 0, 47, 167, 0, 4, 2, 172]
abbrev dktX0_port_5 : List UInt8 := dkwX0_port_5 ++ []
def dkwX0_port_4 : List UInt8 := [181, 0, 229, 42, 43, 199, 0, 7, 2, 167, 0, 7, 43, 180, 0, 232, 181, 0, 160, 42, 3, 181, 0, 206]
abbrev dktX0_port_4 : List UInt8 := dkwX0_port_4 ++ dktX0_port_5
def dkwX0_port_3 : List UInt8 := [167, 255, 241, 167, 0, 6, 77, 44, 76, 42, 43, 199, 0, 7, 3, 167, 0, 7, 43, 180, 0, 226]
abbrev dktX0_port_3 : List UInt8 := dkwX0_port_3 ++ dktX0_port_4
def dkwX0_port_2 : List UInt8 := [79, 132, 2, 1, 167, 255, 240, 3, 61, 28, 6, 162, 0, 16, 42, 180, 0, 199, 28, 3, 84, 132, 2, 1]
abbrev dktX0_port_2 : List UInt8 := dkwX0_port_2 ++ dktX0_port_3
def dkwX0_port_1 : List UInt8 := [181, 0, 218, 42, 180, 0, 193, 182, 0, 221, 3, 61, 28, 16, 6, 162, 0, 16, 42, 180, 0, 184, 28, 2]
abbrev dktX0_port_1 : List UInt8 := dkwX0_port_1 ++ dktX0_port_2
def dkwX0_port_0 : List UInt8 := [1, 76, 42, 187, 0, 209, 89, 42, 183, 0, 211, 182, 0, 214, 181, 0, 31, 42, 182, 0, 203, 42, 3]
abbrev dktX0_port_0 : List UInt8 := dkwX0_port_0 ++ dktX0_port_1
theorem dksX0_port_0 : cX0_port.data.toList.drop 0 = dktX0_port_0 := by decide +kernel
theorem dksX0_port_1 : cX0_port.data.toList.drop 23 = dktX0_port_1 := dk_seg dksX0_port_0 23 rfl rfl
theorem dksX0_port_2 : cX0_port.data.toList.drop 47 = dktX0_port_2 := dk_seg dksX0_port_1 24 rfl rfl
theorem dksX0_port_3 : cX0_port.data.toList.drop 71 = dktX0_port_3 := dk_seg dksX0_port_2 24 rfl rfl
theorem dksX0_port_4 : cX0_port.data.toList.drop 93 = dktX0_port_4 := dk_seg dksX0_port_3 22 rfl rfl
theorem dksX0_port_5 : cX0_port.data.toList.drop 117 = dktX0_port_5 := dk_seg dksX0_port_4 24 rfl rfl
theorem dX0_port_0 : decode cX0_port 0 = .ok (.aconst_null, 1) := dk_1 (dk_at dksX0_port_0 0 rfl rfl)
theorem dX0_port_1 : decode cX0_port 1 = .ok (.astore_n 1, 1) := dk_76 (dk_at dksX0_port_0 1 rfl rfl)
theorem dX0_port_2 : decode cX0_port 2 = .ok (.aload_n 0, 1) := dk_42 (dk_at dksX0_port_0 2 rfl rfl)
theorem dX0_port_3 : decode cX0_port 3 = .ok (.new 209, 3) := dk_187 0 209 (dk_at dksX0_port_0 3 rfl rfl)
theorem dX0_port_6 : decode cX0_port 6 = .ok (.dup, 1) := dk_89 (dk_at dksX0_port_0 6 rfl rfl)
theorem dX0_port_7 : decode cX0_port 7 = .ok (.aload_n 0, 1) := dk_42 (dk_at dksX0_port_0 7 rfl rfl)
theorem dX0_port_8 : decode cX0_port 8 = .ok (.invokespecial 211, 3) := dk_183 0 211 (dk_at dksX0_port_0 8 rfl rfl)
theorem dX0_port_11 : decode cX0_port 11 = .ok (.invokevirtual 214, 3) := dk_182 0 214 (dk_at dksX0_port_0 11 rfl rfl)
theorem dX0_port_14 : decode cX0_port 14 = .ok (.putfield 31, 3) := dk_181 0 31 (dk_at dksX0_port_0 14 rfl rfl)
theorem dX0_port_17 : decode cX0_port 17 = .ok (.aload_n 0, 1) := dk_42 (dk_at dksX0_port_0 17 rfl rfl)
theorem dX0_port_18 : decode cX0_port 18 = .ok (.invokevirtual 203, 3) := dk_182 0 203 (dk_at dksX0_port_0 18 rfl rfl)
theorem dX0_port_21 : decode cX0_port 21 = .ok (.aload_n 0, 1) := dk_42 (dk_at dksX0_port_0 21 rfl rfl)
theorem dX0_port_22 : decode cX0_port 22 = .ok (.iconst 0, 1) := dk_3 (dk_at dksX0_port_0 22 rfl rfl)
theorem dX0_port_23 : decode cX0_port 23 = .ok (.putfield 218, 3) := dk_181 0 218 (dk_at dksX0_port_1 0 rfl rfl)
theorem dX0_port_26 : decode cX0_port 26 = .ok (.aload_n 0, 1) := dk_42 (dk_at dksX0_port_1 3 rfl rfl)
theorem dX0_port_27 : decode cX0_port 27 = .ok (.getfield 193, 3) := dk_180 0 193 (dk_at dksX0_port_1 4 rfl rfl)
theorem dX0_port_30 : decode cX0_port 30 = .ok (.invokevirtual 221, 3) := dk_182 0 221 (dk_at dksX0_port_1 7 rfl rfl)
theorem dX0_port_33 : decode cX0_port 33 = .ok (.iconst 0, 1) := dk_3 (dk_at dksX0_port_1 10 rfl rfl)
theorem dX0_port_34 : decode cX0_port 34 = .ok (.istore_n 2, 1) := dk_61 (dk_at dksX0_port_1 11 rfl rfl)
theorem dX0_port_35 : decode cX0_port 35 = .ok (.iload_n 2, 1) := dk_28 (dk_at dksX0_port_1 12 rfl rfl)
theorem dX0_port_36 : decode cX0_port 36 = .ok (.bipush 6, 2) := dk_16 6 (dk_at dksX0_port_1 13 rfl rfl)
theorem dX0_port_38 : decode cX0_port 38 = .ok (.if_icmp .ge 16, 3) := dk_162 0 16 (dk_at dksX0_port_1 15 rfl rfl)
theorem dX0_port_41 : decode cX0_port 41 = .ok (.aload_n 0, 1) := dk_42 (dk_at dksX0_port_1 18 rfl rfl)
theorem dX0_port_42 : decode cX0_port 42 = .ok (.getfield 184, 3) := dk_180 0 184 (dk_at dksX0_port_1 19 rfl rfl)
theorem dX0_port_45 : decode cX0_port 45 = .ok (.iload_n 2, 1) := dk_28 (dk_at dksX0_port_1 22 rfl rfl)
theorem dX0_port_46 : decode cX0_port 46 = .ok (.iconst (-1), 1) := dk_2 (dk_at dksX0_port_1 23 rfl rfl)
theorem dX0_port_47 : decode cX0_port 47 = .ok (.iastore, 1) := dk_79 (dk_at dksX0_port_2 0 rfl rfl)
theorem dX0_port_48 : decode cX0_port 48 = .ok (.iinc 2 1, 3) := dk_132 2 1 (dk_at dksX0_port_2 1 rfl rfl)
theorem dX0_port_51 : decode cX0_port 51 = .ok (.goto (-16), 3) := dk_167 255 240 (dk_at dksX0_port_2 4 rfl rfl)
theorem dX0_port_54 : decode cX0_port 54 = .ok (.iconst 0, 1) := dk_3 (dk_at dksX0_port_2 7 rfl rfl)
theorem dX0_port_55 : decode cX0_port 55 = .ok (.istore_n 2, 1) := dk_61 (dk_at dksX0_port_2 8 rfl rfl)
theorem dX0_port_56 : decode cX0_port 56 = .ok (.iload_n 2, 1) := dk_28 (dk_at dksX0_port_2 9 rfl rfl)
theorem dX0_port_57 : decode cX0_port 57 = .ok (.iconst 3, 1) := dk_6 (dk_at dksX0_port_2 10 rfl rfl)
theorem dX0_port_58 : decode cX0_port 58 = .ok (.if_icmp .ge 16, 3) := dk_162 0 16 (dk_at dksX0_port_2 11 rfl rfl)
theorem dX0_port_61 : decode cX0_port 61 = .ok (.aload_n 0, 1) := dk_42 (dk_at dksX0_port_2 14 rfl rfl)
theorem dX0_port_62 : decode cX0_port 62 = .ok (.getfield 199, 3) := dk_180 0 199 (dk_at dksX0_port_2 15 rfl rfl)
theorem dX0_port_65 : decode cX0_port 65 = .ok (.iload_n 2, 1) := dk_28 (dk_at dksX0_port_2 18 rfl rfl)
theorem dX0_port_66 : decode cX0_port 66 = .ok (.iconst 0, 1) := dk_3 (dk_at dksX0_port_2 19 rfl rfl)
theorem dX0_port_67 : decode cX0_port 67 = .ok (.bastore, 1) := dk_84 (dk_at dksX0_port_2 20 rfl rfl)
theorem dX0_port_68 : decode cX0_port 68 = .ok (.iinc 2 1, 3) := dk_132 2 1 (dk_at dksX0_port_2 21 rfl rfl)
theorem dX0_port_71 : decode cX0_port 71 = .ok (.goto (-15), 3) := dk_167 255 241 (dk_at dksX0_port_3 0 rfl rfl)
theorem dX0_port_74 : decode cX0_port 74 = .ok (.goto 6, 3) := dk_167 0 6 (dk_at dksX0_port_3 3 rfl rfl)
theorem dX0_port_77 : decode cX0_port 77 = .ok (.astore_n 2, 1) := dk_77 (dk_at dksX0_port_3 6 rfl rfl)
theorem dX0_port_78 : decode cX0_port 78 = .ok (.aload_n 2, 1) := dk_44 (dk_at dksX0_port_3 7 rfl rfl)
theorem dX0_port_79 : decode cX0_port 79 = .ok (.astore_n 1, 1) := dk_76 (dk_at dksX0_port_3 8 rfl rfl)
theorem dX0_port_80 : decode cX0_port 80 = .ok (.aload_n 0, 1) := dk_42 (dk_at dksX0_port_3 9 rfl rfl)
theorem dX0_port_81 : decode cX0_port 81 = .ok (.aload_n 1, 1) := dk_43 (dk_at dksX0_port_3 10 rfl rfl)
theorem dX0_port_82 : decode cX0_port 82 = .ok (.ifnonnull 7, 3) := dk_199 0 7 (dk_at dksX0_port_3 11 rfl rfl)
theorem dX0_port_85 : decode cX0_port 85 = .ok (.iconst 0, 1) := dk_3 (dk_at dksX0_port_3 14 rfl rfl)
theorem dX0_port_86 : decode cX0_port 86 = .ok (.goto 7, 3) := dk_167 0 7 (dk_at dksX0_port_3 15 rfl rfl)
theorem dX0_port_89 : decode cX0_port 89 = .ok (.aload_n 1, 1) := dk_43 (dk_at dksX0_port_3 18 rfl rfl)
theorem dX0_port_90 : decode cX0_port 90 = .ok (.getfield 226, 3) := dk_180 0 226 (dk_at dksX0_port_3 19 rfl rfl)
theorem dX0_port_93 : decode cX0_port 93 = .ok (.putfield 229, 3) := dk_181 0 229 (dk_at dksX0_port_4 0 rfl rfl)
theorem dX0_port_96 : decode cX0_port 96 = .ok (.aload_n 0, 1) := dk_42 (dk_at dksX0_port_4 3 rfl rfl)
theorem dX0_port_97 : decode cX0_port 97 = .ok (.aload_n 1, 1) := dk_43 (dk_at dksX0_port_4 4 rfl rfl)
theorem dX0_port_98 : decode cX0_port 98 = .ok (.ifnonnull 7, 3) := dk_199 0 7 (dk_at dksX0_port_4 5 rfl rfl)
theorem dX0_port_101 : decode cX0_port 101 = .ok (.iconst (-1), 1) := dk_2 (dk_at dksX0_port_4 8 rfl rfl)
theorem dX0_port_102 : decode cX0_port 102 = .ok (.goto 7, 3) := dk_167 0 7 (dk_at dksX0_port_4 9 rfl rfl)
theorem dX0_port_105 : decode cX0_port 105 = .ok (.aload_n 1, 1) := dk_43 (dk_at dksX0_port_4 12 rfl rfl)
theorem dX0_port_106 : decode cX0_port 106 = .ok (.getfield 232, 3) := dk_180 0 232 (dk_at dksX0_port_4 13 rfl rfl)
theorem dX0_port_109 : decode cX0_port 109 = .ok (.putfield 160, 3) := dk_181 0 160 (dk_at dksX0_port_4 16 rfl rfl)
theorem dX0_port_112 : decode cX0_port 112 = .ok (.aload_n 0, 1) := dk_42 (dk_at dksX0_port_4 19 rfl rfl)
theorem dX0_port_113 : decode cX0_port 113 = .ok (.iconst 0, 1) := dk_3 (dk_at dksX0_port_4 20 rfl rfl)
theorem dX0_port_114 : decode cX0_port 114 = .ok (.putfield 206, 3) := dk_181 0 206 (dk_at dksX0_port_4 21 rfl rfl)
theorem dX0_port_117 : decode cX0_port 117 = .ok (.aload_n 1, 1) := dk_43 (dk_at dksX0_port_5 0 rfl rfl)
theorem dX0_port_118 : decode cX0_port 118 = .ok (.ifnonnull 16, 3) := dk_199 0 16 (dk_at dksX0_port_5 1 rfl rfl)
theorem dX0_port_121 : decode cX0_port 121 = .ok (.aload_n 0, 1) := dk_42 (dk_at dksX0_port_5 4 rfl rfl)
theorem dX0_port_122 : decode cX0_port 122 = .ok (.getfield 31, 3) := dk_180 0 31 (dk_at dksX0_port_5 5 rfl rfl)
theorem dX0_port_125 : decode cX0_port 125 = .ok (.getfield 80, 3) := dk_180 0 80 (dk_at dksX0_port_5 8 rfl rfl)
theorem dX0_port_128 : decode cX0_port 128 = .ok (.invokevirtual 47, 3) := dk_182 0 47 (dk_at dksX0_port_5 11 rfl rfl)
theorem dX0_port_131 : decode cX0_port 131 = .ok (.goto 4, 3) := dk_167 0 4 (dk_at dksX0_port_5 14 rfl rfl)
theorem dX0_port_134 : decode cX0_port 134 = .ok (.iconst (-1), 1) := dk_2 (dk_at dksX0_port_5 17 rfl rfl)
theorem dX0_port_135 : decode cX0_port 135 = .ok (.ireturn, 1) := dk_172 (dk_at dksX0_port_5 18 rfl rfl)
abbrev cX0_fault : ByteArray := prog_1_method_18_code
def yX0_fault : MethodName := ⟨RX0, "fault", "(I)I"⟩
def dkwX0_fault_1 : List UInt8 := [172]
abbrev dktX0_fault_1 : List UInt8 := dkwX0_fault_1 ++ []
def dkwX0_fault_0 : List UInt8 := [27, 154, 0, 10, 42, 180, 0, 229, 167, 0, 16, 27, 4, 160, 0, 10, 42, 180, 0, 160, 167, 0, 4, 2]
abbrev dktX0_fault_0 : List UInt8 := dkwX0_fault_0 ++ dktX0_fault_1
theorem dksX0_fault_0 : cX0_fault.data.toList.drop 0 = dktX0_fault_0 := by decide +kernel
theorem dksX0_fault_1 : cX0_fault.data.toList.drop 24 = dktX0_fault_1 := dk_seg dksX0_fault_0 24 rfl rfl
theorem dX0_fault_0 : decode cX0_fault 0 = .ok (.iload_n 1, 1) := dk_27 (dk_at dksX0_fault_0 0 rfl rfl)
theorem dX0_fault_1 : decode cX0_fault 1 = .ok (.ifCond .ne 10, 3) := dk_154 0 10 (dk_at dksX0_fault_0 1 rfl rfl)
theorem dX0_fault_4 : decode cX0_fault 4 = .ok (.aload_n 0, 1) := dk_42 (dk_at dksX0_fault_0 4 rfl rfl)
theorem dX0_fault_5 : decode cX0_fault 5 = .ok (.getfield 229, 3) := dk_180 0 229 (dk_at dksX0_fault_0 5 rfl rfl)
theorem dX0_fault_8 : decode cX0_fault 8 = .ok (.goto 16, 3) := dk_167 0 16 (dk_at dksX0_fault_0 8 rfl rfl)
theorem dX0_fault_11 : decode cX0_fault 11 = .ok (.iload_n 1, 1) := dk_27 (dk_at dksX0_fault_0 11 rfl rfl)
theorem dX0_fault_12 : decode cX0_fault 12 = .ok (.iconst 1, 1) := dk_4 (dk_at dksX0_fault_0 12 rfl rfl)
theorem dX0_fault_13 : decode cX0_fault 13 = .ok (.if_icmp .ne 10, 3) := dk_160 0 10 (dk_at dksX0_fault_0 13 rfl rfl)
theorem dX0_fault_16 : decode cX0_fault 16 = .ok (.aload_n 0, 1) := dk_42 (dk_at dksX0_fault_0 16 rfl rfl)
theorem dX0_fault_17 : decode cX0_fault 17 = .ok (.getfield 160, 3) := dk_180 0 160 (dk_at dksX0_fault_0 17 rfl rfl)
theorem dX0_fault_20 : decode cX0_fault 20 = .ok (.goto 4, 3) := dk_167 0 4 (dk_at dksX0_fault_0 20 rfl rfl)
theorem dX0_fault_23 : decode cX0_fault 23 = .ok (.iconst (-1), 1) := dk_2 (dk_at dksX0_fault_0 23 rfl rfl)
theorem dX0_fault_24 : decode cX0_fault 24 = .ok (.ireturn, 1) := dk_172 (dk_at dksX0_fault_1 0 rfl rfl)
abbrev cX0_worth : ByteArray := prog_1_method_23_code
def yX0_worth : MethodName := ⟨RX0, "worth", "(II)I"⟩
def dkwX0_worth_1 : List UInt8 := [104, 28, 96, 46, 167, 0, 5, 18, 245, 172]
abbrev dktX0_worth_1 : List UInt8 := dkwX0_worth_1 ++ []
def dkwX0_worth_0 : List UInt8 := [42, 27, 182, 0, 239, 153, 0, 26, 28, 184, 0, 242, 153, 0, 19, 42, 180, 0, 31, 180, 0, 111, 6, 27]
abbrev dktX0_worth_0 : List UInt8 := dkwX0_worth_0 ++ dktX0_worth_1
theorem dksX0_worth_0 : cX0_worth.data.toList.drop 0 = dktX0_worth_0 := by decide +kernel
theorem dksX0_worth_1 : cX0_worth.data.toList.drop 24 = dktX0_worth_1 := dk_seg dksX0_worth_0 24 rfl rfl
theorem dX0_worth_0 : decode cX0_worth 0 = .ok (.aload_n 0, 1) := dk_42 (dk_at dksX0_worth_0 0 rfl rfl)
theorem dX0_worth_1 : decode cX0_worth 1 = .ok (.iload_n 1, 1) := dk_27 (dk_at dksX0_worth_0 1 rfl rfl)
theorem dX0_worth_2 : decode cX0_worth 2 = .ok (.invokevirtual 239, 3) := dk_182 0 239 (dk_at dksX0_worth_0 2 rfl rfl)
theorem dX0_worth_5 : decode cX0_worth 5 = .ok (.ifCond .eq 26, 3) := dk_153 0 26 (dk_at dksX0_worth_0 5 rfl rfl)
theorem dX0_worth_8 : decode cX0_worth 8 = .ok (.iload_n 2, 1) := dk_28 (dk_at dksX0_worth_0 8 rfl rfl)
theorem dX0_worth_9 : decode cX0_worth 9 = .ok (.invokestatic 242, 3) := dk_184 0 242 (dk_at dksX0_worth_0 9 rfl rfl)
theorem dX0_worth_12 : decode cX0_worth 12 = .ok (.ifCond .eq 19, 3) := dk_153 0 19 (dk_at dksX0_worth_0 12 rfl rfl)
theorem dX0_worth_15 : decode cX0_worth 15 = .ok (.aload_n 0, 1) := dk_42 (dk_at dksX0_worth_0 15 rfl rfl)
theorem dX0_worth_16 : decode cX0_worth 16 = .ok (.getfield 31, 3) := dk_180 0 31 (dk_at dksX0_worth_0 16 rfl rfl)
theorem dX0_worth_19 : decode cX0_worth 19 = .ok (.getfield 111, 3) := dk_180 0 111 (dk_at dksX0_worth_0 19 rfl rfl)
theorem dX0_worth_22 : decode cX0_worth 22 = .ok (.iconst 3, 1) := dk_6 (dk_at dksX0_worth_0 22 rfl rfl)
theorem dX0_worth_23 : decode cX0_worth 23 = .ok (.iload_n 1, 1) := dk_27 (dk_at dksX0_worth_0 23 rfl rfl)
theorem dX0_worth_24 : decode cX0_worth 24 = .ok (.imul, 1) := dk_104 (dk_at dksX0_worth_1 0 rfl rfl)
theorem dX0_worth_25 : decode cX0_worth 25 = .ok (.iload_n 2, 1) := dk_28 (dk_at dksX0_worth_1 1 rfl rfl)
theorem dX0_worth_26 : decode cX0_worth 26 = .ok (.iadd, 1) := dk_96 (dk_at dksX0_worth_1 2 rfl rfl)
theorem dX0_worth_27 : decode cX0_worth 27 = .ok (.iaload, 1) := dk_46 (dk_at dksX0_worth_1 3 rfl rfl)
theorem dX0_worth_28 : decode cX0_worth 28 = .ok (.goto 5, 3) := dk_167 0 5 (dk_at dksX0_worth_1 4 rfl rfl)
theorem dX0_worth_31 : decode cX0_worth 31 = .ok (.ldc 245, 2) := dk_18 245 (dk_at dksX0_worth_1 7 rfl rfl)
theorem dX0_worth_33 : decode cX0_worth 33 = .ok (.ireturn, 1) := dk_172 (dk_at dksX0_worth_1 9 rfl rfl)
abbrev cX0_isWord : ByteArray := prog_1_method_20_code
def yX0_isWord : MethodName := ⟨RX0, "isWord", "(I)Z"⟩
def dkwX0_isWord_0 : List UInt8 := [27, 3, 42, 180, 0, 31, 180, 0, 80, 182, 0, 47, 4, 100, 184, 0, 235, 172]
abbrev dktX0_isWord_0 : List UInt8 := dkwX0_isWord_0 ++ []
theorem dksX0_isWord_0 : cX0_isWord.data.toList.drop 0 = dktX0_isWord_0 := by decide +kernel
theorem dX0_isWord_0 : decode cX0_isWord 0 = .ok (.iload_n 1, 1) := dk_27 (dk_at dksX0_isWord_0 0 rfl rfl)
theorem dX0_isWord_1 : decode cX0_isWord 1 = .ok (.iconst 0, 1) := dk_3 (dk_at dksX0_isWord_0 1 rfl rfl)
theorem dX0_isWord_2 : decode cX0_isWord 2 = .ok (.aload_n 0, 1) := dk_42 (dk_at dksX0_isWord_0 2 rfl rfl)
theorem dX0_isWord_3 : decode cX0_isWord 3 = .ok (.getfield 31, 3) := dk_180 0 31 (dk_at dksX0_isWord_0 3 rfl rfl)
theorem dX0_isWord_6 : decode cX0_isWord 6 = .ok (.getfield 80, 3) := dk_180 0 80 (dk_at dksX0_isWord_0 6 rfl rfl)
theorem dX0_isWord_9 : decode cX0_isWord 9 = .ok (.invokevirtual 47, 3) := dk_182 0 47 (dk_at dksX0_isWord_0 9 rfl rfl)
theorem dX0_isWord_12 : decode cX0_isWord 12 = .ok (.iconst 1, 1) := dk_4 (dk_at dksX0_isWord_0 12 rfl rfl)
theorem dX0_isWord_13 : decode cX0_isWord 13 = .ok (.isub, 1) := dk_100 (dk_at dksX0_isWord_0 13 rfl rfl)
theorem dX0_isWord_14 : decode cX0_isWord 14 = .ok (.invokestatic 235, 3) := dk_184 0 235 (dk_at dksX0_isWord_0 14 rfl rfl)
theorem dX0_isWord_17 : decode cX0_isWord 17 = .ok (.ireturn, 1) := dk_172 (dk_at dksX0_isWord_0 17 rfl rfl)
abbrev cX0_isIn : ByteArray := prog_1_method_19_code
def yX0_isIn : MethodName := ⟨RX0, "isIn", "(III)Z"⟩
def dkwX0_isIn_0 : List UInt8 := [26, 27, 161, 0, 12, 26, 28, 163, 0, 7, 4, 167, 0, 4, 3, 172]
abbrev dktX0_isIn_0 : List UInt8 := dkwX0_isIn_0 ++ []
theorem dksX0_isIn_0 : cX0_isIn.data.toList.drop 0 = dktX0_isIn_0 := by decide +kernel
theorem dX0_isIn_0 : decode cX0_isIn 0 = .ok (.iload_n 0, 1) := dk_26 (dk_at dksX0_isIn_0 0 rfl rfl)
theorem dX0_isIn_1 : decode cX0_isIn 1 = .ok (.iload_n 1, 1) := dk_27 (dk_at dksX0_isIn_0 1 rfl rfl)
theorem dX0_isIn_2 : decode cX0_isIn 2 = .ok (.if_icmp .lt 12, 3) := dk_161 0 12 (dk_at dksX0_isIn_0 2 rfl rfl)
theorem dX0_isIn_5 : decode cX0_isIn 5 = .ok (.iload_n 0, 1) := dk_26 (dk_at dksX0_isIn_0 5 rfl rfl)
theorem dX0_isIn_6 : decode cX0_isIn 6 = .ok (.iload_n 2, 1) := dk_28 (dk_at dksX0_isIn_0 6 rfl rfl)
theorem dX0_isIn_7 : decode cX0_isIn 7 = .ok (.if_icmp .gt 7, 3) := dk_163 0 7 (dk_at dksX0_isIn_0 7 rfl rfl)
theorem dX0_isIn_10 : decode cX0_isIn 10 = .ok (.iconst 1, 1) := dk_4 (dk_at dksX0_isIn_0 10 rfl rfl)
theorem dX0_isIn_11 : decode cX0_isIn 11 = .ok (.goto 4, 3) := dk_167 0 4 (dk_at dksX0_isIn_0 11 rfl rfl)
theorem dX0_isIn_14 : decode cX0_isIn 14 = .ok (.iconst 0, 1) := dk_3 (dk_at dksX0_isIn_0 14 rfl rfl)
theorem dX0_isIn_15 : decode cX0_isIn 15 = .ok (.ireturn, 1) := dk_172 (dk_at dksX0_isIn_0 15 rfl rfl)
abbrev cX0_isGuild : ByteArray := prog_1_method_21_code
def yX0_isGuild : MethodName := ⟨RX0, "isGuild", "(I)Z"⟩
def dkwX0_isGuild_0 : List UInt8 := [26, 3, 5, 184, 0, 235, 172]
abbrev dktX0_isGuild_0 : List UInt8 := dkwX0_isGuild_0 ++ []
theorem dksX0_isGuild_0 : cX0_isGuild.data.toList.drop 0 = dktX0_isGuild_0 := by decide +kernel
theorem dX0_isGuild_0 : decode cX0_isGuild 0 = .ok (.iload_n 0, 1) := dk_26 (dk_at dksX0_isGuild_0 0 rfl rfl)
theorem dX0_isGuild_1 : decode cX0_isGuild 1 = .ok (.iconst 0, 1) := dk_3 (dk_at dksX0_isGuild_0 1 rfl rfl)
theorem dX0_isGuild_2 : decode cX0_isGuild 2 = .ok (.iconst 2, 1) := dk_5 (dk_at dksX0_isGuild_0 2 rfl rfl)
theorem dX0_isGuild_3 : decode cX0_isGuild 3 = .ok (.invokestatic 235, 3) := dk_184 0 235 (dk_at dksX0_isGuild_0 3 rfl rfl)
theorem dX0_isGuild_6 : decode cX0_isGuild 6 = .ok (.ireturn, 1) := dk_172 (dk_at dksX0_isGuild_0 6 rfl rfl)
abbrev cX0_behind : ByteArray := prog_1_method_24_code
def yX0_behind : MethodName := ⟨RX0, "behind", "(III)I"⟩
def dkwX0_behind_1 : List UInt8 := [180, 0, 31, 180, 0, 114, 6, 16, 8, 27, 104, 28, 96, 104, 29, 96, 46, 167, 0, 5, 18, 245, 172]
abbrev dktX0_behind_1 : List UInt8 := dkwX0_behind_1 ++ []
def dkwX0_behind_0 : List UInt8 := [42, 27, 182, 0, 239, 153, 0, 39, 42, 28, 182, 0, 239, 153, 0, 31, 29, 184, 0, 242, 153, 0, 24, 42]
abbrev dktX0_behind_0 : List UInt8 := dkwX0_behind_0 ++ dktX0_behind_1
theorem dksX0_behind_0 : cX0_behind.data.toList.drop 0 = dktX0_behind_0 := by decide +kernel
theorem dksX0_behind_1 : cX0_behind.data.toList.drop 24 = dktX0_behind_1 := dk_seg dksX0_behind_0 24 rfl rfl
theorem dX0_behind_0 : decode cX0_behind 0 = .ok (.aload_n 0, 1) := dk_42 (dk_at dksX0_behind_0 0 rfl rfl)
theorem dX0_behind_1 : decode cX0_behind 1 = .ok (.iload_n 1, 1) := dk_27 (dk_at dksX0_behind_0 1 rfl rfl)
theorem dX0_behind_2 : decode cX0_behind 2 = .ok (.invokevirtual 239, 3) := dk_182 0 239 (dk_at dksX0_behind_0 2 rfl rfl)
theorem dX0_behind_5 : decode cX0_behind 5 = .ok (.ifCond .eq 39, 3) := dk_153 0 39 (dk_at dksX0_behind_0 5 rfl rfl)
theorem dX0_behind_8 : decode cX0_behind 8 = .ok (.aload_n 0, 1) := dk_42 (dk_at dksX0_behind_0 8 rfl rfl)
theorem dX0_behind_9 : decode cX0_behind 9 = .ok (.iload_n 2, 1) := dk_28 (dk_at dksX0_behind_0 9 rfl rfl)
theorem dX0_behind_10 : decode cX0_behind 10 = .ok (.invokevirtual 239, 3) := dk_182 0 239 (dk_at dksX0_behind_0 10 rfl rfl)
theorem dX0_behind_13 : decode cX0_behind 13 = .ok (.ifCond .eq 31, 3) := dk_153 0 31 (dk_at dksX0_behind_0 13 rfl rfl)
theorem dX0_behind_16 : decode cX0_behind 16 = .ok (.iload_n 3, 1) := dk_29 (dk_at dksX0_behind_0 16 rfl rfl)
theorem dX0_behind_17 : decode cX0_behind 17 = .ok (.invokestatic 242, 3) := dk_184 0 242 (dk_at dksX0_behind_0 17 rfl rfl)
theorem dX0_behind_20 : decode cX0_behind 20 = .ok (.ifCond .eq 24, 3) := dk_153 0 24 (dk_at dksX0_behind_0 20 rfl rfl)
theorem dX0_behind_23 : decode cX0_behind 23 = .ok (.aload_n 0, 1) := dk_42 (dk_at dksX0_behind_0 23 rfl rfl)
theorem dX0_behind_24 : decode cX0_behind 24 = .ok (.getfield 31, 3) := dk_180 0 31 (dk_at dksX0_behind_1 0 rfl rfl)
theorem dX0_behind_27 : decode cX0_behind 27 = .ok (.getfield 114, 3) := dk_180 0 114 (dk_at dksX0_behind_1 3 rfl rfl)
theorem dX0_behind_30 : decode cX0_behind 30 = .ok (.iconst 3, 1) := dk_6 (dk_at dksX0_behind_1 6 rfl rfl)
theorem dX0_behind_31 : decode cX0_behind 31 = .ok (.bipush 8, 2) := dk_16 8 (dk_at dksX0_behind_1 7 rfl rfl)
theorem dX0_behind_33 : decode cX0_behind 33 = .ok (.iload_n 1, 1) := dk_27 (dk_at dksX0_behind_1 9 rfl rfl)
theorem dX0_behind_34 : decode cX0_behind 34 = .ok (.imul, 1) := dk_104 (dk_at dksX0_behind_1 10 rfl rfl)
theorem dX0_behind_35 : decode cX0_behind 35 = .ok (.iload_n 2, 1) := dk_28 (dk_at dksX0_behind_1 11 rfl rfl)
theorem dX0_behind_36 : decode cX0_behind 36 = .ok (.iadd, 1) := dk_96 (dk_at dksX0_behind_1 12 rfl rfl)
theorem dX0_behind_37 : decode cX0_behind 37 = .ok (.imul, 1) := dk_104 (dk_at dksX0_behind_1 13 rfl rfl)
theorem dX0_behind_38 : decode cX0_behind 38 = .ok (.iload_n 3, 1) := dk_29 (dk_at dksX0_behind_1 14 rfl rfl)
theorem dX0_behind_39 : decode cX0_behind 39 = .ok (.iadd, 1) := dk_96 (dk_at dksX0_behind_1 15 rfl rfl)
theorem dX0_behind_40 : decode cX0_behind 40 = .ok (.iaload, 1) := dk_46 (dk_at dksX0_behind_1 16 rfl rfl)
theorem dX0_behind_41 : decode cX0_behind 41 = .ok (.goto 5, 3) := dk_167 0 5 (dk_at dksX0_behind_1 17 rfl rfl)
theorem dX0_behind_44 : decode cX0_behind 44 = .ok (.ldc 245, 2) := dk_18 245 (dk_at dksX0_behind_1 20 rfl rfl)
theorem dX0_behind_46 : decode cX0_behind 46 = .ok (.ireturn, 1) := dk_172 (dk_at dksX0_behind_1 22 rfl rfl)
abbrev cX0_undo : ByteArray := prog_1_method_28_code
def yX0_undo : MethodName := ⟨RX0, "undo", "()Z"⟩
def dkwX0_undo_1 : List UInt8 := [4, 96, 181, 0, 253, 42, 42, 180, 0, 169, 42, 180, 0, 250, 50, 182, 1, 0, 4, 172]
abbrev dktX0_undo_1 : List UInt8 := dkwX0_undo_1 ++ []
def dkwX0_undo_0 : List UInt8 := [42, 180, 0, 250, 154, 0, 5, 3, 172, 42, 89, 180, 0, 250, 4, 100, 181, 0, 250, 42, 89, 180, 0, 253]
abbrev dktX0_undo_0 : List UInt8 := dkwX0_undo_0 ++ dktX0_undo_1
theorem dksX0_undo_0 : cX0_undo.data.toList.drop 0 = dktX0_undo_0 := by decide +kernel
theorem dksX0_undo_1 : cX0_undo.data.toList.drop 24 = dktX0_undo_1 := dk_seg dksX0_undo_0 24 rfl rfl
theorem dX0_undo_0 : decode cX0_undo 0 = .ok (.aload_n 0, 1) := dk_42 (dk_at dksX0_undo_0 0 rfl rfl)
theorem dX0_undo_1 : decode cX0_undo 1 = .ok (.getfield 250, 3) := dk_180 0 250 (dk_at dksX0_undo_0 1 rfl rfl)
theorem dX0_undo_4 : decode cX0_undo 4 = .ok (.ifCond .ne 5, 3) := dk_154 0 5 (dk_at dksX0_undo_0 4 rfl rfl)
theorem dX0_undo_7 : decode cX0_undo 7 = .ok (.iconst 0, 1) := dk_3 (dk_at dksX0_undo_0 7 rfl rfl)
theorem dX0_undo_8 : decode cX0_undo 8 = .ok (.ireturn, 1) := dk_172 (dk_at dksX0_undo_0 8 rfl rfl)
theorem dX0_undo_9 : decode cX0_undo 9 = .ok (.aload_n 0, 1) := dk_42 (dk_at dksX0_undo_0 9 rfl rfl)
theorem dX0_undo_10 : decode cX0_undo 10 = .ok (.dup, 1) := dk_89 (dk_at dksX0_undo_0 10 rfl rfl)
theorem dX0_undo_11 : decode cX0_undo 11 = .ok (.getfield 250, 3) := dk_180 0 250 (dk_at dksX0_undo_0 11 rfl rfl)
theorem dX0_undo_14 : decode cX0_undo 14 = .ok (.iconst 1, 1) := dk_4 (dk_at dksX0_undo_0 14 rfl rfl)
theorem dX0_undo_15 : decode cX0_undo 15 = .ok (.isub, 1) := dk_100 (dk_at dksX0_undo_0 15 rfl rfl)
theorem dX0_undo_16 : decode cX0_undo 16 = .ok (.putfield 250, 3) := dk_181 0 250 (dk_at dksX0_undo_0 16 rfl rfl)
theorem dX0_undo_19 : decode cX0_undo 19 = .ok (.aload_n 0, 1) := dk_42 (dk_at dksX0_undo_0 19 rfl rfl)
theorem dX0_undo_20 : decode cX0_undo 20 = .ok (.dup, 1) := dk_89 (dk_at dksX0_undo_0 20 rfl rfl)
theorem dX0_undo_21 : decode cX0_undo 21 = .ok (.getfield 253, 3) := dk_180 0 253 (dk_at dksX0_undo_0 21 rfl rfl)
theorem dX0_undo_24 : decode cX0_undo 24 = .ok (.iconst 1, 1) := dk_4 (dk_at dksX0_undo_1 0 rfl rfl)
theorem dX0_undo_25 : decode cX0_undo 25 = .ok (.iadd, 1) := dk_96 (dk_at dksX0_undo_1 1 rfl rfl)
theorem dX0_undo_26 : decode cX0_undo 26 = .ok (.putfield 253, 3) := dk_181 0 253 (dk_at dksX0_undo_1 2 rfl rfl)
theorem dX0_undo_29 : decode cX0_undo 29 = .ok (.aload_n 0, 1) := dk_42 (dk_at dksX0_undo_1 5 rfl rfl)
theorem dX0_undo_30 : decode cX0_undo 30 = .ok (.aload_n 0, 1) := dk_42 (dk_at dksX0_undo_1 6 rfl rfl)
theorem dX0_undo_31 : decode cX0_undo 31 = .ok (.getfield 169, 3) := dk_180 0 169 (dk_at dksX0_undo_1 7 rfl rfl)
theorem dX0_undo_34 : decode cX0_undo 34 = .ok (.aload_n 0, 1) := dk_42 (dk_at dksX0_undo_1 10 rfl rfl)
theorem dX0_undo_35 : decode cX0_undo 35 = .ok (.getfield 250, 3) := dk_180 0 250 (dk_at dksX0_undo_1 11 rfl rfl)
theorem dX0_undo_38 : decode cX0_undo 38 = .ok (.aaload, 1) := dk_50 (dk_at dksX0_undo_1 14 rfl rfl)
theorem dX0_undo_39 : decode cX0_undo 39 = .ok (.invokevirtual 256, 3) := dk_182 1 0 (dk_at dksX0_undo_1 15 rfl rfl)
theorem dX0_undo_42 : decode cX0_undo 42 = .ok (.iconst 1, 1) := dk_4 (dk_at dksX0_undo_1 18 rfl rfl)
theorem dX0_undo_43 : decode cX0_undo 43 = .ok (.ireturn, 1) := dk_172 (dk_at dksX0_undo_1 19 rfl rfl)
abbrev cX0_exchange : ByteArray := prog_1_method_27_code
def yX0_exchange : MethodName := ⟨RX0, "exchange", "([I)V"⟩
def dkwX0_exchange_1 : List UInt8 := [180, 0, 164, 28, 29, 79, 132, 2, 1, 167, 255, 227, 177]
abbrev dktX0_exchange_1 : List UInt8 := dkwX0_exchange_1 ++ []
def dkwX0_exchange_0 : List UInt8 := [3, 61, 28, 16, 13, 162, 0, 29, 43, 28, 46, 62, 43, 28, 42, 180, 0, 164, 28, 46, 79, 42]
abbrev dktX0_exchange_0 : List UInt8 := dkwX0_exchange_0 ++ dktX0_exchange_1
theorem dksX0_exchange_0 : cX0_exchange.data.toList.drop 0 = dktX0_exchange_0 := by decide +kernel
theorem dksX0_exchange_1 : cX0_exchange.data.toList.drop 22 = dktX0_exchange_1 := dk_seg dksX0_exchange_0 22 rfl rfl
theorem dX0_exchange_0 : decode cX0_exchange 0 = .ok (.iconst 0, 1) := dk_3 (dk_at dksX0_exchange_0 0 rfl rfl)
theorem dX0_exchange_1 : decode cX0_exchange 1 = .ok (.istore_n 2, 1) := dk_61 (dk_at dksX0_exchange_0 1 rfl rfl)
theorem dX0_exchange_2 : decode cX0_exchange 2 = .ok (.iload_n 2, 1) := dk_28 (dk_at dksX0_exchange_0 2 rfl rfl)
theorem dX0_exchange_3 : decode cX0_exchange 3 = .ok (.bipush 13, 2) := dk_16 13 (dk_at dksX0_exchange_0 3 rfl rfl)
theorem dX0_exchange_5 : decode cX0_exchange 5 = .ok (.if_icmp .ge 29, 3) := dk_162 0 29 (dk_at dksX0_exchange_0 5 rfl rfl)
theorem dX0_exchange_8 : decode cX0_exchange 8 = .ok (.aload_n 1, 1) := dk_43 (dk_at dksX0_exchange_0 8 rfl rfl)
theorem dX0_exchange_9 : decode cX0_exchange 9 = .ok (.iload_n 2, 1) := dk_28 (dk_at dksX0_exchange_0 9 rfl rfl)
theorem dX0_exchange_10 : decode cX0_exchange 10 = .ok (.iaload, 1) := dk_46 (dk_at dksX0_exchange_0 10 rfl rfl)
theorem dX0_exchange_11 : decode cX0_exchange 11 = .ok (.istore_n 3, 1) := dk_62 (dk_at dksX0_exchange_0 11 rfl rfl)
theorem dX0_exchange_12 : decode cX0_exchange 12 = .ok (.aload_n 1, 1) := dk_43 (dk_at dksX0_exchange_0 12 rfl rfl)
theorem dX0_exchange_13 : decode cX0_exchange 13 = .ok (.iload_n 2, 1) := dk_28 (dk_at dksX0_exchange_0 13 rfl rfl)
theorem dX0_exchange_14 : decode cX0_exchange 14 = .ok (.aload_n 0, 1) := dk_42 (dk_at dksX0_exchange_0 14 rfl rfl)
theorem dX0_exchange_15 : decode cX0_exchange 15 = .ok (.getfield 164, 3) := dk_180 0 164 (dk_at dksX0_exchange_0 15 rfl rfl)
theorem dX0_exchange_18 : decode cX0_exchange 18 = .ok (.iload_n 2, 1) := dk_28 (dk_at dksX0_exchange_0 18 rfl rfl)
theorem dX0_exchange_19 : decode cX0_exchange 19 = .ok (.iaload, 1) := dk_46 (dk_at dksX0_exchange_0 19 rfl rfl)
theorem dX0_exchange_20 : decode cX0_exchange 20 = .ok (.iastore, 1) := dk_79 (dk_at dksX0_exchange_0 20 rfl rfl)
theorem dX0_exchange_21 : decode cX0_exchange 21 = .ok (.aload_n 0, 1) := dk_42 (dk_at dksX0_exchange_0 21 rfl rfl)
theorem dX0_exchange_22 : decode cX0_exchange 22 = .ok (.getfield 164, 3) := dk_180 0 164 (dk_at dksX0_exchange_1 0 rfl rfl)
theorem dX0_exchange_25 : decode cX0_exchange 25 = .ok (.iload_n 2, 1) := dk_28 (dk_at dksX0_exchange_1 3 rfl rfl)
theorem dX0_exchange_26 : decode cX0_exchange 26 = .ok (.iload_n 3, 1) := dk_29 (dk_at dksX0_exchange_1 4 rfl rfl)
theorem dX0_exchange_27 : decode cX0_exchange 27 = .ok (.iastore, 1) := dk_79 (dk_at dksX0_exchange_1 5 rfl rfl)
theorem dX0_exchange_28 : decode cX0_exchange 28 = .ok (.iinc 2 1, 3) := dk_132 2 1 (dk_at dksX0_exchange_1 6 rfl rfl)
theorem dX0_exchange_31 : decode cX0_exchange 31 = .ok (.goto (-29), 3) := dk_167 255 227 (dk_at dksX0_exchange_1 9 rfl rfl)
theorem dX0_exchange_34 : decode cX0_exchange 34 = .ok (.return_, 1) := dk_177 (dk_at dksX0_exchange_1 12 rfl rfl)
abbrev cX0_redo : ByteArray := prog_1_method_29_code
def yX0_redo : MethodName := ⟨RX0, "redo", "()Z"⟩
def dkwX0_redo_1 : List UInt8 := [180, 0, 250, 4, 96, 181, 0, 250, 42, 89, 180, 0, 253, 4, 100, 181, 0, 253, 4, 172]
abbrev dktX0_redo_1 : List UInt8 := dkwX0_redo_1 ++ []
def dkwX0_redo_0 : List UInt8 := [42, 180, 0, 253, 154, 0, 5, 3, 172, 42, 42, 180, 0, 169, 42, 180, 0, 250, 50, 182, 1, 0, 42, 89]
abbrev dktX0_redo_0 : List UInt8 := dkwX0_redo_0 ++ dktX0_redo_1
theorem dksX0_redo_0 : cX0_redo.data.toList.drop 0 = dktX0_redo_0 := by decide +kernel
theorem dksX0_redo_1 : cX0_redo.data.toList.drop 24 = dktX0_redo_1 := dk_seg dksX0_redo_0 24 rfl rfl
theorem dX0_redo_0 : decode cX0_redo 0 = .ok (.aload_n 0, 1) := dk_42 (dk_at dksX0_redo_0 0 rfl rfl)
theorem dX0_redo_1 : decode cX0_redo 1 = .ok (.getfield 253, 3) := dk_180 0 253 (dk_at dksX0_redo_0 1 rfl rfl)
theorem dX0_redo_4 : decode cX0_redo 4 = .ok (.ifCond .ne 5, 3) := dk_154 0 5 (dk_at dksX0_redo_0 4 rfl rfl)
theorem dX0_redo_7 : decode cX0_redo 7 = .ok (.iconst 0, 1) := dk_3 (dk_at dksX0_redo_0 7 rfl rfl)
theorem dX0_redo_8 : decode cX0_redo 8 = .ok (.ireturn, 1) := dk_172 (dk_at dksX0_redo_0 8 rfl rfl)
theorem dX0_redo_9 : decode cX0_redo 9 = .ok (.aload_n 0, 1) := dk_42 (dk_at dksX0_redo_0 9 rfl rfl)
theorem dX0_redo_10 : decode cX0_redo 10 = .ok (.aload_n 0, 1) := dk_42 (dk_at dksX0_redo_0 10 rfl rfl)
theorem dX0_redo_11 : decode cX0_redo 11 = .ok (.getfield 169, 3) := dk_180 0 169 (dk_at dksX0_redo_0 11 rfl rfl)
theorem dX0_redo_14 : decode cX0_redo 14 = .ok (.aload_n 0, 1) := dk_42 (dk_at dksX0_redo_0 14 rfl rfl)
theorem dX0_redo_15 : decode cX0_redo 15 = .ok (.getfield 250, 3) := dk_180 0 250 (dk_at dksX0_redo_0 15 rfl rfl)
theorem dX0_redo_18 : decode cX0_redo 18 = .ok (.aaload, 1) := dk_50 (dk_at dksX0_redo_0 18 rfl rfl)
theorem dX0_redo_19 : decode cX0_redo 19 = .ok (.invokevirtual 256, 3) := dk_182 1 0 (dk_at dksX0_redo_0 19 rfl rfl)
theorem dX0_redo_22 : decode cX0_redo 22 = .ok (.aload_n 0, 1) := dk_42 (dk_at dksX0_redo_0 22 rfl rfl)
theorem dX0_redo_23 : decode cX0_redo 23 = .ok (.dup, 1) := dk_89 (dk_at dksX0_redo_0 23 rfl rfl)
theorem dX0_redo_24 : decode cX0_redo 24 = .ok (.getfield 250, 3) := dk_180 0 250 (dk_at dksX0_redo_1 0 rfl rfl)
theorem dX0_redo_27 : decode cX0_redo 27 = .ok (.iconst 1, 1) := dk_4 (dk_at dksX0_redo_1 3 rfl rfl)
theorem dX0_redo_28 : decode cX0_redo 28 = .ok (.iadd, 1) := dk_96 (dk_at dksX0_redo_1 4 rfl rfl)
theorem dX0_redo_29 : decode cX0_redo 29 = .ok (.putfield 250, 3) := dk_181 0 250 (dk_at dksX0_redo_1 5 rfl rfl)
theorem dX0_redo_32 : decode cX0_redo 32 = .ok (.aload_n 0, 1) := dk_42 (dk_at dksX0_redo_1 8 rfl rfl)
theorem dX0_redo_33 : decode cX0_redo 33 = .ok (.dup, 1) := dk_89 (dk_at dksX0_redo_1 9 rfl rfl)
theorem dX0_redo_34 : decode cX0_redo 34 = .ok (.getfield 253, 3) := dk_180 0 253 (dk_at dksX0_redo_1 10 rfl rfl)
theorem dX0_redo_37 : decode cX0_redo 37 = .ok (.iconst 1, 1) := dk_4 (dk_at dksX0_redo_1 13 rfl rfl)
theorem dX0_redo_38 : decode cX0_redo 38 = .ok (.isub, 1) := dk_100 (dk_at dksX0_redo_1 14 rfl rfl)
theorem dX0_redo_39 : decode cX0_redo 39 = .ok (.putfield 253, 3) := dk_181 0 253 (dk_at dksX0_redo_1 15 rfl rfl)
theorem dX0_redo_42 : decode cX0_redo 42 = .ok (.iconst 1, 1) := dk_4 (dk_at dksX0_redo_1 18 rfl rfl)
theorem dX0_redo_43 : decode cX0_redo 43 = .ok (.ireturn, 1) := dk_172 (dk_at dksX0_redo_1 19 rfl rfl)
abbrev cX0_turn : ByteArray := prog_1_method_30_code
def yX0_turn : MethodName := ⟨RX0, "turn", "(I)I"⟩
def dkwX0_turn_0 : List UInt8 := [42, 27, 182, 1, 4, 153, 0, 15, 42, 180, 0, 164, 16, 6, 27, 96, 46, 167, 0, 4, 2, 172]
abbrev dktX0_turn_0 : List UInt8 := dkwX0_turn_0 ++ []
theorem dksX0_turn_0 : cX0_turn.data.toList.drop 0 = dktX0_turn_0 := by decide +kernel
theorem dX0_turn_0 : decode cX0_turn 0 = .ok (.aload_n 0, 1) := dk_42 (dk_at dksX0_turn_0 0 rfl rfl)
theorem dX0_turn_1 : decode cX0_turn 1 = .ok (.iload_n 1, 1) := dk_27 (dk_at dksX0_turn_0 1 rfl rfl)
theorem dX0_turn_2 : decode cX0_turn 2 = .ok (.invokevirtual 260, 3) := dk_182 1 4 (dk_at dksX0_turn_0 2 rfl rfl)
theorem dX0_turn_5 : decode cX0_turn 5 = .ok (.ifCond .eq 15, 3) := dk_153 0 15 (dk_at dksX0_turn_0 5 rfl rfl)
theorem dX0_turn_8 : decode cX0_turn 8 = .ok (.aload_n 0, 1) := dk_42 (dk_at dksX0_turn_0 8 rfl rfl)
theorem dX0_turn_9 : decode cX0_turn 9 = .ok (.getfield 164, 3) := dk_180 0 164 (dk_at dksX0_turn_0 9 rfl rfl)
theorem dX0_turn_12 : decode cX0_turn 12 = .ok (.bipush 6, 2) := dk_16 6 (dk_at dksX0_turn_0 12 rfl rfl)
theorem dX0_turn_14 : decode cX0_turn 14 = .ok (.iload_n 1, 1) := dk_27 (dk_at dksX0_turn_0 14 rfl rfl)
theorem dX0_turn_15 : decode cX0_turn 15 = .ok (.iadd, 1) := dk_96 (dk_at dksX0_turn_0 15 rfl rfl)
theorem dX0_turn_16 : decode cX0_turn 16 = .ok (.iaload, 1) := dk_46 (dk_at dksX0_turn_0 16 rfl rfl)
theorem dX0_turn_17 : decode cX0_turn 17 = .ok (.goto 4, 3) := dk_167 0 4 (dk_at dksX0_turn_0 17 rfl rfl)
theorem dX0_turn_20 : decode cX0_turn 20 = .ok (.iconst (-1), 1) := dk_2 (dk_at dksX0_turn_0 20 rfl rfl)
theorem dX0_turn_21 : decode cX0_turn 21 = .ok (.ireturn, 1) := dk_172 (dk_at dksX0_turn_0 21 rfl rfl)
abbrev cX0_isPlace : ByteArray := prog_1_method_22_code
def yX0_isPlace : MethodName := ⟨RX0, "isPlace", "(I)Z"⟩
def dkwX0_isPlace_0 : List UInt8 := [27, 3, 42, 180, 0, 31, 182, 0, 65, 4, 100, 184, 0, 235, 172]
abbrev dktX0_isPlace_0 : List UInt8 := dkwX0_isPlace_0 ++ []
theorem dksX0_isPlace_0 : cX0_isPlace.data.toList.drop 0 = dktX0_isPlace_0 := by decide +kernel
theorem dX0_isPlace_0 : decode cX0_isPlace 0 = .ok (.iload_n 1, 1) := dk_27 (dk_at dksX0_isPlace_0 0 rfl rfl)
theorem dX0_isPlace_1 : decode cX0_isPlace 1 = .ok (.iconst 0, 1) := dk_3 (dk_at dksX0_isPlace_0 1 rfl rfl)
theorem dX0_isPlace_2 : decode cX0_isPlace 2 = .ok (.aload_n 0, 1) := dk_42 (dk_at dksX0_isPlace_0 2 rfl rfl)
theorem dX0_isPlace_3 : decode cX0_isPlace 3 = .ok (.getfield 31, 3) := dk_180 0 31 (dk_at dksX0_isPlace_0 3 rfl rfl)
theorem dX0_isPlace_6 : decode cX0_isPlace 6 = .ok (.invokevirtual 65, 3) := dk_182 0 65 (dk_at dksX0_isPlace_0 6 rfl rfl)
theorem dX0_isPlace_9 : decode cX0_isPlace 9 = .ok (.iconst 1, 1) := dk_4 (dk_at dksX0_isPlace_0 9 rfl rfl)
theorem dX0_isPlace_10 : decode cX0_isPlace 10 = .ok (.isub, 1) := dk_100 (dk_at dksX0_isPlace_0 10 rfl rfl)
theorem dX0_isPlace_11 : decode cX0_isPlace 11 = .ok (.invokestatic 235, 3) := dk_184 0 235 (dk_at dksX0_isPlace_0 11 rfl rfl)
theorem dX0_isPlace_14 : decode cX0_isPlace 14 = .ok (.ireturn, 1) := dk_172 (dk_at dksX0_isPlace_0 14 rfl rfl)
abbrev cX0_write : ByteArray := prog_1_method_32_code
def yX0_write : MethodName := ⟨RX0, "write", "(I)I"⟩
def dkwX0_write_1 : List UInt8 := [46, 27, 79, 42, 180, 0, 164, 16, 12, 92, 46, 4, 96, 79, 42, 180, 0, 164, 16, 12, 46, 172]
abbrev dktX0_write_1 : List UInt8 := dkwX0_write_1 ++ []
def dkwX0_write_0 : List UInt8 := [42, 27, 182, 1, 7, 154, 0, 5, 2, 172, 42, 182, 1, 10, 42, 180, 0, 164, 42, 180, 0, 164, 16, 12]
abbrev dktX0_write_0 : List UInt8 := dkwX0_write_0 ++ dktX0_write_1
theorem dksX0_write_0 : cX0_write.data.toList.drop 0 = dktX0_write_0 := by decide +kernel
theorem dksX0_write_1 : cX0_write.data.toList.drop 24 = dktX0_write_1 := dk_seg dksX0_write_0 24 rfl rfl
theorem dX0_write_0 : decode cX0_write 0 = .ok (.aload_n 0, 1) := dk_42 (dk_at dksX0_write_0 0 rfl rfl)
theorem dX0_write_1 : decode cX0_write 1 = .ok (.iload_n 1, 1) := dk_27 (dk_at dksX0_write_0 1 rfl rfl)
theorem dX0_write_2 : decode cX0_write 2 = .ok (.invokevirtual 263, 3) := dk_182 1 7 (dk_at dksX0_write_0 2 rfl rfl)
theorem dX0_write_5 : decode cX0_write 5 = .ok (.ifCond .ne 5, 3) := dk_154 0 5 (dk_at dksX0_write_0 5 rfl rfl)
theorem dX0_write_8 : decode cX0_write 8 = .ok (.iconst (-1), 1) := dk_2 (dk_at dksX0_write_0 8 rfl rfl)
theorem dX0_write_9 : decode cX0_write 9 = .ok (.ireturn, 1) := dk_172 (dk_at dksX0_write_0 9 rfl rfl)
theorem dX0_write_10 : decode cX0_write 10 = .ok (.aload_n 0, 1) := dk_42 (dk_at dksX0_write_0 10 rfl rfl)
theorem dX0_write_11 : decode cX0_write 11 = .ok (.invokevirtual 266, 3) := dk_182 1 10 (dk_at dksX0_write_0 11 rfl rfl)
theorem dX0_write_14 : decode cX0_write 14 = .ok (.aload_n 0, 1) := dk_42 (dk_at dksX0_write_0 14 rfl rfl)
theorem dX0_write_15 : decode cX0_write 15 = .ok (.getfield 164, 3) := dk_180 0 164 (dk_at dksX0_write_0 15 rfl rfl)
theorem dX0_write_18 : decode cX0_write 18 = .ok (.aload_n 0, 1) := dk_42 (dk_at dksX0_write_0 18 rfl rfl)
theorem dX0_write_19 : decode cX0_write 19 = .ok (.getfield 164, 3) := dk_180 0 164 (dk_at dksX0_write_0 19 rfl rfl)
theorem dX0_write_22 : decode cX0_write 22 = .ok (.bipush 12, 2) := dk_16 12 (dk_at dksX0_write_0 22 rfl rfl)
theorem dX0_write_24 : decode cX0_write 24 = .ok (.iaload, 1) := dk_46 (dk_at dksX0_write_1 0 rfl rfl)
theorem dX0_write_25 : decode cX0_write 25 = .ok (.iload_n 1, 1) := dk_27 (dk_at dksX0_write_1 1 rfl rfl)
theorem dX0_write_26 : decode cX0_write 26 = .ok (.iastore, 1) := dk_79 (dk_at dksX0_write_1 2 rfl rfl)
theorem dX0_write_27 : decode cX0_write 27 = .ok (.aload_n 0, 1) := dk_42 (dk_at dksX0_write_1 3 rfl rfl)
theorem dX0_write_28 : decode cX0_write 28 = .ok (.getfield 164, 3) := dk_180 0 164 (dk_at dksX0_write_1 4 rfl rfl)
theorem dX0_write_31 : decode cX0_write 31 = .ok (.bipush 12, 2) := dk_16 12 (dk_at dksX0_write_1 7 rfl rfl)
theorem dX0_write_33 : decode cX0_write 33 = .ok (.dup2, 1) := dk_92 (dk_at dksX0_write_1 9 rfl rfl)
theorem dX0_write_34 : decode cX0_write 34 = .ok (.iaload, 1) := dk_46 (dk_at dksX0_write_1 10 rfl rfl)
theorem dX0_write_35 : decode cX0_write 35 = .ok (.iconst 1, 1) := dk_4 (dk_at dksX0_write_1 11 rfl rfl)
theorem dX0_write_36 : decode cX0_write 36 = .ok (.iadd, 1) := dk_96 (dk_at dksX0_write_1 12 rfl rfl)
theorem dX0_write_37 : decode cX0_write 37 = .ok (.iastore, 1) := dk_79 (dk_at dksX0_write_1 13 rfl rfl)
theorem dX0_write_38 : decode cX0_write 38 = .ok (.aload_n 0, 1) := dk_42 (dk_at dksX0_write_1 14 rfl rfl)
theorem dX0_write_39 : decode cX0_write 39 = .ok (.getfield 164, 3) := dk_180 0 164 (dk_at dksX0_write_1 15 rfl rfl)
theorem dX0_write_42 : decode cX0_write 42 = .ok (.bipush 12, 2) := dk_16 12 (dk_at dksX0_write_1 18 rfl rfl)
theorem dX0_write_44 : decode cX0_write 44 = .ok (.iaload, 1) := dk_46 (dk_at dksX0_write_1 20 rfl rfl)
theorem dX0_write_45 : decode cX0_write 45 = .ok (.ireturn, 1) := dk_172 (dk_at dksX0_write_1 21 rfl rfl)
abbrev cX0_canCome : ByteArray := prog_1_method_31_code
def yX0_canCome : MethodName := ⟨RX0, "canCome", "(I)Z"⟩
def dkwX0_canCome_2 : List UInt8 := [96, 182, 0, 87, 172]
abbrev dktX0_canCome_2 : List UInt8 := dkwX0_canCome_2 ++ []
def dkwX0_canCome_1 : List UInt8 := [154, 0, 5, 3, 172, 42, 42, 180, 0, 164, 28, 182, 0, 104, 42, 180, 0, 11, 28, 27, 79, 42, 28, 4]
abbrev dktX0_canCome_1 : List UInt8 := dkwX0_canCome_1 ++ dktX0_canCome_2
def dkwX0_canCome_0 : List UInt8 := [42, 180, 0, 164, 16, 12, 46, 61, 28, 42, 180, 0, 31, 182, 0, 65, 159, 0, 11, 42, 27, 182, 0, 239]
abbrev dktX0_canCome_0 : List UInt8 := dkwX0_canCome_0 ++ dktX0_canCome_1
theorem dksX0_canCome_0 : cX0_canCome.data.toList.drop 0 = dktX0_canCome_0 := by decide +kernel
theorem dksX0_canCome_1 : cX0_canCome.data.toList.drop 24 = dktX0_canCome_1 := dk_seg dksX0_canCome_0 24 rfl rfl
theorem dksX0_canCome_2 : cX0_canCome.data.toList.drop 48 = dktX0_canCome_2 := dk_seg dksX0_canCome_1 24 rfl rfl
theorem dX0_canCome_0 : decode cX0_canCome 0 = .ok (.aload_n 0, 1) := dk_42 (dk_at dksX0_canCome_0 0 rfl rfl)
theorem dX0_canCome_1 : decode cX0_canCome 1 = .ok (.getfield 164, 3) := dk_180 0 164 (dk_at dksX0_canCome_0 1 rfl rfl)
theorem dX0_canCome_4 : decode cX0_canCome 4 = .ok (.bipush 12, 2) := dk_16 12 (dk_at dksX0_canCome_0 4 rfl rfl)
theorem dX0_canCome_6 : decode cX0_canCome 6 = .ok (.iaload, 1) := dk_46 (dk_at dksX0_canCome_0 6 rfl rfl)
theorem dX0_canCome_7 : decode cX0_canCome 7 = .ok (.istore_n 2, 1) := dk_61 (dk_at dksX0_canCome_0 7 rfl rfl)
theorem dX0_canCome_8 : decode cX0_canCome 8 = .ok (.iload_n 2, 1) := dk_28 (dk_at dksX0_canCome_0 8 rfl rfl)
theorem dX0_canCome_9 : decode cX0_canCome 9 = .ok (.aload_n 0, 1) := dk_42 (dk_at dksX0_canCome_0 9 rfl rfl)
theorem dX0_canCome_10 : decode cX0_canCome 10 = .ok (.getfield 31, 3) := dk_180 0 31 (dk_at dksX0_canCome_0 10 rfl rfl)
theorem dX0_canCome_13 : decode cX0_canCome 13 = .ok (.invokevirtual 65, 3) := dk_182 0 65 (dk_at dksX0_canCome_0 13 rfl rfl)
theorem dX0_canCome_16 : decode cX0_canCome 16 = .ok (.if_icmp .eq 11, 3) := dk_159 0 11 (dk_at dksX0_canCome_0 16 rfl rfl)
theorem dX0_canCome_19 : decode cX0_canCome 19 = .ok (.aload_n 0, 1) := dk_42 (dk_at dksX0_canCome_0 19 rfl rfl)
theorem dX0_canCome_20 : decode cX0_canCome 20 = .ok (.iload_n 1, 1) := dk_27 (dk_at dksX0_canCome_0 20 rfl rfl)
theorem dX0_canCome_21 : decode cX0_canCome 21 = .ok (.invokevirtual 239, 3) := dk_182 0 239 (dk_at dksX0_canCome_0 21 rfl rfl)
theorem dX0_canCome_24 : decode cX0_canCome 24 = .ok (.ifCond .ne 5, 3) := dk_154 0 5 (dk_at dksX0_canCome_1 0 rfl rfl)
theorem dX0_canCome_27 : decode cX0_canCome 27 = .ok (.iconst 0, 1) := dk_3 (dk_at dksX0_canCome_1 3 rfl rfl)
theorem dX0_canCome_28 : decode cX0_canCome 28 = .ok (.ireturn, 1) := dk_172 (dk_at dksX0_canCome_1 4 rfl rfl)
theorem dX0_canCome_29 : decode cX0_canCome 29 = .ok (.aload_n 0, 1) := dk_42 (dk_at dksX0_canCome_1 5 rfl rfl)
theorem dX0_canCome_30 : decode cX0_canCome 30 = .ok (.aload_n 0, 1) := dk_42 (dk_at dksX0_canCome_1 6 rfl rfl)
theorem dX0_canCome_31 : decode cX0_canCome 31 = .ok (.getfield 164, 3) := dk_180 0 164 (dk_at dksX0_canCome_1 7 rfl rfl)
theorem dX0_canCome_34 : decode cX0_canCome 34 = .ok (.iload_n 2, 1) := dk_28 (dk_at dksX0_canCome_1 10 rfl rfl)
theorem dX0_canCome_35 : decode cX0_canCome 35 = .ok (.invokevirtual 104, 3) := dk_182 0 104 (dk_at dksX0_canCome_1 11 rfl rfl)
theorem dX0_canCome_38 : decode cX0_canCome 38 = .ok (.aload_n 0, 1) := dk_42 (dk_at dksX0_canCome_1 14 rfl rfl)
theorem dX0_canCome_39 : decode cX0_canCome 39 = .ok (.getfield 11, 3) := dk_180 0 11 (dk_at dksX0_canCome_1 15 rfl rfl)
theorem dX0_canCome_42 : decode cX0_canCome 42 = .ok (.iload_n 2, 1) := dk_28 (dk_at dksX0_canCome_1 18 rfl rfl)
theorem dX0_canCome_43 : decode cX0_canCome 43 = .ok (.iload_n 1, 1) := dk_27 (dk_at dksX0_canCome_1 19 rfl rfl)
theorem dX0_canCome_44 : decode cX0_canCome 44 = .ok (.iastore, 1) := dk_79 (dk_at dksX0_canCome_1 20 rfl rfl)
theorem dX0_canCome_45 : decode cX0_canCome 45 = .ok (.aload_n 0, 1) := dk_42 (dk_at dksX0_canCome_1 21 rfl rfl)
theorem dX0_canCome_46 : decode cX0_canCome 46 = .ok (.iload_n 2, 1) := dk_28 (dk_at dksX0_canCome_1 22 rfl rfl)
theorem dX0_canCome_47 : decode cX0_canCome 47 = .ok (.iconst 1, 1) := dk_4 (dk_at dksX0_canCome_1 23 rfl rfl)
theorem dX0_canCome_48 : decode cX0_canCome 48 = .ok (.iadd, 1) := dk_96 (dk_at dksX0_canCome_2 0 rfl rfl)
theorem dX0_canCome_49 : decode cX0_canCome 49 = .ok (.invokevirtual 87, 3) := dk_182 0 87 (dk_at dksX0_canCome_2 1 rfl rfl)
theorem dX0_canCome_52 : decode cX0_canCome 52 = .ok (.ireturn, 1) := dk_172 (dk_at dksX0_canCome_2 4 rfl rfl)
abbrev cX0_load : ByteArray := prog_1_method_6_code
def yX0_load : MethodName := ⟨RX0, "load", "([II)V"⟩
def dkwX0_load_0 : List UInt8 := [43, 3, 42, 180, 0, 11, 3, 28, 184, 0, 72, 177]
abbrev dktX0_load_0 : List UInt8 := dkwX0_load_0 ++ []
theorem dksX0_load_0 : cX0_load.data.toList.drop 0 = dktX0_load_0 := by decide +kernel
theorem dX0_load_0 : decode cX0_load 0 = .ok (.aload_n 1, 1) := dk_43 (dk_at dksX0_load_0 0 rfl rfl)
theorem dX0_load_1 : decode cX0_load 1 = .ok (.iconst 0, 1) := dk_3 (dk_at dksX0_load_0 1 rfl rfl)
theorem dX0_load_2 : decode cX0_load 2 = .ok (.aload_n 0, 1) := dk_42 (dk_at dksX0_load_0 2 rfl rfl)
theorem dX0_load_3 : decode cX0_load 3 = .ok (.getfield 11, 3) := dk_180 0 11 (dk_at dksX0_load_0 3 rfl rfl)
theorem dX0_load_6 : decode cX0_load 6 = .ok (.iconst 0, 1) := dk_3 (dk_at dksX0_load_0 6 rfl rfl)
theorem dX0_load_7 : decode cX0_load 7 = .ok (.iload_n 2, 1) := dk_28 (dk_at dksX0_load_0 7 rfl rfl)
theorem dX0_load_8 : decode cX0_load 8 = .ok (.invokestatic 72, 3) := dk_184 0 72 (dk_at dksX0_load_0 8 rfl rfl)
theorem dX0_load_11 : decode cX0_load 11 = .ok (.return_, 1) := dk_177 (dk_at dksX0_load_0 11 rfl rfl)
abbrev cX0_canGoOn : ByteArray := prog_1_method_5_code
def yX0_canGoOn : MethodName := ⟨RX0, "canGoOn", "(I)Z"⟩
def dkwX0_canGoOn_1 : List UInt8 := [132, 3, 1, 167, 255, 241, 42, 28, 182, 0, 68, 9, 148, 158, 0, 7, 4, 167, 0, 4, 3, 172]
abbrev dktX0_canGoOn_1 : List UInt8 := dkwX0_canGoOn_1 ++ []
def dkwX0_canGoOn_0 : List UInt8 := [42, 180, 0, 31, 182, 0, 65, 61, 27, 62, 29, 28, 162, 0, 16, 42, 180, 0, 11, 29, 2, 79]
abbrev dktX0_canGoOn_0 : List UInt8 := dkwX0_canGoOn_0 ++ dktX0_canGoOn_1
theorem dksX0_canGoOn_0 : cX0_canGoOn.data.toList.drop 0 = dktX0_canGoOn_0 := by decide +kernel
theorem dksX0_canGoOn_1 : cX0_canGoOn.data.toList.drop 22 = dktX0_canGoOn_1 := dk_seg dksX0_canGoOn_0 22 rfl rfl
theorem dX0_canGoOn_0 : decode cX0_canGoOn 0 = .ok (.aload_n 0, 1) := dk_42 (dk_at dksX0_canGoOn_0 0 rfl rfl)
theorem dX0_canGoOn_1 : decode cX0_canGoOn 1 = .ok (.getfield 31, 3) := dk_180 0 31 (dk_at dksX0_canGoOn_0 1 rfl rfl)
theorem dX0_canGoOn_4 : decode cX0_canGoOn 4 = .ok (.invokevirtual 65, 3) := dk_182 0 65 (dk_at dksX0_canGoOn_0 4 rfl rfl)
theorem dX0_canGoOn_7 : decode cX0_canGoOn 7 = .ok (.istore_n 2, 1) := dk_61 (dk_at dksX0_canGoOn_0 7 rfl rfl)
theorem dX0_canGoOn_8 : decode cX0_canGoOn 8 = .ok (.iload_n 1, 1) := dk_27 (dk_at dksX0_canGoOn_0 8 rfl rfl)
theorem dX0_canGoOn_9 : decode cX0_canGoOn 9 = .ok (.istore_n 3, 1) := dk_62 (dk_at dksX0_canGoOn_0 9 rfl rfl)
theorem dX0_canGoOn_10 : decode cX0_canGoOn 10 = .ok (.iload_n 3, 1) := dk_29 (dk_at dksX0_canGoOn_0 10 rfl rfl)
theorem dX0_canGoOn_11 : decode cX0_canGoOn 11 = .ok (.iload_n 2, 1) := dk_28 (dk_at dksX0_canGoOn_0 11 rfl rfl)
theorem dX0_canGoOn_12 : decode cX0_canGoOn 12 = .ok (.if_icmp .ge 16, 3) := dk_162 0 16 (dk_at dksX0_canGoOn_0 12 rfl rfl)
theorem dX0_canGoOn_15 : decode cX0_canGoOn 15 = .ok (.aload_n 0, 1) := dk_42 (dk_at dksX0_canGoOn_0 15 rfl rfl)
theorem dX0_canGoOn_16 : decode cX0_canGoOn 16 = .ok (.getfield 11, 3) := dk_180 0 11 (dk_at dksX0_canGoOn_0 16 rfl rfl)
theorem dX0_canGoOn_19 : decode cX0_canGoOn 19 = .ok (.iload_n 3, 1) := dk_29 (dk_at dksX0_canGoOn_0 19 rfl rfl)
theorem dX0_canGoOn_20 : decode cX0_canGoOn 20 = .ok (.iconst (-1), 1) := dk_2 (dk_at dksX0_canGoOn_0 20 rfl rfl)
theorem dX0_canGoOn_21 : decode cX0_canGoOn 21 = .ok (.iastore, 1) := dk_79 (dk_at dksX0_canGoOn_0 21 rfl rfl)
theorem dX0_canGoOn_22 : decode cX0_canGoOn 22 = .ok (.iinc 3 1, 3) := dk_132 3 1 (dk_at dksX0_canGoOn_1 0 rfl rfl)
theorem dX0_canGoOn_25 : decode cX0_canGoOn 25 = .ok (.goto (-15), 3) := dk_167 255 241 (dk_at dksX0_canGoOn_1 3 rfl rfl)
theorem dX0_canGoOn_28 : decode cX0_canGoOn 28 = .ok (.aload_n 0, 1) := dk_42 (dk_at dksX0_canGoOn_1 6 rfl rfl)
theorem dX0_canGoOn_29 : decode cX0_canGoOn 29 = .ok (.iload_n 2, 1) := dk_28 (dk_at dksX0_canGoOn_1 7 rfl rfl)
theorem dX0_canGoOn_30 : decode cX0_canGoOn 30 = .ok (.invokevirtual 68, 3) := dk_182 0 68 (dk_at dksX0_canGoOn_1 8 rfl rfl)
theorem dX0_canGoOn_33 : decode cX0_canGoOn 33 = .ok (.lconst 0, 1) := dk_9 (dk_at dksX0_canGoOn_1 11 rfl rfl)
theorem dX0_canGoOn_34 : decode cX0_canGoOn 34 = .ok (.lcmp, 1) := dk_148 (dk_at dksX0_canGoOn_1 12 rfl rfl)
theorem dX0_canGoOn_35 : decode cX0_canGoOn 35 = .ok (.ifCond .le 7, 3) := dk_158 0 7 (dk_at dksX0_canGoOn_1 13 rfl rfl)
theorem dX0_canGoOn_38 : decode cX0_canGoOn 38 = .ok (.iconst 1, 1) := dk_4 (dk_at dksX0_canGoOn_1 16 rfl rfl)
theorem dX0_canGoOn_39 : decode cX0_canGoOn 39 = .ok (.goto 4, 3) := dk_167 0 4 (dk_at dksX0_canGoOn_1 17 rfl rfl)
theorem dX0_canGoOn_42 : decode cX0_canGoOn 42 = .ok (.iconst 0, 1) := dk_3 (dk_at dksX0_canGoOn_1 20 rfl rfl)
theorem dX0_canGoOn_43 : decode cX0_canGoOn 43 = .ok (.ireturn, 1) := dk_172 (dk_at dksX0_canGoOn_1 21 rfl rfl)
abbrev cX0_readings : ByteArray := prog_1_method_4_code
def yX0_readings : MethodName := ⟨RX0, "readings", "(I)J"⟩
def dkwX0_readings_8 : List UInt8 := [180, 0, 3, 3, 3, 27, 184, 0, 7, 47, 173]
abbrev dktX0_readings_8 : List UInt8 := dkwX0_readings_8 ++ []
def dkwX0_readings_7 : List UInt8 := [22, 6, 80, 132, 4, 255, 167, 255, 133, 132, 3, 1, 167, 255, 106, 132, 2, 1, 167, 255, 93, 42]
abbrev dktX0_readings_7 : List UInt8 := dkwX0_readings_7 ++ dktX0_readings_8
def dkwX0_readings_6 : List UInt8 := [184, 0, 25, 55, 6, 132, 8, 1, 167, 255, 183, 42, 180, 0, 3, 21, 4, 29, 29, 28, 96, 184, 0, 7]
abbrev dktX0_readings_6 : List UInt8 := dkwX0_readings_6 ++ dktX0_readings_7
def dkwX0_readings_5 : List UInt8 := [180, 0, 57, 21, 8, 182, 0, 51, 192, 0, 60, 180, 0, 62, 3, 29, 29, 28, 96, 184, 0, 21, 97]
abbrev dktX0_readings_5 : List UInt8 := dkwX0_readings_5 ++ dktX0_readings_6
def dkwX0_readings_4 : List UInt8 := [21, 8, 182, 0, 51, 192, 0, 60, 180, 0, 62, 190, 28, 163, 0, 39, 20, 0, 19, 22, 6, 42, 25, 5]
abbrev dktX0_readings_4 : List UInt8 := dkwX0_readings_4 ++ dktX0_readings_5
def dkwX0_readings_3 : List UInt8 := [9, 55, 6, 3, 54, 8, 21, 8, 25, 5, 180, 0, 57, 182, 0, 47, 162, 0, 66, 25, 5, 180, 0, 57]
abbrev dktX0_readings_3 : List UInt8 := dkwX0_readings_3 ++ dktX0_readings_4
def dkwX0_readings_2 : List UInt8 := [54, 4, 21, 4, 155, 0, 124, 42, 180, 0, 31, 180, 0, 35, 21, 4, 182, 0, 51, 192, 0, 55, 58, 5]
abbrev dktX0_readings_2 : List UInt8 := dkwX0_readings_2 ++ dktX0_readings_3
def dkwX0_readings_1 : List UInt8 := [163, 0, 164, 3, 62, 29, 28, 96, 27, 163, 0, 149, 42, 180, 0, 31, 180, 0, 35, 182, 0, 47, 4, 100]
abbrev dktX0_readings_1 : List UInt8 := dkwX0_readings_1 ++ dktX0_readings_2
def dkwX0_readings_0 : List UInt8 := [42, 180, 0, 31, 180, 0, 35, 182, 0, 41, 154, 0, 7, 27, 154, 0, 5, 9, 173, 4, 61, 28, 27]
abbrev dktX0_readings_0 : List UInt8 := dkwX0_readings_0 ++ dktX0_readings_1
theorem dksX0_readings_0 : cX0_readings.data.toList.drop 0 = dktX0_readings_0 := by decide +kernel
theorem dksX0_readings_1 : cX0_readings.data.toList.drop 23 = dktX0_readings_1 := dk_seg dksX0_readings_0 23 rfl rfl
theorem dksX0_readings_2 : cX0_readings.data.toList.drop 47 = dktX0_readings_2 := dk_seg dksX0_readings_1 24 rfl rfl
theorem dksX0_readings_3 : cX0_readings.data.toList.drop 71 = dktX0_readings_3 := dk_seg dksX0_readings_2 24 rfl rfl
theorem dksX0_readings_4 : cX0_readings.data.toList.drop 95 = dktX0_readings_4 := dk_seg dksX0_readings_3 24 rfl rfl
theorem dksX0_readings_5 : cX0_readings.data.toList.drop 119 = dktX0_readings_5 := dk_seg dksX0_readings_4 24 rfl rfl
theorem dksX0_readings_6 : cX0_readings.data.toList.drop 142 = dktX0_readings_6 := dk_seg dksX0_readings_5 23 rfl rfl
theorem dksX0_readings_7 : cX0_readings.data.toList.drop 166 = dktX0_readings_7 := dk_seg dksX0_readings_6 24 rfl rfl
theorem dksX0_readings_8 : cX0_readings.data.toList.drop 188 = dktX0_readings_8 := dk_seg dksX0_readings_7 22 rfl rfl
theorem dX0_readings_0 : decode cX0_readings 0 = .ok (.aload_n 0, 1) := dk_42 (dk_at dksX0_readings_0 0 rfl rfl)
theorem dX0_readings_1 : decode cX0_readings 1 = .ok (.getfield 31, 3) := dk_180 0 31 (dk_at dksX0_readings_0 1 rfl rfl)
theorem dX0_readings_4 : decode cX0_readings 4 = .ok (.getfield 35, 3) := dk_180 0 35 (dk_at dksX0_readings_0 4 rfl rfl)
theorem dX0_readings_7 : decode cX0_readings 7 = .ok (.invokevirtual 41, 3) := dk_182 0 41 (dk_at dksX0_readings_0 7 rfl rfl)
theorem dX0_readings_10 : decode cX0_readings 10 = .ok (.ifCond .ne 7, 3) := dk_154 0 7 (dk_at dksX0_readings_0 10 rfl rfl)
theorem dX0_readings_13 : decode cX0_readings 13 = .ok (.iload_n 1, 1) := dk_27 (dk_at dksX0_readings_0 13 rfl rfl)
theorem dX0_readings_14 : decode cX0_readings 14 = .ok (.ifCond .ne 5, 3) := dk_154 0 5 (dk_at dksX0_readings_0 14 rfl rfl)
theorem dX0_readings_17 : decode cX0_readings 17 = .ok (.lconst 0, 1) := dk_9 (dk_at dksX0_readings_0 17 rfl rfl)
theorem dX0_readings_18 : decode cX0_readings 18 = .ok (.lreturn, 1) := dk_173 (dk_at dksX0_readings_0 18 rfl rfl)
theorem dX0_readings_19 : decode cX0_readings 19 = .ok (.iconst 1, 1) := dk_4 (dk_at dksX0_readings_0 19 rfl rfl)
theorem dX0_readings_20 : decode cX0_readings 20 = .ok (.istore_n 2, 1) := dk_61 (dk_at dksX0_readings_0 20 rfl rfl)
theorem dX0_readings_21 : decode cX0_readings 21 = .ok (.iload_n 2, 1) := dk_28 (dk_at dksX0_readings_0 21 rfl rfl)
theorem dX0_readings_22 : decode cX0_readings 22 = .ok (.iload_n 1, 1) := dk_27 (dk_at dksX0_readings_0 22 rfl rfl)
theorem dX0_readings_23 : decode cX0_readings 23 = .ok (.if_icmp .gt 164, 3) := dk_163 0 164 (dk_at dksX0_readings_1 0 rfl rfl)
theorem dX0_readings_26 : decode cX0_readings 26 = .ok (.iconst 0, 1) := dk_3 (dk_at dksX0_readings_1 3 rfl rfl)
theorem dX0_readings_27 : decode cX0_readings 27 = .ok (.istore_n 3, 1) := dk_62 (dk_at dksX0_readings_1 4 rfl rfl)
theorem dX0_readings_28 : decode cX0_readings 28 = .ok (.iload_n 3, 1) := dk_29 (dk_at dksX0_readings_1 5 rfl rfl)
theorem dX0_readings_29 : decode cX0_readings 29 = .ok (.iload_n 2, 1) := dk_28 (dk_at dksX0_readings_1 6 rfl rfl)
theorem dX0_readings_30 : decode cX0_readings 30 = .ok (.iadd, 1) := dk_96 (dk_at dksX0_readings_1 7 rfl rfl)
theorem dX0_readings_31 : decode cX0_readings 31 = .ok (.iload_n 1, 1) := dk_27 (dk_at dksX0_readings_1 8 rfl rfl)
theorem dX0_readings_32 : decode cX0_readings 32 = .ok (.if_icmp .gt 149, 3) := dk_163 0 149 (dk_at dksX0_readings_1 9 rfl rfl)
theorem dX0_readings_35 : decode cX0_readings 35 = .ok (.aload_n 0, 1) := dk_42 (dk_at dksX0_readings_1 12 rfl rfl)
theorem dX0_readings_36 : decode cX0_readings 36 = .ok (.getfield 31, 3) := dk_180 0 31 (dk_at dksX0_readings_1 13 rfl rfl)
theorem dX0_readings_39 : decode cX0_readings 39 = .ok (.getfield 35, 3) := dk_180 0 35 (dk_at dksX0_readings_1 16 rfl rfl)
theorem dX0_readings_42 : decode cX0_readings 42 = .ok (.invokevirtual 47, 3) := dk_182 0 47 (dk_at dksX0_readings_1 19 rfl rfl)
theorem dX0_readings_45 : decode cX0_readings 45 = .ok (.iconst 1, 1) := dk_4 (dk_at dksX0_readings_1 22 rfl rfl)
theorem dX0_readings_46 : decode cX0_readings 46 = .ok (.isub, 1) := dk_100 (dk_at dksX0_readings_1 23 rfl rfl)
theorem dX0_readings_47 : decode cX0_readings 47 = .ok (.istore 4, 2) := dk_54 4 (dk_at dksX0_readings_2 0 rfl rfl)
theorem dX0_readings_49 : decode cX0_readings 49 = .ok (.iload 4, 2) := dk_21 4 (dk_at dksX0_readings_2 2 rfl rfl)
theorem dX0_readings_51 : decode cX0_readings 51 = .ok (.ifCond .lt 124, 3) := dk_155 0 124 (dk_at dksX0_readings_2 4 rfl rfl)
theorem dX0_readings_54 : decode cX0_readings 54 = .ok (.aload_n 0, 1) := dk_42 (dk_at dksX0_readings_2 7 rfl rfl)
theorem dX0_readings_55 : decode cX0_readings 55 = .ok (.getfield 31, 3) := dk_180 0 31 (dk_at dksX0_readings_2 8 rfl rfl)
theorem dX0_readings_58 : decode cX0_readings 58 = .ok (.getfield 35, 3) := dk_180 0 35 (dk_at dksX0_readings_2 11 rfl rfl)
theorem dX0_readings_61 : decode cX0_readings 61 = .ok (.iload 4, 2) := dk_21 4 (dk_at dksX0_readings_2 14 rfl rfl)
theorem dX0_readings_63 : decode cX0_readings 63 = .ok (.invokevirtual 51, 3) := dk_182 0 51 (dk_at dksX0_readings_2 16 rfl rfl)
theorem dX0_readings_66 : decode cX0_readings 66 = .ok (.checkcast 55, 3) := dk_192 0 55 (dk_at dksX0_readings_2 19 rfl rfl)
theorem dX0_readings_69 : decode cX0_readings 69 = .ok (.astore 5, 2) := dk_58 5 (dk_at dksX0_readings_2 22 rfl rfl)
theorem dX0_readings_71 : decode cX0_readings 71 = .ok (.lconst 0, 1) := dk_9 (dk_at dksX0_readings_3 0 rfl rfl)
theorem dX0_readings_72 : decode cX0_readings 72 = .ok (.lstore 6, 2) := dk_55 6 (dk_at dksX0_readings_3 1 rfl rfl)
theorem dX0_readings_74 : decode cX0_readings 74 = .ok (.iconst 0, 1) := dk_3 (dk_at dksX0_readings_3 3 rfl rfl)
theorem dX0_readings_75 : decode cX0_readings 75 = .ok (.istore 8, 2) := dk_54 8 (dk_at dksX0_readings_3 4 rfl rfl)
theorem dX0_readings_77 : decode cX0_readings 77 = .ok (.iload 8, 2) := dk_21 8 (dk_at dksX0_readings_3 6 rfl rfl)
theorem dX0_readings_79 : decode cX0_readings 79 = .ok (.aload 5, 2) := dk_25 5 (dk_at dksX0_readings_3 8 rfl rfl)
theorem dX0_readings_81 : decode cX0_readings 81 = .ok (.getfield 57, 3) := dk_180 0 57 (dk_at dksX0_readings_3 10 rfl rfl)
theorem dX0_readings_84 : decode cX0_readings 84 = .ok (.invokevirtual 47, 3) := dk_182 0 47 (dk_at dksX0_readings_3 13 rfl rfl)
theorem dX0_readings_87 : decode cX0_readings 87 = .ok (.if_icmp .ge 66, 3) := dk_162 0 66 (dk_at dksX0_readings_3 16 rfl rfl)
theorem dX0_readings_90 : decode cX0_readings 90 = .ok (.aload 5, 2) := dk_25 5 (dk_at dksX0_readings_3 19 rfl rfl)
theorem dX0_readings_92 : decode cX0_readings 92 = .ok (.getfield 57, 3) := dk_180 0 57 (dk_at dksX0_readings_3 21 rfl rfl)
theorem dX0_readings_95 : decode cX0_readings 95 = .ok (.iload 8, 2) := dk_21 8 (dk_at dksX0_readings_4 0 rfl rfl)
theorem dX0_readings_97 : decode cX0_readings 97 = .ok (.invokevirtual 51, 3) := dk_182 0 51 (dk_at dksX0_readings_4 2 rfl rfl)
theorem dX0_readings_100 : decode cX0_readings 100 = .ok (.checkcast 60, 3) := dk_192 0 60 (dk_at dksX0_readings_4 5 rfl rfl)
theorem dX0_readings_103 : decode cX0_readings 103 = .ok (.getfield 62, 3) := dk_180 0 62 (dk_at dksX0_readings_4 8 rfl rfl)
theorem dX0_readings_106 : decode cX0_readings 106 = .ok (.arraylength, 1) := dk_190 (dk_at dksX0_readings_4 11 rfl rfl)
theorem dX0_readings_107 : decode cX0_readings 107 = .ok (.iload_n 2, 1) := dk_28 (dk_at dksX0_readings_4 12 rfl rfl)
theorem dX0_readings_108 : decode cX0_readings 108 = .ok (.if_icmp .gt 39, 3) := dk_163 0 39 (dk_at dksX0_readings_4 13 rfl rfl)
theorem dX0_readings_111 : decode cX0_readings 111 = .ok (.ldc2_w 19, 3) := dk_20 0 19 (dk_at dksX0_readings_4 16 rfl rfl)
theorem dX0_readings_114 : decode cX0_readings 114 = .ok (.lload 6, 2) := dk_22 6 (dk_at dksX0_readings_4 19 rfl rfl)
theorem dX0_readings_116 : decode cX0_readings 116 = .ok (.aload_n 0, 1) := dk_42 (dk_at dksX0_readings_4 21 rfl rfl)
theorem dX0_readings_117 : decode cX0_readings 117 = .ok (.aload 5, 2) := dk_25 5 (dk_at dksX0_readings_4 22 rfl rfl)
theorem dX0_readings_119 : decode cX0_readings 119 = .ok (.getfield 57, 3) := dk_180 0 57 (dk_at dksX0_readings_5 0 rfl rfl)
theorem dX0_readings_122 : decode cX0_readings 122 = .ok (.iload 8, 2) := dk_21 8 (dk_at dksX0_readings_5 3 rfl rfl)
theorem dX0_readings_124 : decode cX0_readings 124 = .ok (.invokevirtual 51, 3) := dk_182 0 51 (dk_at dksX0_readings_5 5 rfl rfl)
theorem dX0_readings_127 : decode cX0_readings 127 = .ok (.checkcast 60, 3) := dk_192 0 60 (dk_at dksX0_readings_5 8 rfl rfl)
theorem dX0_readings_130 : decode cX0_readings 130 = .ok (.getfield 62, 3) := dk_180 0 62 (dk_at dksX0_readings_5 11 rfl rfl)
theorem dX0_readings_133 : decode cX0_readings 133 = .ok (.iconst 0, 1) := dk_3 (dk_at dksX0_readings_5 14 rfl rfl)
theorem dX0_readings_134 : decode cX0_readings 134 = .ok (.iload_n 3, 1) := dk_29 (dk_at dksX0_readings_5 15 rfl rfl)
theorem dX0_readings_135 : decode cX0_readings 135 = .ok (.iload_n 3, 1) := dk_29 (dk_at dksX0_readings_5 16 rfl rfl)
theorem dX0_readings_136 : decode cX0_readings 136 = .ok (.iload_n 2, 1) := dk_28 (dk_at dksX0_readings_5 17 rfl rfl)
theorem dX0_readings_137 : decode cX0_readings 137 = .ok (.iadd, 1) := dk_96 (dk_at dksX0_readings_5 18 rfl rfl)
theorem dX0_readings_138 : decode cX0_readings 138 = .ok (.invokestatic 21, 3) := dk_184 0 21 (dk_at dksX0_readings_5 19 rfl rfl)
theorem dX0_readings_141 : decode cX0_readings 141 = .ok (.ladd, 1) := dk_97 (dk_at dksX0_readings_5 22 rfl rfl)
theorem dX0_readings_142 : decode cX0_readings 142 = .ok (.invokestatic 25, 3) := dk_184 0 25 (dk_at dksX0_readings_6 0 rfl rfl)
theorem dX0_readings_145 : decode cX0_readings 145 = .ok (.lstore 6, 2) := dk_55 6 (dk_at dksX0_readings_6 3 rfl rfl)
theorem dX0_readings_147 : decode cX0_readings 147 = .ok (.iinc 8 1, 3) := dk_132 8 1 (dk_at dksX0_readings_6 5 rfl rfl)
theorem dX0_readings_150 : decode cX0_readings 150 = .ok (.goto (-73), 3) := dk_167 255 183 (dk_at dksX0_readings_6 8 rfl rfl)
theorem dX0_readings_153 : decode cX0_readings 153 = .ok (.aload_n 0, 1) := dk_42 (dk_at dksX0_readings_6 11 rfl rfl)
theorem dX0_readings_154 : decode cX0_readings 154 = .ok (.getfield 3, 3) := dk_180 0 3 (dk_at dksX0_readings_6 12 rfl rfl)
theorem dX0_readings_157 : decode cX0_readings 157 = .ok (.iload 4, 2) := dk_21 4 (dk_at dksX0_readings_6 15 rfl rfl)
theorem dX0_readings_159 : decode cX0_readings 159 = .ok (.iload_n 3, 1) := dk_29 (dk_at dksX0_readings_6 17 rfl rfl)
theorem dX0_readings_160 : decode cX0_readings 160 = .ok (.iload_n 3, 1) := dk_29 (dk_at dksX0_readings_6 18 rfl rfl)
theorem dX0_readings_161 : decode cX0_readings 161 = .ok (.iload_n 2, 1) := dk_28 (dk_at dksX0_readings_6 19 rfl rfl)
theorem dX0_readings_162 : decode cX0_readings 162 = .ok (.iadd, 1) := dk_96 (dk_at dksX0_readings_6 20 rfl rfl)
theorem dX0_readings_163 : decode cX0_readings 163 = .ok (.invokestatic 7, 3) := dk_184 0 7 (dk_at dksX0_readings_6 21 rfl rfl)
theorem dX0_readings_166 : decode cX0_readings 166 = .ok (.lload 6, 2) := dk_22 6 (dk_at dksX0_readings_7 0 rfl rfl)
theorem dX0_readings_168 : decode cX0_readings 168 = .ok (.lastore, 1) := dk_80 (dk_at dksX0_readings_7 2 rfl rfl)
theorem dX0_readings_169 : decode cX0_readings 169 = .ok (.iinc 4 (-1), 3) := dk_132 4 255 (dk_at dksX0_readings_7 3 rfl rfl)
theorem dX0_readings_172 : decode cX0_readings 172 = .ok (.goto (-123), 3) := dk_167 255 133 (dk_at dksX0_readings_7 6 rfl rfl)
theorem dX0_readings_175 : decode cX0_readings 175 = .ok (.iinc 3 1, 3) := dk_132 3 1 (dk_at dksX0_readings_7 9 rfl rfl)
theorem dX0_readings_178 : decode cX0_readings 178 = .ok (.goto (-150), 3) := dk_167 255 106 (dk_at dksX0_readings_7 12 rfl rfl)
theorem dX0_readings_181 : decode cX0_readings 181 = .ok (.iinc 2 1, 3) := dk_132 2 1 (dk_at dksX0_readings_7 15 rfl rfl)
theorem dX0_readings_184 : decode cX0_readings 184 = .ok (.goto (-163), 3) := dk_167 255 93 (dk_at dksX0_readings_7 18 rfl rfl)
theorem dX0_readings_187 : decode cX0_readings 187 = .ok (.aload_n 0, 1) := dk_42 (dk_at dksX0_readings_7 21 rfl rfl)
theorem dX0_readings_188 : decode cX0_readings 188 = .ok (.getfield 3, 3) := dk_180 0 3 (dk_at dksX0_readings_8 0 rfl rfl)
theorem dX0_readings_191 : decode cX0_readings 191 = .ok (.iconst 0, 1) := dk_3 (dk_at dksX0_readings_8 3 rfl rfl)
theorem dX0_readings_192 : decode cX0_readings 192 = .ok (.iconst 0, 1) := dk_3 (dk_at dksX0_readings_8 4 rfl rfl)
theorem dX0_readings_193 : decode cX0_readings 193 = .ok (.iload_n 1, 1) := dk_27 (dk_at dksX0_readings_8 5 rfl rfl)
theorem dX0_readings_194 : decode cX0_readings 194 = .ok (.invokestatic 7, 3) := dk_184 0 7 (dk_at dksX0_readings_8 6 rfl rfl)
theorem dX0_readings_197 : decode cX0_readings 197 = .ok (.laload, 1) := dk_47 (dk_at dksX0_readings_8 9 rfl rfl)
theorem dX0_readings_198 : decode cX0_readings 198 = .ok (.lreturn, 1) := dk_173 (dk_at dksX0_readings_8 10 rfl rfl)
abbrev cX0_cover : ByteArray := prog_1_method_3_code
def yX0_cover : MethodName := ⟨RX0, "cover", "(LGuildCharter;[IIII)J"⟩
def dkwX0_cover_3 : List UInt8 := [21, 7, 21, 4, 184, 0, 21, 105, 97, 184, 0, 25, 55, 5, 132, 7, 1, 167, 255, 194, 22, 5, 173]
abbrev dktX0_cover_3 : List UInt8 := dkwX0_cover_3 ++ []
def dkwX0_cover_2 : List UInt8 := [182, 0, 15, 55, 8, 22, 8, 9, 148, 158, 0, 29, 20, 0, 19, 22, 5, 22, 8, 42, 43, 28, 4, 96]
abbrev dktX0_cover_2 : List UInt8 := dkwX0_cover_2 ++ dktX0_cover_3
def dkwX0_cover_1 : List UInt8 := [96, 54, 7, 21, 7, 21, 4, 43, 190, 4, 100, 28, 100, 100, 163, 0, 54, 42, 43, 28, 46, 29, 21, 7]
abbrev dktX0_cover_1 : List UInt8 := dkwX0_cover_1 ++ dktX0_cover_2
def dkwX0_cover_0 : List UInt8 := [28, 43, 190, 4, 100, 160, 0, 14, 42, 43, 28, 46, 29, 21, 4, 182, 0, 15, 173, 9, 55, 5, 29, 4]
abbrev dktX0_cover_0 : List UInt8 := dkwX0_cover_0 ++ dktX0_cover_1
theorem dksX0_cover_0 : cX0_cover.data.toList.drop 0 = dktX0_cover_0 := by decide +kernel
theorem dksX0_cover_1 : cX0_cover.data.toList.drop 24 = dktX0_cover_1 := dk_seg dksX0_cover_0 24 rfl rfl
theorem dksX0_cover_2 : cX0_cover.data.toList.drop 48 = dktX0_cover_2 := dk_seg dksX0_cover_1 24 rfl rfl
theorem dksX0_cover_3 : cX0_cover.data.toList.drop 72 = dktX0_cover_3 := dk_seg dksX0_cover_2 24 rfl rfl
theorem dX0_cover_0 : decode cX0_cover 0 = .ok (.iload_n 2, 1) := dk_28 (dk_at dksX0_cover_0 0 rfl rfl)
theorem dX0_cover_1 : decode cX0_cover 1 = .ok (.aload_n 1, 1) := dk_43 (dk_at dksX0_cover_0 1 rfl rfl)
theorem dX0_cover_2 : decode cX0_cover 2 = .ok (.arraylength, 1) := dk_190 (dk_at dksX0_cover_0 2 rfl rfl)
theorem dX0_cover_3 : decode cX0_cover 3 = .ok (.iconst 1, 1) := dk_4 (dk_at dksX0_cover_0 3 rfl rfl)
theorem dX0_cover_4 : decode cX0_cover 4 = .ok (.isub, 1) := dk_100 (dk_at dksX0_cover_0 4 rfl rfl)
theorem dX0_cover_5 : decode cX0_cover 5 = .ok (.if_icmp .ne 14, 3) := dk_160 0 14 (dk_at dksX0_cover_0 5 rfl rfl)
theorem dX0_cover_8 : decode cX0_cover 8 = .ok (.aload_n 0, 1) := dk_42 (dk_at dksX0_cover_0 8 rfl rfl)
theorem dX0_cover_9 : decode cX0_cover 9 = .ok (.aload_n 1, 1) := dk_43 (dk_at dksX0_cover_0 9 rfl rfl)
theorem dX0_cover_10 : decode cX0_cover 10 = .ok (.iload_n 2, 1) := dk_28 (dk_at dksX0_cover_0 10 rfl rfl)
theorem dX0_cover_11 : decode cX0_cover 11 = .ok (.iaload, 1) := dk_46 (dk_at dksX0_cover_0 11 rfl rfl)
theorem dX0_cover_12 : decode cX0_cover 12 = .ok (.iload_n 3, 1) := dk_29 (dk_at dksX0_cover_0 12 rfl rfl)
theorem dX0_cover_13 : decode cX0_cover 13 = .ok (.iload 4, 2) := dk_21 4 (dk_at dksX0_cover_0 13 rfl rfl)
theorem dX0_cover_15 : decode cX0_cover 15 = .ok (.invokevirtual 15, 3) := dk_182 0 15 (dk_at dksX0_cover_0 15 rfl rfl)
theorem dX0_cover_18 : decode cX0_cover 18 = .ok (.lreturn, 1) := dk_173 (dk_at dksX0_cover_0 18 rfl rfl)
theorem dX0_cover_19 : decode cX0_cover 19 = .ok (.lconst 0, 1) := dk_9 (dk_at dksX0_cover_0 19 rfl rfl)
theorem dX0_cover_20 : decode cX0_cover 20 = .ok (.lstore 5, 2) := dk_55 5 (dk_at dksX0_cover_0 20 rfl rfl)
theorem dX0_cover_22 : decode cX0_cover 22 = .ok (.iload_n 3, 1) := dk_29 (dk_at dksX0_cover_0 22 rfl rfl)
theorem dX0_cover_23 : decode cX0_cover 23 = .ok (.iconst 1, 1) := dk_4 (dk_at dksX0_cover_0 23 rfl rfl)
theorem dX0_cover_24 : decode cX0_cover 24 = .ok (.iadd, 1) := dk_96 (dk_at dksX0_cover_1 0 rfl rfl)
theorem dX0_cover_25 : decode cX0_cover 25 = .ok (.istore 7, 2) := dk_54 7 (dk_at dksX0_cover_1 1 rfl rfl)
theorem dX0_cover_27 : decode cX0_cover 27 = .ok (.iload 7, 2) := dk_21 7 (dk_at dksX0_cover_1 3 rfl rfl)
theorem dX0_cover_29 : decode cX0_cover 29 = .ok (.iload 4, 2) := dk_21 4 (dk_at dksX0_cover_1 5 rfl rfl)
theorem dX0_cover_31 : decode cX0_cover 31 = .ok (.aload_n 1, 1) := dk_43 (dk_at dksX0_cover_1 7 rfl rfl)
theorem dX0_cover_32 : decode cX0_cover 32 = .ok (.arraylength, 1) := dk_190 (dk_at dksX0_cover_1 8 rfl rfl)
theorem dX0_cover_33 : decode cX0_cover 33 = .ok (.iconst 1, 1) := dk_4 (dk_at dksX0_cover_1 9 rfl rfl)
theorem dX0_cover_34 : decode cX0_cover 34 = .ok (.isub, 1) := dk_100 (dk_at dksX0_cover_1 10 rfl rfl)
theorem dX0_cover_35 : decode cX0_cover 35 = .ok (.iload_n 2, 1) := dk_28 (dk_at dksX0_cover_1 11 rfl rfl)
theorem dX0_cover_36 : decode cX0_cover 36 = .ok (.isub, 1) := dk_100 (dk_at dksX0_cover_1 12 rfl rfl)
theorem dX0_cover_37 : decode cX0_cover 37 = .ok (.isub, 1) := dk_100 (dk_at dksX0_cover_1 13 rfl rfl)
theorem dX0_cover_38 : decode cX0_cover 38 = .ok (.if_icmp .gt 54, 3) := dk_163 0 54 (dk_at dksX0_cover_1 14 rfl rfl)
theorem dX0_cover_41 : decode cX0_cover 41 = .ok (.aload_n 0, 1) := dk_42 (dk_at dksX0_cover_1 17 rfl rfl)
theorem dX0_cover_42 : decode cX0_cover 42 = .ok (.aload_n 1, 1) := dk_43 (dk_at dksX0_cover_1 18 rfl rfl)
theorem dX0_cover_43 : decode cX0_cover 43 = .ok (.iload_n 2, 1) := dk_28 (dk_at dksX0_cover_1 19 rfl rfl)
theorem dX0_cover_44 : decode cX0_cover 44 = .ok (.iaload, 1) := dk_46 (dk_at dksX0_cover_1 20 rfl rfl)
theorem dX0_cover_45 : decode cX0_cover 45 = .ok (.iload_n 3, 1) := dk_29 (dk_at dksX0_cover_1 21 rfl rfl)
theorem dX0_cover_46 : decode cX0_cover 46 = .ok (.iload 7, 2) := dk_21 7 (dk_at dksX0_cover_1 22 rfl rfl)
theorem dX0_cover_48 : decode cX0_cover 48 = .ok (.invokevirtual 15, 3) := dk_182 0 15 (dk_at dksX0_cover_2 0 rfl rfl)
theorem dX0_cover_51 : decode cX0_cover 51 = .ok (.lstore 8, 2) := dk_55 8 (dk_at dksX0_cover_2 3 rfl rfl)
theorem dX0_cover_53 : decode cX0_cover 53 = .ok (.lload 8, 2) := dk_22 8 (dk_at dksX0_cover_2 5 rfl rfl)
theorem dX0_cover_55 : decode cX0_cover 55 = .ok (.lconst 0, 1) := dk_9 (dk_at dksX0_cover_2 7 rfl rfl)
theorem dX0_cover_56 : decode cX0_cover 56 = .ok (.lcmp, 1) := dk_148 (dk_at dksX0_cover_2 8 rfl rfl)
theorem dX0_cover_57 : decode cX0_cover 57 = .ok (.ifCond .le 29, 3) := dk_158 0 29 (dk_at dksX0_cover_2 9 rfl rfl)
theorem dX0_cover_60 : decode cX0_cover 60 = .ok (.ldc2_w 19, 3) := dk_20 0 19 (dk_at dksX0_cover_2 12 rfl rfl)
theorem dX0_cover_63 : decode cX0_cover 63 = .ok (.lload 5, 2) := dk_22 5 (dk_at dksX0_cover_2 15 rfl rfl)
theorem dX0_cover_65 : decode cX0_cover 65 = .ok (.lload 8, 2) := dk_22 8 (dk_at dksX0_cover_2 17 rfl rfl)
theorem dX0_cover_67 : decode cX0_cover 67 = .ok (.aload_n 0, 1) := dk_42 (dk_at dksX0_cover_2 19 rfl rfl)
theorem dX0_cover_68 : decode cX0_cover 68 = .ok (.aload_n 1, 1) := dk_43 (dk_at dksX0_cover_2 20 rfl rfl)
theorem dX0_cover_69 : decode cX0_cover 69 = .ok (.iload_n 2, 1) := dk_28 (dk_at dksX0_cover_2 21 rfl rfl)
theorem dX0_cover_70 : decode cX0_cover 70 = .ok (.iconst 1, 1) := dk_4 (dk_at dksX0_cover_2 22 rfl rfl)
theorem dX0_cover_71 : decode cX0_cover 71 = .ok (.iadd, 1) := dk_96 (dk_at dksX0_cover_2 23 rfl rfl)
theorem dX0_cover_72 : decode cX0_cover 72 = .ok (.iload 7, 2) := dk_21 7 (dk_at dksX0_cover_3 0 rfl rfl)
theorem dX0_cover_74 : decode cX0_cover 74 = .ok (.iload 4, 2) := dk_21 4 (dk_at dksX0_cover_3 2 rfl rfl)
theorem dX0_cover_76 : decode cX0_cover 76 = .ok (.invokestatic 21, 3) := dk_184 0 21 (dk_at dksX0_cover_3 4 rfl rfl)
theorem dX0_cover_79 : decode cX0_cover 79 = .ok (.lmul, 1) := dk_105 (dk_at dksX0_cover_3 7 rfl rfl)
theorem dX0_cover_80 : decode cX0_cover 80 = .ok (.ladd, 1) := dk_97 (dk_at dksX0_cover_3 8 rfl rfl)
theorem dX0_cover_81 : decode cX0_cover 81 = .ok (.invokestatic 25, 3) := dk_184 0 25 (dk_at dksX0_cover_3 9 rfl rfl)
theorem dX0_cover_84 : decode cX0_cover 84 = .ok (.lstore 5, 2) := dk_55 5 (dk_at dksX0_cover_3 12 rfl rfl)
theorem dX0_cover_86 : decode cX0_cover 86 = .ok (.iinc 7 1, 3) := dk_132 7 1 (dk_at dksX0_cover_3 14 rfl rfl)
theorem dX0_cover_89 : decode cX0_cover 89 = .ok (.goto (-62), 3) := dk_167 255 194 (dk_at dksX0_cover_3 17 rfl rfl)
theorem dX0_cover_92 : decode cX0_cover 92 = .ok (.lload 5, 2) := dk_22 5 (dk_at dksX0_cover_3 20 rfl rfl)
theorem dX0_cover_94 : decode cX0_cover 94 = .ok (.lreturn, 1) := dk_173 (dk_at dksX0_cover_3 22 rfl rfl)
abbrev cX0_reads : ByteArray := prog_1_method_2_code
def yX0_reads : MethodName := ⟨RX0, "reads", "(III)J"⟩
def dkwX0_reads_2 : List UInt8 := [10, 167, 0, 4, 9, 173]
abbrev dktX0_reads_2 : List UInt8 := dkwX0_reads_2 ++ []
def dkwX0_reads_1 : List UInt8 := [96, 160, 0, 27, 42, 180, 0, 11, 28, 46, 27, 159, 0, 13, 42, 180, 0, 11, 28, 46, 2, 160, 0, 7]
abbrev dktX0_reads_1 : List UInt8 := dkwX0_reads_1 ++ dktX0_reads_2
def dkwX0_reads_0 : List UInt8 := [27, 16, 8, 161, 0, 18, 42, 180, 0, 3, 27, 16, 8, 100, 28, 29, 184, 0, 7, 47, 173, 29, 28, 4]
abbrev dktX0_reads_0 : List UInt8 := dkwX0_reads_0 ++ dktX0_reads_1
theorem dksX0_reads_0 : cX0_reads.data.toList.drop 0 = dktX0_reads_0 := by decide +kernel
theorem dksX0_reads_1 : cX0_reads.data.toList.drop 24 = dktX0_reads_1 := dk_seg dksX0_reads_0 24 rfl rfl
theorem dksX0_reads_2 : cX0_reads.data.toList.drop 48 = dktX0_reads_2 := dk_seg dksX0_reads_1 24 rfl rfl
theorem dX0_reads_0 : decode cX0_reads 0 = .ok (.iload_n 1, 1) := dk_27 (dk_at dksX0_reads_0 0 rfl rfl)
theorem dX0_reads_1 : decode cX0_reads 1 = .ok (.bipush 8, 2) := dk_16 8 (dk_at dksX0_reads_0 1 rfl rfl)
theorem dX0_reads_3 : decode cX0_reads 3 = .ok (.if_icmp .lt 18, 3) := dk_161 0 18 (dk_at dksX0_reads_0 3 rfl rfl)
theorem dX0_reads_6 : decode cX0_reads 6 = .ok (.aload_n 0, 1) := dk_42 (dk_at dksX0_reads_0 6 rfl rfl)
theorem dX0_reads_7 : decode cX0_reads 7 = .ok (.getfield 3, 3) := dk_180 0 3 (dk_at dksX0_reads_0 7 rfl rfl)
theorem dX0_reads_10 : decode cX0_reads 10 = .ok (.iload_n 1, 1) := dk_27 (dk_at dksX0_reads_0 10 rfl rfl)
theorem dX0_reads_11 : decode cX0_reads 11 = .ok (.bipush 8, 2) := dk_16 8 (dk_at dksX0_reads_0 11 rfl rfl)
theorem dX0_reads_13 : decode cX0_reads 13 = .ok (.isub, 1) := dk_100 (dk_at dksX0_reads_0 13 rfl rfl)
theorem dX0_reads_14 : decode cX0_reads 14 = .ok (.iload_n 2, 1) := dk_28 (dk_at dksX0_reads_0 14 rfl rfl)
theorem dX0_reads_15 : decode cX0_reads 15 = .ok (.iload_n 3, 1) := dk_29 (dk_at dksX0_reads_0 15 rfl rfl)
theorem dX0_reads_16 : decode cX0_reads 16 = .ok (.invokestatic 7, 3) := dk_184 0 7 (dk_at dksX0_reads_0 16 rfl rfl)
theorem dX0_reads_19 : decode cX0_reads 19 = .ok (.laload, 1) := dk_47 (dk_at dksX0_reads_0 19 rfl rfl)
theorem dX0_reads_20 : decode cX0_reads 20 = .ok (.lreturn, 1) := dk_173 (dk_at dksX0_reads_0 20 rfl rfl)
theorem dX0_reads_21 : decode cX0_reads 21 = .ok (.iload_n 3, 1) := dk_29 (dk_at dksX0_reads_0 21 rfl rfl)
theorem dX0_reads_22 : decode cX0_reads 22 = .ok (.iload_n 2, 1) := dk_28 (dk_at dksX0_reads_0 22 rfl rfl)
theorem dX0_reads_23 : decode cX0_reads 23 = .ok (.iconst 1, 1) := dk_4 (dk_at dksX0_reads_0 23 rfl rfl)
theorem dX0_reads_24 : decode cX0_reads 24 = .ok (.iadd, 1) := dk_96 (dk_at dksX0_reads_1 0 rfl rfl)
theorem dX0_reads_25 : decode cX0_reads 25 = .ok (.if_icmp .ne 27, 3) := dk_160 0 27 (dk_at dksX0_reads_1 1 rfl rfl)
theorem dX0_reads_28 : decode cX0_reads 28 = .ok (.aload_n 0, 1) := dk_42 (dk_at dksX0_reads_1 4 rfl rfl)
theorem dX0_reads_29 : decode cX0_reads 29 = .ok (.getfield 11, 3) := dk_180 0 11 (dk_at dksX0_reads_1 5 rfl rfl)
theorem dX0_reads_32 : decode cX0_reads 32 = .ok (.iload_n 2, 1) := dk_28 (dk_at dksX0_reads_1 8 rfl rfl)
theorem dX0_reads_33 : decode cX0_reads 33 = .ok (.iaload, 1) := dk_46 (dk_at dksX0_reads_1 9 rfl rfl)
theorem dX0_reads_34 : decode cX0_reads 34 = .ok (.iload_n 1, 1) := dk_27 (dk_at dksX0_reads_1 10 rfl rfl)
theorem dX0_reads_35 : decode cX0_reads 35 = .ok (.if_icmp .eq 13, 3) := dk_159 0 13 (dk_at dksX0_reads_1 11 rfl rfl)
theorem dX0_reads_38 : decode cX0_reads 38 = .ok (.aload_n 0, 1) := dk_42 (dk_at dksX0_reads_1 14 rfl rfl)
theorem dX0_reads_39 : decode cX0_reads 39 = .ok (.getfield 11, 3) := dk_180 0 11 (dk_at dksX0_reads_1 15 rfl rfl)
theorem dX0_reads_42 : decode cX0_reads 42 = .ok (.iload_n 2, 1) := dk_28 (dk_at dksX0_reads_1 18 rfl rfl)
theorem dX0_reads_43 : decode cX0_reads 43 = .ok (.iaload, 1) := dk_46 (dk_at dksX0_reads_1 19 rfl rfl)
theorem dX0_reads_44 : decode cX0_reads 44 = .ok (.iconst (-1), 1) := dk_2 (dk_at dksX0_reads_1 20 rfl rfl)
theorem dX0_reads_45 : decode cX0_reads 45 = .ok (.if_icmp .ne 7, 3) := dk_160 0 7 (dk_at dksX0_reads_1 21 rfl rfl)
theorem dX0_reads_48 : decode cX0_reads 48 = .ok (.lconst 1, 1) := dk_10 (dk_at dksX0_reads_2 0 rfl rfl)
theorem dX0_reads_49 : decode cX0_reads 49 = .ok (.goto 4, 3) := dk_167 0 4 (dk_at dksX0_reads_2 1 rfl rfl)
theorem dX0_reads_52 : decode cX0_reads 52 = .ok (.lconst 0, 1) := dk_9 (dk_at dksX0_reads_2 4 rfl rfl)
theorem dX0_reads_53 : decode cX0_reads 53 = .ok (.lreturn, 1) := dk_173 (dk_at dksX0_reads_2 5 rfl rfl)
abbrev cX0_span : ByteArray := prog_1_method_1_code
def yX0_span : MethodName := ⟨RX0, "span", "(III)I"⟩
def dkwX0_span_0 : List UInt8 := [26, 16, 7, 104, 27, 96, 16, 7, 104, 28, 96, 172]
abbrev dktX0_span_0 : List UInt8 := dkwX0_span_0 ++ []
theorem dksX0_span_0 : cX0_span.data.toList.drop 0 = dktX0_span_0 := by decide +kernel
theorem dX0_span_0 : decode cX0_span 0 = .ok (.iload_n 0, 1) := dk_26 (dk_at dksX0_span_0 0 rfl rfl)
theorem dX0_span_1 : decode cX0_span 1 = .ok (.bipush 7, 2) := dk_16 7 (dk_at dksX0_span_0 1 rfl rfl)
theorem dX0_span_3 : decode cX0_span 3 = .ok (.imul, 1) := dk_104 (dk_at dksX0_span_0 3 rfl rfl)
theorem dX0_span_4 : decode cX0_span 4 = .ok (.iload_n 1, 1) := dk_27 (dk_at dksX0_span_0 4 rfl rfl)
theorem dX0_span_5 : decode cX0_span 5 = .ok (.iadd, 1) := dk_96 (dk_at dksX0_span_0 5 rfl rfl)
theorem dX0_span_6 : decode cX0_span 6 = .ok (.bipush 7, 2) := dk_16 7 (dk_at dksX0_span_0 6 rfl rfl)
theorem dX0_span_8 : decode cX0_span 8 = .ok (.imul, 1) := dk_104 (dk_at dksX0_span_0 8 rfl rfl)
theorem dX0_span_9 : decode cX0_span 9 = .ok (.iload_n 2, 1) := dk_28 (dk_at dksX0_span_0 9 rfl rfl)
theorem dX0_span_10 : decode cX0_span 10 = .ok (.iadd, 1) := dk_96 (dk_at dksX0_span_0 10 rfl rfl)
theorem dX0_span_11 : decode cX0_span 11 = .ok (.ireturn, 1) := dk_172 (dk_at dksX0_span_0 11 rfl rfl)
abbrev cX0_act : ByteArray := prog_1_method_26_code
def yX0_act : MethodName := ⟨RX0, "act", "()V"⟩
def dkwX0_act_3 : List UInt8 := [89, 180, 0, 250, 4, 96, 181, 0, 250, 42, 3, 181, 0, 253, 177]
abbrev dktX0_act_3 : List UInt8 := dkwX0_act_3 ++ []
def dkwX0_act_2 : List UInt8 := [181, 0, 250, 42, 180, 0, 164, 3, 42, 180, 0, 169, 42, 180, 0, 250, 50, 3, 16, 13, 184, 0, 72, 42]
abbrev dktX0_act_2 : List UInt8 := dkwX0_act_2 ++ dktX0_act_3
def dkwX0_act_1 : List UInt8 := [180, 0, 169, 3, 16, 39, 184, 0, 72, 42, 180, 0, 169, 16, 39, 43, 83, 42, 89, 180, 0, 250, 4, 100]
abbrev dktX0_act_1 : List UInt8 := dkwX0_act_1 ++ dktX0_act_2
def dkwX0_act_0 : List UInt8 := [42, 180, 0, 250, 16, 40, 160, 0, 43, 42, 180, 0, 169, 3, 50, 76, 42, 180, 0, 169, 4, 42]
abbrev dktX0_act_0 : List UInt8 := dkwX0_act_0 ++ dktX0_act_1
theorem dksX0_act_0 : cX0_act.data.toList.drop 0 = dktX0_act_0 := by decide +kernel
theorem dksX0_act_1 : cX0_act.data.toList.drop 22 = dktX0_act_1 := dk_seg dksX0_act_0 22 rfl rfl
theorem dksX0_act_2 : cX0_act.data.toList.drop 46 = dktX0_act_2 := dk_seg dksX0_act_1 24 rfl rfl
theorem dksX0_act_3 : cX0_act.data.toList.drop 70 = dktX0_act_3 := dk_seg dksX0_act_2 24 rfl rfl
theorem dX0_act_0 : decode cX0_act 0 = .ok (.aload_n 0, 1) := dk_42 (dk_at dksX0_act_0 0 rfl rfl)
theorem dX0_act_1 : decode cX0_act 1 = .ok (.getfield 250, 3) := dk_180 0 250 (dk_at dksX0_act_0 1 rfl rfl)
theorem dX0_act_4 : decode cX0_act 4 = .ok (.bipush 40, 2) := dk_16 40 (dk_at dksX0_act_0 4 rfl rfl)
theorem dX0_act_6 : decode cX0_act 6 = .ok (.if_icmp .ne 43, 3) := dk_160 0 43 (dk_at dksX0_act_0 6 rfl rfl)
theorem dX0_act_9 : decode cX0_act 9 = .ok (.aload_n 0, 1) := dk_42 (dk_at dksX0_act_0 9 rfl rfl)
theorem dX0_act_10 : decode cX0_act 10 = .ok (.getfield 169, 3) := dk_180 0 169 (dk_at dksX0_act_0 10 rfl rfl)
theorem dX0_act_13 : decode cX0_act 13 = .ok (.iconst 0, 1) := dk_3 (dk_at dksX0_act_0 13 rfl rfl)
theorem dX0_act_14 : decode cX0_act 14 = .ok (.aaload, 1) := dk_50 (dk_at dksX0_act_0 14 rfl rfl)
theorem dX0_act_15 : decode cX0_act 15 = .ok (.astore_n 1, 1) := dk_76 (dk_at dksX0_act_0 15 rfl rfl)
theorem dX0_act_16 : decode cX0_act 16 = .ok (.aload_n 0, 1) := dk_42 (dk_at dksX0_act_0 16 rfl rfl)
theorem dX0_act_17 : decode cX0_act 17 = .ok (.getfield 169, 3) := dk_180 0 169 (dk_at dksX0_act_0 17 rfl rfl)
theorem dX0_act_20 : decode cX0_act 20 = .ok (.iconst 1, 1) := dk_4 (dk_at dksX0_act_0 20 rfl rfl)
theorem dX0_act_21 : decode cX0_act 21 = .ok (.aload_n 0, 1) := dk_42 (dk_at dksX0_act_0 21 rfl rfl)
theorem dX0_act_22 : decode cX0_act 22 = .ok (.getfield 169, 3) := dk_180 0 169 (dk_at dksX0_act_1 0 rfl rfl)
theorem dX0_act_25 : decode cX0_act 25 = .ok (.iconst 0, 1) := dk_3 (dk_at dksX0_act_1 3 rfl rfl)
theorem dX0_act_26 : decode cX0_act 26 = .ok (.bipush 39, 2) := dk_16 39 (dk_at dksX0_act_1 4 rfl rfl)
theorem dX0_act_28 : decode cX0_act 28 = .ok (.invokestatic 72, 3) := dk_184 0 72 (dk_at dksX0_act_1 6 rfl rfl)
theorem dX0_act_31 : decode cX0_act 31 = .ok (.aload_n 0, 1) := dk_42 (dk_at dksX0_act_1 9 rfl rfl)
theorem dX0_act_32 : decode cX0_act 32 = .ok (.getfield 169, 3) := dk_180 0 169 (dk_at dksX0_act_1 10 rfl rfl)
theorem dX0_act_35 : decode cX0_act 35 = .ok (.bipush 39, 2) := dk_16 39 (dk_at dksX0_act_1 13 rfl rfl)
theorem dX0_act_37 : decode cX0_act 37 = .ok (.aload_n 1, 1) := dk_43 (dk_at dksX0_act_1 15 rfl rfl)
theorem dX0_act_38 : decode cX0_act 38 = .ok (.aastore, 1) := dk_83 (dk_at dksX0_act_1 16 rfl rfl)
theorem dX0_act_39 : decode cX0_act 39 = .ok (.aload_n 0, 1) := dk_42 (dk_at dksX0_act_1 17 rfl rfl)
theorem dX0_act_40 : decode cX0_act 40 = .ok (.dup, 1) := dk_89 (dk_at dksX0_act_1 18 rfl rfl)
theorem dX0_act_41 : decode cX0_act 41 = .ok (.getfield 250, 3) := dk_180 0 250 (dk_at dksX0_act_1 19 rfl rfl)
theorem dX0_act_44 : decode cX0_act 44 = .ok (.iconst 1, 1) := dk_4 (dk_at dksX0_act_1 22 rfl rfl)
theorem dX0_act_45 : decode cX0_act 45 = .ok (.isub, 1) := dk_100 (dk_at dksX0_act_1 23 rfl rfl)
theorem dX0_act_46 : decode cX0_act 46 = .ok (.putfield 250, 3) := dk_181 0 250 (dk_at dksX0_act_2 0 rfl rfl)
theorem dX0_act_49 : decode cX0_act 49 = .ok (.aload_n 0, 1) := dk_42 (dk_at dksX0_act_2 3 rfl rfl)
theorem dX0_act_50 : decode cX0_act 50 = .ok (.getfield 164, 3) := dk_180 0 164 (dk_at dksX0_act_2 4 rfl rfl)
theorem dX0_act_53 : decode cX0_act 53 = .ok (.iconst 0, 1) := dk_3 (dk_at dksX0_act_2 7 rfl rfl)
theorem dX0_act_54 : decode cX0_act 54 = .ok (.aload_n 0, 1) := dk_42 (dk_at dksX0_act_2 8 rfl rfl)
theorem dX0_act_55 : decode cX0_act 55 = .ok (.getfield 169, 3) := dk_180 0 169 (dk_at dksX0_act_2 9 rfl rfl)
theorem dX0_act_58 : decode cX0_act 58 = .ok (.aload_n 0, 1) := dk_42 (dk_at dksX0_act_2 12 rfl rfl)
theorem dX0_act_59 : decode cX0_act 59 = .ok (.getfield 250, 3) := dk_180 0 250 (dk_at dksX0_act_2 13 rfl rfl)
theorem dX0_act_62 : decode cX0_act 62 = .ok (.aaload, 1) := dk_50 (dk_at dksX0_act_2 16 rfl rfl)
theorem dX0_act_63 : decode cX0_act 63 = .ok (.iconst 0, 1) := dk_3 (dk_at dksX0_act_2 17 rfl rfl)
theorem dX0_act_64 : decode cX0_act 64 = .ok (.bipush 13, 2) := dk_16 13 (dk_at dksX0_act_2 18 rfl rfl)
theorem dX0_act_66 : decode cX0_act 66 = .ok (.invokestatic 72, 3) := dk_184 0 72 (dk_at dksX0_act_2 20 rfl rfl)
theorem dX0_act_69 : decode cX0_act 69 = .ok (.aload_n 0, 1) := dk_42 (dk_at dksX0_act_2 23 rfl rfl)
theorem dX0_act_70 : decode cX0_act 70 = .ok (.dup, 1) := dk_89 (dk_at dksX0_act_3 0 rfl rfl)
theorem dX0_act_71 : decode cX0_act 71 = .ok (.getfield 250, 3) := dk_180 0 250 (dk_at dksX0_act_3 1 rfl rfl)
theorem dX0_act_74 : decode cX0_act 74 = .ok (.iconst 1, 1) := dk_4 (dk_at dksX0_act_3 4 rfl rfl)
theorem dX0_act_75 : decode cX0_act 75 = .ok (.iadd, 1) := dk_96 (dk_at dksX0_act_3 5 rfl rfl)
theorem dX0_act_76 : decode cX0_act 76 = .ok (.putfield 250, 3) := dk_181 0 250 (dk_at dksX0_act_3 6 rfl rfl)
theorem dX0_act_79 : decode cX0_act 79 = .ok (.aload_n 0, 1) := dk_42 (dk_at dksX0_act_3 9 rfl rfl)
theorem dX0_act_80 : decode cX0_act 80 = .ok (.iconst 0, 1) := dk_3 (dk_at dksX0_act_3 10 rfl rfl)
theorem dX0_act_81 : decode cX0_act 81 = .ok (.putfield 253, 3) := dk_181 0 253 (dk_at dksX0_act_3 11 rfl rfl)
theorem dX0_act_84 : decode cX0_act 84 = .ok (.return_, 1) := dk_177 (dk_at dksX0_act_3 14 rfl rfl)
abbrev cX0_sell : ByteArray := prog_1_method_33_code
def yX0_sell : MethodName := ⟨RX0, "sell", "(II)I"⟩
def dkwX0_sell_2 : List UInt8 := [16, 6, 27, 96, 28, 79, 29, 172]
abbrev dktX0_sell_2 : List UInt8 := dkwX0_sell_2 ++ []
def dkwX0_sell_1 : List UInt8 := [154, 0, 5, 2, 172, 42, 182, 1, 10, 42, 180, 0, 164, 16, 6, 27, 96, 46, 62, 42, 180, 0, 164]
abbrev dktX0_sell_1 : List UInt8 := dkwX0_sell_1 ++ dktX0_sell_2
def dkwX0_sell_0 : List UInt8 := [42, 27, 182, 1, 4, 153, 0, 21, 27, 42, 180, 0, 164, 16, 12, 46, 161, 0, 10, 28, 184, 0, 242]
abbrev dktX0_sell_0 : List UInt8 := dkwX0_sell_0 ++ dktX0_sell_1
theorem dksX0_sell_0 : cX0_sell.data.toList.drop 0 = dktX0_sell_0 := by decide +kernel
theorem dksX0_sell_1 : cX0_sell.data.toList.drop 23 = dktX0_sell_1 := dk_seg dksX0_sell_0 23 rfl rfl
theorem dksX0_sell_2 : cX0_sell.data.toList.drop 46 = dktX0_sell_2 := dk_seg dksX0_sell_1 23 rfl rfl
theorem dX0_sell_0 : decode cX0_sell 0 = .ok (.aload_n 0, 1) := dk_42 (dk_at dksX0_sell_0 0 rfl rfl)
theorem dX0_sell_1 : decode cX0_sell 1 = .ok (.iload_n 1, 1) := dk_27 (dk_at dksX0_sell_0 1 rfl rfl)
theorem dX0_sell_2 : decode cX0_sell 2 = .ok (.invokevirtual 260, 3) := dk_182 1 4 (dk_at dksX0_sell_0 2 rfl rfl)
theorem dX0_sell_5 : decode cX0_sell 5 = .ok (.ifCond .eq 21, 3) := dk_153 0 21 (dk_at dksX0_sell_0 5 rfl rfl)
theorem dX0_sell_8 : decode cX0_sell 8 = .ok (.iload_n 1, 1) := dk_27 (dk_at dksX0_sell_0 8 rfl rfl)
theorem dX0_sell_9 : decode cX0_sell 9 = .ok (.aload_n 0, 1) := dk_42 (dk_at dksX0_sell_0 9 rfl rfl)
theorem dX0_sell_10 : decode cX0_sell 10 = .ok (.getfield 164, 3) := dk_180 0 164 (dk_at dksX0_sell_0 10 rfl rfl)
theorem dX0_sell_13 : decode cX0_sell 13 = .ok (.bipush 12, 2) := dk_16 12 (dk_at dksX0_sell_0 13 rfl rfl)
theorem dX0_sell_15 : decode cX0_sell 15 = .ok (.iaload, 1) := dk_46 (dk_at dksX0_sell_0 15 rfl rfl)
theorem dX0_sell_16 : decode cX0_sell 16 = .ok (.if_icmp .lt 10, 3) := dk_161 0 10 (dk_at dksX0_sell_0 16 rfl rfl)
theorem dX0_sell_19 : decode cX0_sell 19 = .ok (.iload_n 2, 1) := dk_28 (dk_at dksX0_sell_0 19 rfl rfl)
theorem dX0_sell_20 : decode cX0_sell 20 = .ok (.invokestatic 242, 3) := dk_184 0 242 (dk_at dksX0_sell_0 20 rfl rfl)
theorem dX0_sell_23 : decode cX0_sell 23 = .ok (.ifCond .ne 5, 3) := dk_154 0 5 (dk_at dksX0_sell_1 0 rfl rfl)
theorem dX0_sell_26 : decode cX0_sell 26 = .ok (.iconst (-1), 1) := dk_2 (dk_at dksX0_sell_1 3 rfl rfl)
theorem dX0_sell_27 : decode cX0_sell 27 = .ok (.ireturn, 1) := dk_172 (dk_at dksX0_sell_1 4 rfl rfl)
theorem dX0_sell_28 : decode cX0_sell 28 = .ok (.aload_n 0, 1) := dk_42 (dk_at dksX0_sell_1 5 rfl rfl)
theorem dX0_sell_29 : decode cX0_sell 29 = .ok (.invokevirtual 266, 3) := dk_182 1 10 (dk_at dksX0_sell_1 6 rfl rfl)
theorem dX0_sell_32 : decode cX0_sell 32 = .ok (.aload_n 0, 1) := dk_42 (dk_at dksX0_sell_1 9 rfl rfl)
theorem dX0_sell_33 : decode cX0_sell 33 = .ok (.getfield 164, 3) := dk_180 0 164 (dk_at dksX0_sell_1 10 rfl rfl)
theorem dX0_sell_36 : decode cX0_sell 36 = .ok (.bipush 6, 2) := dk_16 6 (dk_at dksX0_sell_1 13 rfl rfl)
theorem dX0_sell_38 : decode cX0_sell 38 = .ok (.iload_n 1, 1) := dk_27 (dk_at dksX0_sell_1 15 rfl rfl)
theorem dX0_sell_39 : decode cX0_sell 39 = .ok (.iadd, 1) := dk_96 (dk_at dksX0_sell_1 16 rfl rfl)
theorem dX0_sell_40 : decode cX0_sell 40 = .ok (.iaload, 1) := dk_46 (dk_at dksX0_sell_1 17 rfl rfl)
theorem dX0_sell_41 : decode cX0_sell 41 = .ok (.istore_n 3, 1) := dk_62 (dk_at dksX0_sell_1 18 rfl rfl)
theorem dX0_sell_42 : decode cX0_sell 42 = .ok (.aload_n 0, 1) := dk_42 (dk_at dksX0_sell_1 19 rfl rfl)
theorem dX0_sell_43 : decode cX0_sell 43 = .ok (.getfield 164, 3) := dk_180 0 164 (dk_at dksX0_sell_1 20 rfl rfl)
theorem dX0_sell_46 : decode cX0_sell 46 = .ok (.bipush 6, 2) := dk_16 6 (dk_at dksX0_sell_2 0 rfl rfl)
theorem dX0_sell_48 : decode cX0_sell 48 = .ok (.iload_n 1, 1) := dk_27 (dk_at dksX0_sell_2 2 rfl rfl)
theorem dX0_sell_49 : decode cX0_sell 49 = .ok (.iadd, 1) := dk_96 (dk_at dksX0_sell_2 3 rfl rfl)
theorem dX0_sell_50 : decode cX0_sell 50 = .ok (.iload_n 2, 1) := dk_28 (dk_at dksX0_sell_2 4 rfl rfl)
theorem dX0_sell_51 : decode cX0_sell 51 = .ok (.iastore, 1) := dk_79 (dk_at dksX0_sell_2 5 rfl rfl)
theorem dX0_sell_52 : decode cX0_sell 52 = .ok (.iload_n 3, 1) := dk_29 (dk_at dksX0_sell_2 6 rfl rfl)
theorem dX0_sell_53 : decode cX0_sell 53 = .ok (.ireturn, 1) := dk_172 (dk_at dksX0_sell_2 7 rfl rfl)
abbrev cX0_wipe : ByteArray := prog_1_method_34_code
def yX0_wipe : MethodName := ⟨RX0, "wipe", "()I"⟩
def dkwX0_wipe_0 : List UInt8 := [42, 180, 0, 164, 16, 12, 46, 60, 42, 182, 0, 203, 27, 172]
abbrev dktX0_wipe_0 : List UInt8 := dkwX0_wipe_0 ++ []
theorem dksX0_wipe_0 : cX0_wipe.data.toList.drop 0 = dktX0_wipe_0 := by decide +kernel
theorem dX0_wipe_0 : decode cX0_wipe 0 = .ok (.aload_n 0, 1) := dk_42 (dk_at dksX0_wipe_0 0 rfl rfl)
theorem dX0_wipe_1 : decode cX0_wipe 1 = .ok (.getfield 164, 3) := dk_180 0 164 (dk_at dksX0_wipe_0 1 rfl rfl)
theorem dX0_wipe_4 : decode cX0_wipe 4 = .ok (.bipush 12, 2) := dk_16 12 (dk_at dksX0_wipe_0 4 rfl rfl)
theorem dX0_wipe_6 : decode cX0_wipe 6 = .ok (.iaload, 1) := dk_46 (dk_at dksX0_wipe_0 6 rfl rfl)
theorem dX0_wipe_7 : decode cX0_wipe 7 = .ok (.istore_n 1, 1) := dk_60 (dk_at dksX0_wipe_0 7 rfl rfl)
theorem dX0_wipe_8 : decode cX0_wipe 8 = .ok (.aload_n 0, 1) := dk_42 (dk_at dksX0_wipe_0 8 rfl rfl)
theorem dX0_wipe_9 : decode cX0_wipe 9 = .ok (.invokevirtual 203, 3) := dk_182 0 203 (dk_at dksX0_wipe_0 9 rfl rfl)
theorem dX0_wipe_12 : decode cX0_wipe 12 = .ok (.iload_n 1, 1) := dk_27 (dk_at dksX0_wipe_0 12 rfl rfl)
theorem dX0_wipe_13 : decode cX0_wipe 13 = .ok (.ireturn, 1) := dk_172 (dk_at dksX0_wipe_0 13 rfl rfl)
abbrev cX0_word : ByteArray := prog_1_method_35_code
def yX0_word : MethodName := ⟨RX0, "word", "(I)I"⟩
def dkwX0_word_1 : List UInt8 := [167, 0, 4, 2, 172]
abbrev dktX0_word_1 : List UInt8 := dkwX0_word_1 ++ []
def dkwX0_word_0 : List UInt8 := [27, 3, 42, 180, 0, 164, 16, 12, 46, 4, 100, 184, 0, 235, 153, 0, 12, 42, 180, 0, 164, 27, 46]
abbrev dktX0_word_0 : List UInt8 := dkwX0_word_0 ++ dktX0_word_1
theorem dksX0_word_0 : cX0_word.data.toList.drop 0 = dktX0_word_0 := by decide +kernel
theorem dksX0_word_1 : cX0_word.data.toList.drop 23 = dktX0_word_1 := dk_seg dksX0_word_0 23 rfl rfl
theorem dX0_word_0 : decode cX0_word 0 = .ok (.iload_n 1, 1) := dk_27 (dk_at dksX0_word_0 0 rfl rfl)
theorem dX0_word_1 : decode cX0_word 1 = .ok (.iconst 0, 1) := dk_3 (dk_at dksX0_word_0 1 rfl rfl)
theorem dX0_word_2 : decode cX0_word 2 = .ok (.aload_n 0, 1) := dk_42 (dk_at dksX0_word_0 2 rfl rfl)
theorem dX0_word_3 : decode cX0_word 3 = .ok (.getfield 164, 3) := dk_180 0 164 (dk_at dksX0_word_0 3 rfl rfl)
theorem dX0_word_6 : decode cX0_word 6 = .ok (.bipush 12, 2) := dk_16 12 (dk_at dksX0_word_0 6 rfl rfl)
theorem dX0_word_8 : decode cX0_word 8 = .ok (.iaload, 1) := dk_46 (dk_at dksX0_word_0 8 rfl rfl)
theorem dX0_word_9 : decode cX0_word 9 = .ok (.iconst 1, 1) := dk_4 (dk_at dksX0_word_0 9 rfl rfl)
theorem dX0_word_10 : decode cX0_word 10 = .ok (.isub, 1) := dk_100 (dk_at dksX0_word_0 10 rfl rfl)
theorem dX0_word_11 : decode cX0_word 11 = .ok (.invokestatic 235, 3) := dk_184 0 235 (dk_at dksX0_word_0 11 rfl rfl)
theorem dX0_word_14 : decode cX0_word 14 = .ok (.ifCond .eq 12, 3) := dk_153 0 12 (dk_at dksX0_word_0 14 rfl rfl)
theorem dX0_word_17 : decode cX0_word 17 = .ok (.aload_n 0, 1) := dk_42 (dk_at dksX0_word_0 17 rfl rfl)
theorem dX0_word_18 : decode cX0_word 18 = .ok (.getfield 164, 3) := dk_180 0 164 (dk_at dksX0_word_0 18 rfl rfl)
theorem dX0_word_21 : decode cX0_word 21 = .ok (.iload_n 1, 1) := dk_27 (dk_at dksX0_word_0 21 rfl rfl)
theorem dX0_word_22 : decode cX0_word 22 = .ok (.iaload, 1) := dk_46 (dk_at dksX0_word_0 22 rfl rfl)
theorem dX0_word_23 : decode cX0_word 23 = .ok (.goto 4, 3) := dk_167 0 4 (dk_at dksX0_word_1 0 rfl rfl)
theorem dX0_word_26 : decode cX0_word 26 = .ok (.iconst (-1), 1) := dk_2 (dk_at dksX0_word_1 3 rfl rfl)
theorem dX0_word_27 : decode cX0_word 27 = .ok (.ireturn, 1) := dk_172 (dk_at dksX0_word_1 4 rfl rfl)
abbrev cX0_next : ByteArray := prog_1_method_36_code
def yX0_next : MethodName := ⟨RX0, "next", "()I"⟩
def dkwX0_next_1 : List UInt8 := [153, 0, 9, 4, 28, 120, 167, 0, 4, 3, 128, 60, 132, 2, 1, 167, 255, 221, 27, 172]
abbrev dktX0_next_1 : List UInt8 := dkwX0_next_1 ++ []
def dkwX0_next_0 : List UInt8 := [3, 60, 3, 61, 28, 42, 180, 0, 31, 180, 0, 80, 182, 0, 47, 162, 0, 27, 27, 42, 28, 182, 1, 7]
abbrev dktX0_next_0 : List UInt8 := dkwX0_next_0 ++ dktX0_next_1
theorem dksX0_next_0 : cX0_next.data.toList.drop 0 = dktX0_next_0 := by decide +kernel
theorem dksX0_next_1 : cX0_next.data.toList.drop 24 = dktX0_next_1 := dk_seg dksX0_next_0 24 rfl rfl
theorem dX0_next_0 : decode cX0_next 0 = .ok (.iconst 0, 1) := dk_3 (dk_at dksX0_next_0 0 rfl rfl)
theorem dX0_next_1 : decode cX0_next 1 = .ok (.istore_n 1, 1) := dk_60 (dk_at dksX0_next_0 1 rfl rfl)
theorem dX0_next_2 : decode cX0_next 2 = .ok (.iconst 0, 1) := dk_3 (dk_at dksX0_next_0 2 rfl rfl)
theorem dX0_next_3 : decode cX0_next 3 = .ok (.istore_n 2, 1) := dk_61 (dk_at dksX0_next_0 3 rfl rfl)
theorem dX0_next_4 : decode cX0_next 4 = .ok (.iload_n 2, 1) := dk_28 (dk_at dksX0_next_0 4 rfl rfl)
theorem dX0_next_5 : decode cX0_next 5 = .ok (.aload_n 0, 1) := dk_42 (dk_at dksX0_next_0 5 rfl rfl)
theorem dX0_next_6 : decode cX0_next 6 = .ok (.getfield 31, 3) := dk_180 0 31 (dk_at dksX0_next_0 6 rfl rfl)
theorem dX0_next_9 : decode cX0_next 9 = .ok (.getfield 80, 3) := dk_180 0 80 (dk_at dksX0_next_0 9 rfl rfl)
theorem dX0_next_12 : decode cX0_next 12 = .ok (.invokevirtual 47, 3) := dk_182 0 47 (dk_at dksX0_next_0 12 rfl rfl)
theorem dX0_next_15 : decode cX0_next 15 = .ok (.if_icmp .ge 27, 3) := dk_162 0 27 (dk_at dksX0_next_0 15 rfl rfl)
theorem dX0_next_18 : decode cX0_next 18 = .ok (.iload_n 1, 1) := dk_27 (dk_at dksX0_next_0 18 rfl rfl)
theorem dX0_next_19 : decode cX0_next 19 = .ok (.aload_n 0, 1) := dk_42 (dk_at dksX0_next_0 19 rfl rfl)
theorem dX0_next_20 : decode cX0_next 20 = .ok (.iload_n 2, 1) := dk_28 (dk_at dksX0_next_0 20 rfl rfl)
theorem dX0_next_21 : decode cX0_next 21 = .ok (.invokevirtual 263, 3) := dk_182 1 7 (dk_at dksX0_next_0 21 rfl rfl)
theorem dX0_next_24 : decode cX0_next 24 = .ok (.ifCond .eq 9, 3) := dk_153 0 9 (dk_at dksX0_next_1 0 rfl rfl)
theorem dX0_next_27 : decode cX0_next 27 = .ok (.iconst 1, 1) := dk_4 (dk_at dksX0_next_1 3 rfl rfl)
theorem dX0_next_28 : decode cX0_next 28 = .ok (.iload_n 2, 1) := dk_28 (dk_at dksX0_next_1 4 rfl rfl)
theorem dX0_next_29 : decode cX0_next 29 = .ok (.ishl, 1) := dk_120 (dk_at dksX0_next_1 5 rfl rfl)
theorem dX0_next_30 : decode cX0_next 30 = .ok (.goto 4, 3) := dk_167 0 4 (dk_at dksX0_next_1 6 rfl rfl)
theorem dX0_next_33 : decode cX0_next 33 = .ok (.iconst 0, 1) := dk_3 (dk_at dksX0_next_1 9 rfl rfl)
theorem dX0_next_34 : decode cX0_next 34 = .ok (.ior, 1) := dk_128 (dk_at dksX0_next_1 10 rfl rfl)
theorem dX0_next_35 : decode cX0_next 35 = .ok (.istore_n 1, 1) := dk_60 (dk_at dksX0_next_1 11 rfl rfl)
theorem dX0_next_36 : decode cX0_next 36 = .ok (.iinc 2 1, 3) := dk_132 2 1 (dk_at dksX0_next_1 12 rfl rfl)
theorem dX0_next_39 : decode cX0_next 39 = .ok (.goto (-35), 3) := dk_167 255 221 (dk_at dksX0_next_1 15 rfl rfl)
theorem dX0_next_42 : decode cX0_next 42 = .ok (.iload_n 1, 1) := dk_27 (dk_at dksX0_next_1 18 rfl rfl)
theorem dX0_next_43 : decode cX0_next 43 = .ok (.ireturn, 1) := dk_172 (dk_at dksX0_next_1 19 rfl rfl)
abbrev cX0_readings_2 : ByteArray := prog_1_method_37_code
def yX0_readings_2 : MethodName := ⟨RX0, "readings", "()I"⟩
def dkwX0_readings_2_1 : List UInt8 := [182, 0, 68, 136, 172]
abbrev dktX0_readings_2_1 : List UInt8 := dkwX0_readings_2_1 ++ []
def dkwX0_readings_2_0 : List UInt8 := [42, 42, 180, 0, 164, 42, 180, 0, 164, 16, 12, 46, 182, 0, 104, 42, 42, 180, 0, 164, 16, 12, 46]
abbrev dktX0_readings_2_0 : List UInt8 := dkwX0_readings_2_0 ++ dktX0_readings_2_1
theorem dksX0_readings_2_0 : cX0_readings_2.data.toList.drop 0 = dktX0_readings_2_0 := by decide +kernel
theorem dksX0_readings_2_1 : cX0_readings_2.data.toList.drop 23 = dktX0_readings_2_1 := dk_seg dksX0_readings_2_0 23 rfl rfl
theorem dX0_readings_2_0 : decode cX0_readings_2 0 = .ok (.aload_n 0, 1) := dk_42 (dk_at dksX0_readings_2_0 0 rfl rfl)
theorem dX0_readings_2_1 : decode cX0_readings_2 1 = .ok (.aload_n 0, 1) := dk_42 (dk_at dksX0_readings_2_0 1 rfl rfl)
theorem dX0_readings_2_2 : decode cX0_readings_2 2 = .ok (.getfield 164, 3) := dk_180 0 164 (dk_at dksX0_readings_2_0 2 rfl rfl)
theorem dX0_readings_2_5 : decode cX0_readings_2 5 = .ok (.aload_n 0, 1) := dk_42 (dk_at dksX0_readings_2_0 5 rfl rfl)
theorem dX0_readings_2_6 : decode cX0_readings_2 6 = .ok (.getfield 164, 3) := dk_180 0 164 (dk_at dksX0_readings_2_0 6 rfl rfl)
theorem dX0_readings_2_9 : decode cX0_readings_2 9 = .ok (.bipush 12, 2) := dk_16 12 (dk_at dksX0_readings_2_0 9 rfl rfl)
theorem dX0_readings_2_11 : decode cX0_readings_2 11 = .ok (.iaload, 1) := dk_46 (dk_at dksX0_readings_2_0 11 rfl rfl)
theorem dX0_readings_2_12 : decode cX0_readings_2 12 = .ok (.invokevirtual 104, 3) := dk_182 0 104 (dk_at dksX0_readings_2_0 12 rfl rfl)
theorem dX0_readings_2_15 : decode cX0_readings_2 15 = .ok (.aload_n 0, 1) := dk_42 (dk_at dksX0_readings_2_0 15 rfl rfl)
theorem dX0_readings_2_16 : decode cX0_readings_2 16 = .ok (.aload_n 0, 1) := dk_42 (dk_at dksX0_readings_2_0 16 rfl rfl)
theorem dX0_readings_2_17 : decode cX0_readings_2 17 = .ok (.getfield 164, 3) := dk_180 0 164 (dk_at dksX0_readings_2_0 17 rfl rfl)
theorem dX0_readings_2_20 : decode cX0_readings_2 20 = .ok (.bipush 12, 2) := dk_16 12 (dk_at dksX0_readings_2_0 20 rfl rfl)
theorem dX0_readings_2_22 : decode cX0_readings_2 22 = .ok (.iaload, 1) := dk_46 (dk_at dksX0_readings_2_0 22 rfl rfl)
theorem dX0_readings_2_23 : decode cX0_readings_2 23 = .ok (.invokevirtual 68, 3) := dk_182 0 68 (dk_at dksX0_readings_2_1 0 rfl rfl)
theorem dX0_readings_2_26 : decode cX0_readings_2 26 = .ok (.l2i, 1) := dk_136 (dk_at dksX0_readings_2_1 3 rfl rfl)
theorem dX0_readings_2_27 : decode cX0_readings_2 27 = .ok (.ireturn, 1) := dk_172 (dk_at dksX0_readings_2_1 4 rfl rfl)
abbrev cX0_means : ByteArray := prog_1_method_38_code
def yX0_means : MethodName := ⟨RX0, "means", "(I)I"⟩
def dkwX0_means_1 : List UInt8 := [167, 0, 5, 18, 245, 172]
abbrev dktX0_means_1 : List UInt8 := dkwX0_means_1 ++ []
def dkwX0_means_0 : List UInt8 := [27, 184, 0, 242, 153, 0, 22, 42, 42, 180, 0, 164, 42, 180, 0, 164, 16, 12, 46, 27, 182, 0, 139]
abbrev dktX0_means_0 : List UInt8 := dkwX0_means_0 ++ dktX0_means_1
theorem dksX0_means_0 : cX0_means.data.toList.drop 0 = dktX0_means_0 := by decide +kernel
theorem dksX0_means_1 : cX0_means.data.toList.drop 23 = dktX0_means_1 := dk_seg dksX0_means_0 23 rfl rfl
theorem dX0_means_0 : decode cX0_means 0 = .ok (.iload_n 1, 1) := dk_27 (dk_at dksX0_means_0 0 rfl rfl)
theorem dX0_means_1 : decode cX0_means 1 = .ok (.invokestatic 242, 3) := dk_184 0 242 (dk_at dksX0_means_0 1 rfl rfl)
theorem dX0_means_4 : decode cX0_means 4 = .ok (.ifCond .eq 22, 3) := dk_153 0 22 (dk_at dksX0_means_0 4 rfl rfl)
theorem dX0_means_7 : decode cX0_means 7 = .ok (.aload_n 0, 1) := dk_42 (dk_at dksX0_means_0 7 rfl rfl)
theorem dX0_means_8 : decode cX0_means 8 = .ok (.aload_n 0, 1) := dk_42 (dk_at dksX0_means_0 8 rfl rfl)
theorem dX0_means_9 : decode cX0_means 9 = .ok (.getfield 164, 3) := dk_180 0 164 (dk_at dksX0_means_0 9 rfl rfl)
theorem dX0_means_12 : decode cX0_means 12 = .ok (.aload_n 0, 1) := dk_42 (dk_at dksX0_means_0 12 rfl rfl)
theorem dX0_means_13 : decode cX0_means 13 = .ok (.getfield 164, 3) := dk_180 0 164 (dk_at dksX0_means_0 13 rfl rfl)
theorem dX0_means_16 : decode cX0_means 16 = .ok (.bipush 12, 2) := dk_16 12 (dk_at dksX0_means_0 16 rfl rfl)
theorem dX0_means_18 : decode cX0_means 18 = .ok (.iaload, 1) := dk_46 (dk_at dksX0_means_0 18 rfl rfl)
theorem dX0_means_19 : decode cX0_means 19 = .ok (.iload_n 1, 1) := dk_27 (dk_at dksX0_means_0 19 rfl rfl)
theorem dX0_means_20 : decode cX0_means 20 = .ok (.invokevirtual 139, 3) := dk_182 0 139 (dk_at dksX0_means_0 20 rfl rfl)
theorem dX0_means_23 : decode cX0_means 23 = .ok (.goto 5, 3) := dk_167 0 5 (dk_at dksX0_means_1 0 rfl rfl)
theorem dX0_means_26 : decode cX0_means 26 = .ok (.ldc 245, 2) := dk_18 245 (dk_at dksX0_means_1 3 rfl rfl)
theorem dX0_means_28 : decode cX0_means 28 = .ok (.ireturn, 1) := dk_172 (dk_at dksX0_means_1 5 rfl rfl)
abbrev cX0_meaning : ByteArray := prog_1_method_10_code
def yX0_meaning : MethodName := ⟨RX0, "meaning", "([III)I"⟩
def dkwX0_meaning_4 : List UInt8 := [160, 0, 13, 21, 4, 42, 180, 0, 126, 96, 167, 0, 5, 21, 4, 172]
abbrev dktX0_meaning_4 : List UInt8 := dkwX0_meaning_4 ++ []
def dkwX0_meaning_3 : List UInt8 := [132, 5, 1, 167, 255, 190, 29, 42, 180, 0, 117, 160, 0, 26, 43, 42, 180, 0, 120, 46, 42, 180, 0, 123]
abbrev dktX0_meaning_3 : List UInt8 := dkwX0_meaning_3 ++ dktX0_meaning_4
def dkwX0_meaning_2 : List UInt8 := [6, 16, 8, 43, 21, 5, 4, 100, 46, 104, 43, 21, 5, 46, 96, 104, 29, 96, 46, 96, 54, 4]
abbrev dktX0_meaning_2 : List UInt8 := dkwX0_meaning_2 ++ dktX0_meaning_3
def dkwX0_meaning_1 : List UInt8 := [21, 5, 46, 104, 29, 96, 46, 96, 54, 4, 21, 5, 158, 0, 34, 21, 4, 42, 180, 0, 31, 180, 0, 114]
abbrev dktX0_meaning_1 : List UInt8 := dkwX0_meaning_1 ++ dktX0_meaning_2
def dkwX0_meaning_0 : List UInt8 := [3, 54, 4, 3, 54, 5, 21, 5, 28, 162, 0, 66, 21, 4, 42, 180, 0, 31, 180, 0, 111, 6, 43]
abbrev dktX0_meaning_0 : List UInt8 := dkwX0_meaning_0 ++ dktX0_meaning_1
theorem dksX0_meaning_0 : cX0_meaning.data.toList.drop 0 = dktX0_meaning_0 := by decide +kernel
theorem dksX0_meaning_1 : cX0_meaning.data.toList.drop 23 = dktX0_meaning_1 := dk_seg dksX0_meaning_0 23 rfl rfl
theorem dksX0_meaning_2 : cX0_meaning.data.toList.drop 47 = dktX0_meaning_2 := dk_seg dksX0_meaning_1 24 rfl rfl
theorem dksX0_meaning_3 : cX0_meaning.data.toList.drop 69 = dktX0_meaning_3 := dk_seg dksX0_meaning_2 22 rfl rfl
theorem dksX0_meaning_4 : cX0_meaning.data.toList.drop 93 = dktX0_meaning_4 := dk_seg dksX0_meaning_3 24 rfl rfl
theorem dX0_meaning_0 : decode cX0_meaning 0 = .ok (.iconst 0, 1) := dk_3 (dk_at dksX0_meaning_0 0 rfl rfl)
theorem dX0_meaning_1 : decode cX0_meaning 1 = .ok (.istore 4, 2) := dk_54 4 (dk_at dksX0_meaning_0 1 rfl rfl)
theorem dX0_meaning_3 : decode cX0_meaning 3 = .ok (.iconst 0, 1) := dk_3 (dk_at dksX0_meaning_0 3 rfl rfl)
theorem dX0_meaning_4 : decode cX0_meaning 4 = .ok (.istore 5, 2) := dk_54 5 (dk_at dksX0_meaning_0 4 rfl rfl)
theorem dX0_meaning_6 : decode cX0_meaning 6 = .ok (.iload 5, 2) := dk_21 5 (dk_at dksX0_meaning_0 6 rfl rfl)
theorem dX0_meaning_8 : decode cX0_meaning 8 = .ok (.iload_n 2, 1) := dk_28 (dk_at dksX0_meaning_0 8 rfl rfl)
theorem dX0_meaning_9 : decode cX0_meaning 9 = .ok (.if_icmp .ge 66, 3) := dk_162 0 66 (dk_at dksX0_meaning_0 9 rfl rfl)
theorem dX0_meaning_12 : decode cX0_meaning 12 = .ok (.iload 4, 2) := dk_21 4 (dk_at dksX0_meaning_0 12 rfl rfl)
theorem dX0_meaning_14 : decode cX0_meaning 14 = .ok (.aload_n 0, 1) := dk_42 (dk_at dksX0_meaning_0 14 rfl rfl)
theorem dX0_meaning_15 : decode cX0_meaning 15 = .ok (.getfield 31, 3) := dk_180 0 31 (dk_at dksX0_meaning_0 15 rfl rfl)
theorem dX0_meaning_18 : decode cX0_meaning 18 = .ok (.getfield 111, 3) := dk_180 0 111 (dk_at dksX0_meaning_0 18 rfl rfl)
theorem dX0_meaning_21 : decode cX0_meaning 21 = .ok (.iconst 3, 1) := dk_6 (dk_at dksX0_meaning_0 21 rfl rfl)
theorem dX0_meaning_22 : decode cX0_meaning 22 = .ok (.aload_n 1, 1) := dk_43 (dk_at dksX0_meaning_0 22 rfl rfl)
theorem dX0_meaning_23 : decode cX0_meaning 23 = .ok (.iload 5, 2) := dk_21 5 (dk_at dksX0_meaning_1 0 rfl rfl)
theorem dX0_meaning_25 : decode cX0_meaning 25 = .ok (.iaload, 1) := dk_46 (dk_at dksX0_meaning_1 2 rfl rfl)
theorem dX0_meaning_26 : decode cX0_meaning 26 = .ok (.imul, 1) := dk_104 (dk_at dksX0_meaning_1 3 rfl rfl)
theorem dX0_meaning_27 : decode cX0_meaning 27 = .ok (.iload_n 3, 1) := dk_29 (dk_at dksX0_meaning_1 4 rfl rfl)
theorem dX0_meaning_28 : decode cX0_meaning 28 = .ok (.iadd, 1) := dk_96 (dk_at dksX0_meaning_1 5 rfl rfl)
theorem dX0_meaning_29 : decode cX0_meaning 29 = .ok (.iaload, 1) := dk_46 (dk_at dksX0_meaning_1 6 rfl rfl)
theorem dX0_meaning_30 : decode cX0_meaning 30 = .ok (.iadd, 1) := dk_96 (dk_at dksX0_meaning_1 7 rfl rfl)
theorem dX0_meaning_31 : decode cX0_meaning 31 = .ok (.istore 4, 2) := dk_54 4 (dk_at dksX0_meaning_1 8 rfl rfl)
theorem dX0_meaning_33 : decode cX0_meaning 33 = .ok (.iload 5, 2) := dk_21 5 (dk_at dksX0_meaning_1 10 rfl rfl)
theorem dX0_meaning_35 : decode cX0_meaning 35 = .ok (.ifCond .le 34, 3) := dk_158 0 34 (dk_at dksX0_meaning_1 12 rfl rfl)
theorem dX0_meaning_38 : decode cX0_meaning 38 = .ok (.iload 4, 2) := dk_21 4 (dk_at dksX0_meaning_1 15 rfl rfl)
theorem dX0_meaning_40 : decode cX0_meaning 40 = .ok (.aload_n 0, 1) := dk_42 (dk_at dksX0_meaning_1 17 rfl rfl)
theorem dX0_meaning_41 : decode cX0_meaning 41 = .ok (.getfield 31, 3) := dk_180 0 31 (dk_at dksX0_meaning_1 18 rfl rfl)
theorem dX0_meaning_44 : decode cX0_meaning 44 = .ok (.getfield 114, 3) := dk_180 0 114 (dk_at dksX0_meaning_1 21 rfl rfl)
theorem dX0_meaning_47 : decode cX0_meaning 47 = .ok (.iconst 3, 1) := dk_6 (dk_at dksX0_meaning_2 0 rfl rfl)
theorem dX0_meaning_48 : decode cX0_meaning 48 = .ok (.bipush 8, 2) := dk_16 8 (dk_at dksX0_meaning_2 1 rfl rfl)
theorem dX0_meaning_50 : decode cX0_meaning 50 = .ok (.aload_n 1, 1) := dk_43 (dk_at dksX0_meaning_2 3 rfl rfl)
theorem dX0_meaning_51 : decode cX0_meaning 51 = .ok (.iload 5, 2) := dk_21 5 (dk_at dksX0_meaning_2 4 rfl rfl)
theorem dX0_meaning_53 : decode cX0_meaning 53 = .ok (.iconst 1, 1) := dk_4 (dk_at dksX0_meaning_2 6 rfl rfl)
theorem dX0_meaning_54 : decode cX0_meaning 54 = .ok (.isub, 1) := dk_100 (dk_at dksX0_meaning_2 7 rfl rfl)
theorem dX0_meaning_55 : decode cX0_meaning 55 = .ok (.iaload, 1) := dk_46 (dk_at dksX0_meaning_2 8 rfl rfl)
theorem dX0_meaning_56 : decode cX0_meaning 56 = .ok (.imul, 1) := dk_104 (dk_at dksX0_meaning_2 9 rfl rfl)
theorem dX0_meaning_57 : decode cX0_meaning 57 = .ok (.aload_n 1, 1) := dk_43 (dk_at dksX0_meaning_2 10 rfl rfl)
theorem dX0_meaning_58 : decode cX0_meaning 58 = .ok (.iload 5, 2) := dk_21 5 (dk_at dksX0_meaning_2 11 rfl rfl)
theorem dX0_meaning_60 : decode cX0_meaning 60 = .ok (.iaload, 1) := dk_46 (dk_at dksX0_meaning_2 13 rfl rfl)
theorem dX0_meaning_61 : decode cX0_meaning 61 = .ok (.iadd, 1) := dk_96 (dk_at dksX0_meaning_2 14 rfl rfl)
theorem dX0_meaning_62 : decode cX0_meaning 62 = .ok (.imul, 1) := dk_104 (dk_at dksX0_meaning_2 15 rfl rfl)
theorem dX0_meaning_63 : decode cX0_meaning 63 = .ok (.iload_n 3, 1) := dk_29 (dk_at dksX0_meaning_2 16 rfl rfl)
theorem dX0_meaning_64 : decode cX0_meaning 64 = .ok (.iadd, 1) := dk_96 (dk_at dksX0_meaning_2 17 rfl rfl)
theorem dX0_meaning_65 : decode cX0_meaning 65 = .ok (.iaload, 1) := dk_46 (dk_at dksX0_meaning_2 18 rfl rfl)
theorem dX0_meaning_66 : decode cX0_meaning 66 = .ok (.iadd, 1) := dk_96 (dk_at dksX0_meaning_2 19 rfl rfl)
theorem dX0_meaning_67 : decode cX0_meaning 67 = .ok (.istore 4, 2) := dk_54 4 (dk_at dksX0_meaning_2 20 rfl rfl)
theorem dX0_meaning_69 : decode cX0_meaning 69 = .ok (.iinc 5 1, 3) := dk_132 5 1 (dk_at dksX0_meaning_3 0 rfl rfl)
theorem dX0_meaning_72 : decode cX0_meaning 72 = .ok (.goto (-66), 3) := dk_167 255 190 (dk_at dksX0_meaning_3 3 rfl rfl)
theorem dX0_meaning_75 : decode cX0_meaning 75 = .ok (.iload_n 3, 1) := dk_29 (dk_at dksX0_meaning_3 6 rfl rfl)
theorem dX0_meaning_76 : decode cX0_meaning 76 = .ok (.aload_n 0, 1) := dk_42 (dk_at dksX0_meaning_3 7 rfl rfl)
theorem dX0_meaning_77 : decode cX0_meaning 77 = .ok (.getfield 117, 3) := dk_180 0 117 (dk_at dksX0_meaning_3 8 rfl rfl)
theorem dX0_meaning_80 : decode cX0_meaning 80 = .ok (.if_icmp .ne 26, 3) := dk_160 0 26 (dk_at dksX0_meaning_3 11 rfl rfl)
theorem dX0_meaning_83 : decode cX0_meaning 83 = .ok (.aload_n 1, 1) := dk_43 (dk_at dksX0_meaning_3 14 rfl rfl)
theorem dX0_meaning_84 : decode cX0_meaning 84 = .ok (.aload_n 0, 1) := dk_42 (dk_at dksX0_meaning_3 15 rfl rfl)
theorem dX0_meaning_85 : decode cX0_meaning 85 = .ok (.getfield 120, 3) := dk_180 0 120 (dk_at dksX0_meaning_3 16 rfl rfl)
theorem dX0_meaning_88 : decode cX0_meaning 88 = .ok (.iaload, 1) := dk_46 (dk_at dksX0_meaning_3 19 rfl rfl)
theorem dX0_meaning_89 : decode cX0_meaning 89 = .ok (.aload_n 0, 1) := dk_42 (dk_at dksX0_meaning_3 20 rfl rfl)
theorem dX0_meaning_90 : decode cX0_meaning 90 = .ok (.getfield 123, 3) := dk_180 0 123 (dk_at dksX0_meaning_3 21 rfl rfl)
theorem dX0_meaning_93 : decode cX0_meaning 93 = .ok (.if_icmp .ne 13, 3) := dk_160 0 13 (dk_at dksX0_meaning_4 0 rfl rfl)
theorem dX0_meaning_96 : decode cX0_meaning 96 = .ok (.iload 4, 2) := dk_21 4 (dk_at dksX0_meaning_4 3 rfl rfl)
theorem dX0_meaning_98 : decode cX0_meaning 98 = .ok (.aload_n 0, 1) := dk_42 (dk_at dksX0_meaning_4 5 rfl rfl)
theorem dX0_meaning_99 : decode cX0_meaning 99 = .ok (.getfield 126, 3) := dk_180 0 126 (dk_at dksX0_meaning_4 6 rfl rfl)
theorem dX0_meaning_102 : decode cX0_meaning 102 = .ok (.iadd, 1) := dk_96 (dk_at dksX0_meaning_4 9 rfl rfl)
theorem dX0_meaning_103 : decode cX0_meaning 103 = .ok (.goto 5, 3) := dk_167 0 5 (dk_at dksX0_meaning_4 10 rfl rfl)
theorem dX0_meaning_106 : decode cX0_meaning 106 = .ok (.iload 4, 2) := dk_21 4 (dk_at dksX0_meaning_4 13 rfl rfl)
theorem dX0_meaning_108 : decode cX0_meaning 108 = .ok (.ireturn, 1) := dk_172 (dk_at dksX0_meaning_4 15 rfl rfl)
abbrev cX0_written : ByteArray := prog_1_method_40_code
def yX0_written : MethodName := ⟨RX0, "written", "(I)I"⟩
def dkwX0_written_4 : List UInt8 := [28, 42, 180, 0, 164, 42, 180, 0, 164, 16, 12, 46, 27, 182, 0, 143, 172]
abbrev dktX0_written_4 : List UInt8 := dkwX0_written_4 ++ []
def dkwX0_written_3 : List UInt8 := [180, 0, 172, 182, 1, 17, 61, 42, 28, 42, 180, 0, 164, 42, 180, 0, 164, 16, 12, 46, 182, 1, 21, 42]
abbrev dktX0_written_3 : List UInt8 := dkwX0_written_3 ++ dktX0_written_4
def dkwX0_written_2 : List UInt8 := [180, 0, 172, 3, 16, 6, 184, 0, 72, 42, 42, 180, 0, 164, 42, 180, 0, 164, 16, 12, 46, 42]
abbrev dktX0_written_2 : List UInt8 := dkwX0_written_2 ++ dktX0_written_3
def dkwX0_written_1 : List UInt8 := [1, 182, 1, 13, 153, 0, 10, 42, 180, 0, 83, 153, 0, 6, 18, 245, 172, 42, 180, 0, 164, 16, 6, 42]
abbrev dktX0_written_1 : List UInt8 := dkwX0_written_1 ++ dktX0_written_2
def dkwX0_written_0 : List UInt8 := [42, 3, 181, 0, 218, 27, 184, 0, 242, 153, 0, 29, 42, 42, 180, 0, 164, 42, 180, 0, 164, 16, 12, 46]
abbrev dktX0_written_0 : List UInt8 := dkwX0_written_0 ++ dktX0_written_1
theorem dksX0_written_0 : cX0_written.data.toList.drop 0 = dktX0_written_0 := by decide +kernel
theorem dksX0_written_1 : cX0_written.data.toList.drop 24 = dktX0_written_1 := dk_seg dksX0_written_0 24 rfl rfl
theorem dksX0_written_2 : cX0_written.data.toList.drop 48 = dktX0_written_2 := dk_seg dksX0_written_1 24 rfl rfl
theorem dksX0_written_3 : cX0_written.data.toList.drop 70 = dktX0_written_3 := dk_seg dksX0_written_2 22 rfl rfl
theorem dksX0_written_4 : cX0_written.data.toList.drop 94 = dktX0_written_4 := dk_seg dksX0_written_3 24 rfl rfl
theorem dX0_written_0 : decode cX0_written 0 = .ok (.aload_n 0, 1) := dk_42 (dk_at dksX0_written_0 0 rfl rfl)
theorem dX0_written_1 : decode cX0_written 1 = .ok (.iconst 0, 1) := dk_3 (dk_at dksX0_written_0 1 rfl rfl)
theorem dX0_written_2 : decode cX0_written 2 = .ok (.putfield 218, 3) := dk_181 0 218 (dk_at dksX0_written_0 2 rfl rfl)
theorem dX0_written_5 : decode cX0_written 5 = .ok (.iload_n 1, 1) := dk_27 (dk_at dksX0_written_0 5 rfl rfl)
theorem dX0_written_6 : decode cX0_written 6 = .ok (.invokestatic 242, 3) := dk_184 0 242 (dk_at dksX0_written_0 6 rfl rfl)
theorem dX0_written_9 : decode cX0_written 9 = .ok (.ifCond .eq 29, 3) := dk_153 0 29 (dk_at dksX0_written_0 9 rfl rfl)
theorem dX0_written_12 : decode cX0_written 12 = .ok (.aload_n 0, 1) := dk_42 (dk_at dksX0_written_0 12 rfl rfl)
theorem dX0_written_13 : decode cX0_written 13 = .ok (.aload_n 0, 1) := dk_42 (dk_at dksX0_written_0 13 rfl rfl)
theorem dX0_written_14 : decode cX0_written 14 = .ok (.getfield 164, 3) := dk_180 0 164 (dk_at dksX0_written_0 14 rfl rfl)
theorem dX0_written_17 : decode cX0_written 17 = .ok (.aload_n 0, 1) := dk_42 (dk_at dksX0_written_0 17 rfl rfl)
theorem dX0_written_18 : decode cX0_written 18 = .ok (.getfield 164, 3) := dk_180 0 164 (dk_at dksX0_written_0 18 rfl rfl)
theorem dX0_written_21 : decode cX0_written 21 = .ok (.bipush 12, 2) := dk_16 12 (dk_at dksX0_written_0 21 rfl rfl)
theorem dX0_written_23 : decode cX0_written 23 = .ok (.iaload, 1) := dk_46 (dk_at dksX0_written_0 23 rfl rfl)
theorem dX0_written_24 : decode cX0_written 24 = .ok (.aconst_null, 1) := dk_1 (dk_at dksX0_written_1 0 rfl rfl)
theorem dX0_written_25 : decode cX0_written 25 = .ok (.invokevirtual 269, 3) := dk_182 1 13 (dk_at dksX0_written_1 1 rfl rfl)
theorem dX0_written_28 : decode cX0_written 28 = .ok (.ifCond .eq 10, 3) := dk_153 0 10 (dk_at dksX0_written_1 4 rfl rfl)
theorem dX0_written_31 : decode cX0_written 31 = .ok (.aload_n 0, 1) := dk_42 (dk_at dksX0_written_1 7 rfl rfl)
theorem dX0_written_32 : decode cX0_written 32 = .ok (.getfield 83, 3) := dk_180 0 83 (dk_at dksX0_written_1 8 rfl rfl)
theorem dX0_written_35 : decode cX0_written 35 = .ok (.ifCond .eq 6, 3) := dk_153 0 6 (dk_at dksX0_written_1 11 rfl rfl)
theorem dX0_written_38 : decode cX0_written 38 = .ok (.ldc 245, 2) := dk_18 245 (dk_at dksX0_written_1 14 rfl rfl)
theorem dX0_written_40 : decode cX0_written 40 = .ok (.ireturn, 1) := dk_172 (dk_at dksX0_written_1 16 rfl rfl)
theorem dX0_written_41 : decode cX0_written 41 = .ok (.aload_n 0, 1) := dk_42 (dk_at dksX0_written_1 17 rfl rfl)
theorem dX0_written_42 : decode cX0_written 42 = .ok (.getfield 164, 3) := dk_180 0 164 (dk_at dksX0_written_1 18 rfl rfl)
theorem dX0_written_45 : decode cX0_written 45 = .ok (.bipush 6, 2) := dk_16 6 (dk_at dksX0_written_1 21 rfl rfl)
theorem dX0_written_47 : decode cX0_written 47 = .ok (.aload_n 0, 1) := dk_42 (dk_at dksX0_written_1 23 rfl rfl)
theorem dX0_written_48 : decode cX0_written 48 = .ok (.getfield 172, 3) := dk_180 0 172 (dk_at dksX0_written_2 0 rfl rfl)
theorem dX0_written_51 : decode cX0_written 51 = .ok (.iconst 0, 1) := dk_3 (dk_at dksX0_written_2 3 rfl rfl)
theorem dX0_written_52 : decode cX0_written 52 = .ok (.bipush 6, 2) := dk_16 6 (dk_at dksX0_written_2 4 rfl rfl)
theorem dX0_written_54 : decode cX0_written 54 = .ok (.invokestatic 72, 3) := dk_184 0 72 (dk_at dksX0_written_2 6 rfl rfl)
theorem dX0_written_57 : decode cX0_written 57 = .ok (.aload_n 0, 1) := dk_42 (dk_at dksX0_written_2 9 rfl rfl)
theorem dX0_written_58 : decode cX0_written 58 = .ok (.aload_n 0, 1) := dk_42 (dk_at dksX0_written_2 10 rfl rfl)
theorem dX0_written_59 : decode cX0_written 59 = .ok (.getfield 164, 3) := dk_180 0 164 (dk_at dksX0_written_2 11 rfl rfl)
theorem dX0_written_62 : decode cX0_written 62 = .ok (.aload_n 0, 1) := dk_42 (dk_at dksX0_written_2 14 rfl rfl)
theorem dX0_written_63 : decode cX0_written 63 = .ok (.getfield 164, 3) := dk_180 0 164 (dk_at dksX0_written_2 15 rfl rfl)
theorem dX0_written_66 : decode cX0_written 66 = .ok (.bipush 12, 2) := dk_16 12 (dk_at dksX0_written_2 18 rfl rfl)
theorem dX0_written_68 : decode cX0_written 68 = .ok (.iaload, 1) := dk_46 (dk_at dksX0_written_2 20 rfl rfl)
theorem dX0_written_69 : decode cX0_written 69 = .ok (.aload_n 0, 1) := dk_42 (dk_at dksX0_written_2 21 rfl rfl)
theorem dX0_written_70 : decode cX0_written 70 = .ok (.getfield 172, 3) := dk_180 0 172 (dk_at dksX0_written_3 0 rfl rfl)
theorem dX0_written_73 : decode cX0_written 73 = .ok (.invokevirtual 273, 3) := dk_182 1 17 (dk_at dksX0_written_3 3 rfl rfl)
theorem dX0_written_76 : decode cX0_written 76 = .ok (.istore_n 2, 1) := dk_61 (dk_at dksX0_written_3 6 rfl rfl)
theorem dX0_written_77 : decode cX0_written 77 = .ok (.aload_n 0, 1) := dk_42 (dk_at dksX0_written_3 7 rfl rfl)
theorem dX0_written_78 : decode cX0_written 78 = .ok (.iload_n 2, 1) := dk_28 (dk_at dksX0_written_3 8 rfl rfl)
theorem dX0_written_79 : decode cX0_written 79 = .ok (.aload_n 0, 1) := dk_42 (dk_at dksX0_written_3 9 rfl rfl)
theorem dX0_written_80 : decode cX0_written 80 = .ok (.getfield 164, 3) := dk_180 0 164 (dk_at dksX0_written_3 10 rfl rfl)
theorem dX0_written_83 : decode cX0_written 83 = .ok (.aload_n 0, 1) := dk_42 (dk_at dksX0_written_3 13 rfl rfl)
theorem dX0_written_84 : decode cX0_written 84 = .ok (.getfield 164, 3) := dk_180 0 164 (dk_at dksX0_written_3 14 rfl rfl)
theorem dX0_written_87 : decode cX0_written 87 = .ok (.bipush 12, 2) := dk_16 12 (dk_at dksX0_written_3 17 rfl rfl)
theorem dX0_written_89 : decode cX0_written 89 = .ok (.iaload, 1) := dk_46 (dk_at dksX0_written_3 19 rfl rfl)
theorem dX0_written_90 : decode cX0_written 90 = .ok (.invokevirtual 277, 3) := dk_182 1 21 (dk_at dksX0_written_3 20 rfl rfl)
theorem dX0_written_93 : decode cX0_written 93 = .ok (.aload_n 0, 1) := dk_42 (dk_at dksX0_written_3 23 rfl rfl)
theorem dX0_written_94 : decode cX0_written 94 = .ok (.iload_n 2, 1) := dk_28 (dk_at dksX0_written_4 0 rfl rfl)
theorem dX0_written_95 : decode cX0_written 95 = .ok (.aload_n 0, 1) := dk_42 (dk_at dksX0_written_4 1 rfl rfl)
theorem dX0_written_96 : decode cX0_written 96 = .ok (.getfield 164, 3) := dk_180 0 164 (dk_at dksX0_written_4 2 rfl rfl)
theorem dX0_written_99 : decode cX0_written 99 = .ok (.aload_n 0, 1) := dk_42 (dk_at dksX0_written_4 5 rfl rfl)
theorem dX0_written_100 : decode cX0_written 100 = .ok (.getfield 164, 3) := dk_180 0 164 (dk_at dksX0_written_4 6 rfl rfl)
theorem dX0_written_103 : decode cX0_written 103 = .ok (.bipush 12, 2) := dk_16 12 (dk_at dksX0_written_4 9 rfl rfl)
theorem dX0_written_105 : decode cX0_written 105 = .ok (.iaload, 1) := dk_46 (dk_at dksX0_written_4 11 rfl rfl)
theorem dX0_written_106 : decode cX0_written 106 = .ok (.iload_n 1, 1) := dk_27 (dk_at dksX0_written_4 12 rfl rfl)
theorem dX0_written_107 : decode cX0_written 107 = .ok (.invokevirtual 143, 3) := dk_182 0 143 (dk_at dksX0_written_4 13 rfl rfl)
theorem dX0_written_110 : decode cX0_written 110 = .ok (.ireturn, 1) := dk_172 (dk_at dksX0_written_4 16 rfl rfl)
abbrev cX0_layTree : ByteArray := prog_1_method_8_code
def yX0_layTree : MethodName := ⟨RX0, "layTree", "([II[I)Z"⟩
def dkwX0_layTree_2 : List UInt8 := [45, 184, 0, 100, 4, 172]
abbrev dktX0_layTree_2 : List UInt8 := dkwX0_layTree_2 ++ []
def dkwX0_layTree_1 : List UInt8 := [180, 0, 78, 3, 28, 79, 42, 28, 182, 0, 87, 154, 0, 5, 3, 172, 42, 43, 28, 182, 0, 104, 42, 3]
abbrev dktX0_layTree_1 : List UInt8 := dkwX0_layTree_1 ++ dktX0_layTree_2
def dkwX0_layTree_0 : List UInt8 := [42, 43, 28, 182, 0, 104, 42, 4, 181, 0, 91, 42, 3, 181, 0, 83, 42, 180, 0, 95, 3, 2, 79, 42]
abbrev dktX0_layTree_0 : List UInt8 := dkwX0_layTree_0 ++ dktX0_layTree_1
theorem dksX0_layTree_0 : cX0_layTree.data.toList.drop 0 = dktX0_layTree_0 := by decide +kernel
theorem dksX0_layTree_1 : cX0_layTree.data.toList.drop 24 = dktX0_layTree_1 := dk_seg dksX0_layTree_0 24 rfl rfl
theorem dksX0_layTree_2 : cX0_layTree.data.toList.drop 48 = dktX0_layTree_2 := dk_seg dksX0_layTree_1 24 rfl rfl
theorem dX0_layTree_0 : decode cX0_layTree 0 = .ok (.aload_n 0, 1) := dk_42 (dk_at dksX0_layTree_0 0 rfl rfl)
theorem dX0_layTree_1 : decode cX0_layTree 1 = .ok (.aload_n 1, 1) := dk_43 (dk_at dksX0_layTree_0 1 rfl rfl)
theorem dX0_layTree_2 : decode cX0_layTree 2 = .ok (.iload_n 2, 1) := dk_28 (dk_at dksX0_layTree_0 2 rfl rfl)
theorem dX0_layTree_3 : decode cX0_layTree 3 = .ok (.invokevirtual 104, 3) := dk_182 0 104 (dk_at dksX0_layTree_0 3 rfl rfl)
theorem dX0_layTree_6 : decode cX0_layTree 6 = .ok (.aload_n 0, 1) := dk_42 (dk_at dksX0_layTree_0 6 rfl rfl)
theorem dX0_layTree_7 : decode cX0_layTree 7 = .ok (.iconst 1, 1) := dk_4 (dk_at dksX0_layTree_0 7 rfl rfl)
theorem dX0_layTree_8 : decode cX0_layTree 8 = .ok (.putfield 91, 3) := dk_181 0 91 (dk_at dksX0_layTree_0 8 rfl rfl)
theorem dX0_layTree_11 : decode cX0_layTree 11 = .ok (.aload_n 0, 1) := dk_42 (dk_at dksX0_layTree_0 11 rfl rfl)
theorem dX0_layTree_12 : decode cX0_layTree 12 = .ok (.iconst 0, 1) := dk_3 (dk_at dksX0_layTree_0 12 rfl rfl)
theorem dX0_layTree_13 : decode cX0_layTree 13 = .ok (.putfield 83, 3) := dk_181 0 83 (dk_at dksX0_layTree_0 13 rfl rfl)
theorem dX0_layTree_16 : decode cX0_layTree 16 = .ok (.aload_n 0, 1) := dk_42 (dk_at dksX0_layTree_0 16 rfl rfl)
theorem dX0_layTree_17 : decode cX0_layTree 17 = .ok (.getfield 95, 3) := dk_180 0 95 (dk_at dksX0_layTree_0 17 rfl rfl)
theorem dX0_layTree_20 : decode cX0_layTree 20 = .ok (.iconst 0, 1) := dk_3 (dk_at dksX0_layTree_0 20 rfl rfl)
theorem dX0_layTree_21 : decode cX0_layTree 21 = .ok (.iconst (-1), 1) := dk_2 (dk_at dksX0_layTree_0 21 rfl rfl)
theorem dX0_layTree_22 : decode cX0_layTree 22 = .ok (.iastore, 1) := dk_79 (dk_at dksX0_layTree_0 22 rfl rfl)
theorem dX0_layTree_23 : decode cX0_layTree 23 = .ok (.aload_n 0, 1) := dk_42 (dk_at dksX0_layTree_0 23 rfl rfl)
theorem dX0_layTree_24 : decode cX0_layTree 24 = .ok (.getfield 78, 3) := dk_180 0 78 (dk_at dksX0_layTree_1 0 rfl rfl)
theorem dX0_layTree_27 : decode cX0_layTree 27 = .ok (.iconst 0, 1) := dk_3 (dk_at dksX0_layTree_1 3 rfl rfl)
theorem dX0_layTree_28 : decode cX0_layTree 28 = .ok (.iload_n 2, 1) := dk_28 (dk_at dksX0_layTree_1 4 rfl rfl)
theorem dX0_layTree_29 : decode cX0_layTree 29 = .ok (.iastore, 1) := dk_79 (dk_at dksX0_layTree_1 5 rfl rfl)
theorem dX0_layTree_30 : decode cX0_layTree 30 = .ok (.aload_n 0, 1) := dk_42 (dk_at dksX0_layTree_1 6 rfl rfl)
theorem dX0_layTree_31 : decode cX0_layTree 31 = .ok (.iload_n 2, 1) := dk_28 (dk_at dksX0_layTree_1 7 rfl rfl)
theorem dX0_layTree_32 : decode cX0_layTree 32 = .ok (.invokevirtual 87, 3) := dk_182 0 87 (dk_at dksX0_layTree_1 8 rfl rfl)
theorem dX0_layTree_35 : decode cX0_layTree 35 = .ok (.ifCond .ne 5, 3) := dk_154 0 5 (dk_at dksX0_layTree_1 11 rfl rfl)
theorem dX0_layTree_38 : decode cX0_layTree 38 = .ok (.iconst 0, 1) := dk_3 (dk_at dksX0_layTree_1 14 rfl rfl)
theorem dX0_layTree_39 : decode cX0_layTree 39 = .ok (.ireturn, 1) := dk_172 (dk_at dksX0_layTree_1 15 rfl rfl)
theorem dX0_layTree_40 : decode cX0_layTree 40 = .ok (.aload_n 0, 1) := dk_42 (dk_at dksX0_layTree_1 16 rfl rfl)
theorem dX0_layTree_41 : decode cX0_layTree 41 = .ok (.aload_n 1, 1) := dk_43 (dk_at dksX0_layTree_1 17 rfl rfl)
theorem dX0_layTree_42 : decode cX0_layTree 42 = .ok (.iload_n 2, 1) := dk_28 (dk_at dksX0_layTree_1 18 rfl rfl)
theorem dX0_layTree_43 : decode cX0_layTree 43 = .ok (.invokevirtual 104, 3) := dk_182 0 104 (dk_at dksX0_layTree_1 19 rfl rfl)
theorem dX0_layTree_46 : decode cX0_layTree 46 = .ok (.aload_n 0, 1) := dk_42 (dk_at dksX0_layTree_1 22 rfl rfl)
theorem dX0_layTree_47 : decode cX0_layTree 47 = .ok (.iconst 0, 1) := dk_3 (dk_at dksX0_layTree_1 23 rfl rfl)
theorem dX0_layTree_48 : decode cX0_layTree 48 = .ok (.aload_n 3, 1) := dk_45 (dk_at dksX0_layTree_2 0 rfl rfl)
theorem dX0_layTree_49 : decode cX0_layTree 49 = .ok (.invokestatic 100, 3) := dk_184 0 100 (dk_at dksX0_layTree_2 1 rfl rfl)
theorem dX0_layTree_52 : decode cX0_layTree 52 = .ok (.iconst 1, 1) := dk_4 (dk_at dksX0_layTree_2 4 rfl rfl)
theorem dX0_layTree_53 : decode cX0_layTree 53 = .ok (.ireturn, 1) := dk_172 (dk_at dksX0_layTree_2 5 rfl rfl)
abbrev cX0_grow : ByteArray := prog_1_method_7_code
def yX0_grow : MethodName := ⟨RX0, "grow", "(LGuildCharter;I[I)V"⟩
def dkwX0_grow_6 : List UInt8 := [21, 5, 29, 4, 96, 79, 42, 21, 5, 44, 184, 0, 100, 132, 4, 1, 167, 255, 122, 177]
abbrev dktX0_grow_6 : List UInt8 := dkwX0_grow_6 ++ []
def dkwX0_grow_5 : List UInt8 := [181, 0, 91, 42, 180, 0, 95, 21, 5, 27, 79, 42, 180, 0, 98, 21, 5, 21, 4, 79, 42, 180, 0, 78]
abbrev dktX0_grow_5 : List UInt8 := dkwX0_grow_5 ++ dktX0_grow_6
def dkwX0_grow_4 : List UInt8 := [160, 0, 9, 42, 4, 181, 0, 83, 177, 42, 180, 0, 91, 54, 5, 42, 89, 180, 0, 91, 4, 96]
abbrev dktX0_grow_4 : List UInt8 := dkwX0_grow_4 ++ dktX0_grow_5
def dkwX0_grow_3 : List UInt8 := [21, 4, 79, 42, 29, 4, 96, 182, 0, 87, 154, 0, 6, 167, 0, 69, 42, 180, 0, 91, 17, 11, 184]
abbrev dktX0_grow_3 : List UInt8 := dkwX0_grow_3 ++ dktX0_grow_4
def dkwX0_grow_2 : List UInt8 := [44, 29, 46, 2, 159, 0, 14, 44, 29, 46, 21, 4, 159, 0, 6, 167, 0, 90, 42, 180, 0, 11, 29]
abbrev dktX0_grow_2 : List UInt8 := dkwX0_grow_2 ++ dktX0_grow_3
def dkwX0_grow_1 : List UInt8 := [42, 180, 0, 31, 180, 0, 80, 182, 0, 47, 162, 0, 125, 42, 180, 0, 83, 154, 0, 118, 44, 198, 0, 21]
abbrev dktX0_grow_1 : List UInt8 := dkwX0_grow_1 ++ dktX0_grow_2
def dkwX0_grow_0 : List UInt8 := [42, 180, 0, 78, 27, 46, 62, 29, 42, 180, 0, 31, 182, 0, 65, 160, 0, 4, 177, 3, 54, 4, 21, 4]
abbrev dktX0_grow_0 : List UInt8 := dkwX0_grow_0 ++ dktX0_grow_1
theorem dksX0_grow_0 : cX0_grow.data.toList.drop 0 = dktX0_grow_0 := by decide +kernel
theorem dksX0_grow_1 : cX0_grow.data.toList.drop 24 = dktX0_grow_1 := dk_seg dksX0_grow_0 24 rfl rfl
theorem dksX0_grow_2 : cX0_grow.data.toList.drop 48 = dktX0_grow_2 := dk_seg dksX0_grow_1 24 rfl rfl
theorem dksX0_grow_3 : cX0_grow.data.toList.drop 71 = dktX0_grow_3 := dk_seg dksX0_grow_2 23 rfl rfl
theorem dksX0_grow_4 : cX0_grow.data.toList.drop 94 = dktX0_grow_4 := dk_seg dksX0_grow_3 23 rfl rfl
theorem dksX0_grow_5 : cX0_grow.data.toList.drop 116 = dktX0_grow_5 := dk_seg dksX0_grow_4 22 rfl rfl
theorem dksX0_grow_6 : cX0_grow.data.toList.drop 140 = dktX0_grow_6 := dk_seg dksX0_grow_5 24 rfl rfl
theorem dX0_grow_0 : decode cX0_grow 0 = .ok (.aload_n 0, 1) := dk_42 (dk_at dksX0_grow_0 0 rfl rfl)
theorem dX0_grow_1 : decode cX0_grow 1 = .ok (.getfield 78, 3) := dk_180 0 78 (dk_at dksX0_grow_0 1 rfl rfl)
theorem dX0_grow_4 : decode cX0_grow 4 = .ok (.iload_n 1, 1) := dk_27 (dk_at dksX0_grow_0 4 rfl rfl)
theorem dX0_grow_5 : decode cX0_grow 5 = .ok (.iaload, 1) := dk_46 (dk_at dksX0_grow_0 5 rfl rfl)
theorem dX0_grow_6 : decode cX0_grow 6 = .ok (.istore_n 3, 1) := dk_62 (dk_at dksX0_grow_0 6 rfl rfl)
theorem dX0_grow_7 : decode cX0_grow 7 = .ok (.iload_n 3, 1) := dk_29 (dk_at dksX0_grow_0 7 rfl rfl)
theorem dX0_grow_8 : decode cX0_grow 8 = .ok (.aload_n 0, 1) := dk_42 (dk_at dksX0_grow_0 8 rfl rfl)
theorem dX0_grow_9 : decode cX0_grow 9 = .ok (.getfield 31, 3) := dk_180 0 31 (dk_at dksX0_grow_0 9 rfl rfl)
theorem dX0_grow_12 : decode cX0_grow 12 = .ok (.invokevirtual 65, 3) := dk_182 0 65 (dk_at dksX0_grow_0 12 rfl rfl)
theorem dX0_grow_15 : decode cX0_grow 15 = .ok (.if_icmp .ne 4, 3) := dk_160 0 4 (dk_at dksX0_grow_0 15 rfl rfl)
theorem dX0_grow_18 : decode cX0_grow 18 = .ok (.return_, 1) := dk_177 (dk_at dksX0_grow_0 18 rfl rfl)
theorem dX0_grow_19 : decode cX0_grow 19 = .ok (.iconst 0, 1) := dk_3 (dk_at dksX0_grow_0 19 rfl rfl)
theorem dX0_grow_20 : decode cX0_grow 20 = .ok (.istore 4, 2) := dk_54 4 (dk_at dksX0_grow_0 20 rfl rfl)
theorem dX0_grow_22 : decode cX0_grow 22 = .ok (.iload 4, 2) := dk_21 4 (dk_at dksX0_grow_0 22 rfl rfl)
theorem dX0_grow_24 : decode cX0_grow 24 = .ok (.aload_n 0, 1) := dk_42 (dk_at dksX0_grow_1 0 rfl rfl)
theorem dX0_grow_25 : decode cX0_grow 25 = .ok (.getfield 31, 3) := dk_180 0 31 (dk_at dksX0_grow_1 1 rfl rfl)
theorem dX0_grow_28 : decode cX0_grow 28 = .ok (.getfield 80, 3) := dk_180 0 80 (dk_at dksX0_grow_1 4 rfl rfl)
theorem dX0_grow_31 : decode cX0_grow 31 = .ok (.invokevirtual 47, 3) := dk_182 0 47 (dk_at dksX0_grow_1 7 rfl rfl)
theorem dX0_grow_34 : decode cX0_grow 34 = .ok (.if_icmp .ge 125, 3) := dk_162 0 125 (dk_at dksX0_grow_1 10 rfl rfl)
theorem dX0_grow_37 : decode cX0_grow 37 = .ok (.aload_n 0, 1) := dk_42 (dk_at dksX0_grow_1 13 rfl rfl)
theorem dX0_grow_38 : decode cX0_grow 38 = .ok (.getfield 83, 3) := dk_180 0 83 (dk_at dksX0_grow_1 14 rfl rfl)
theorem dX0_grow_41 : decode cX0_grow 41 = .ok (.ifCond .ne 118, 3) := dk_154 0 118 (dk_at dksX0_grow_1 17 rfl rfl)
theorem dX0_grow_44 : decode cX0_grow 44 = .ok (.aload_n 2, 1) := dk_44 (dk_at dksX0_grow_1 20 rfl rfl)
theorem dX0_grow_45 : decode cX0_grow 45 = .ok (.ifnull 21, 3) := dk_198 0 21 (dk_at dksX0_grow_1 21 rfl rfl)
theorem dX0_grow_48 : decode cX0_grow 48 = .ok (.aload_n 2, 1) := dk_44 (dk_at dksX0_grow_2 0 rfl rfl)
theorem dX0_grow_49 : decode cX0_grow 49 = .ok (.iload_n 3, 1) := dk_29 (dk_at dksX0_grow_2 1 rfl rfl)
theorem dX0_grow_50 : decode cX0_grow 50 = .ok (.iaload, 1) := dk_46 (dk_at dksX0_grow_2 2 rfl rfl)
theorem dX0_grow_51 : decode cX0_grow 51 = .ok (.iconst (-1), 1) := dk_2 (dk_at dksX0_grow_2 3 rfl rfl)
theorem dX0_grow_52 : decode cX0_grow 52 = .ok (.if_icmp .eq 14, 3) := dk_159 0 14 (dk_at dksX0_grow_2 4 rfl rfl)
theorem dX0_grow_55 : decode cX0_grow 55 = .ok (.aload_n 2, 1) := dk_44 (dk_at dksX0_grow_2 7 rfl rfl)
theorem dX0_grow_56 : decode cX0_grow 56 = .ok (.iload_n 3, 1) := dk_29 (dk_at dksX0_grow_2 8 rfl rfl)
theorem dX0_grow_57 : decode cX0_grow 57 = .ok (.iaload, 1) := dk_46 (dk_at dksX0_grow_2 9 rfl rfl)
theorem dX0_grow_58 : decode cX0_grow 58 = .ok (.iload 4, 2) := dk_21 4 (dk_at dksX0_grow_2 10 rfl rfl)
theorem dX0_grow_60 : decode cX0_grow 60 = .ok (.if_icmp .eq 6, 3) := dk_159 0 6 (dk_at dksX0_grow_2 12 rfl rfl)
theorem dX0_grow_63 : decode cX0_grow 63 = .ok (.goto 90, 3) := dk_167 0 90 (dk_at dksX0_grow_2 15 rfl rfl)
theorem dX0_grow_66 : decode cX0_grow 66 = .ok (.aload_n 0, 1) := dk_42 (dk_at dksX0_grow_2 18 rfl rfl)
theorem dX0_grow_67 : decode cX0_grow 67 = .ok (.getfield 11, 3) := dk_180 0 11 (dk_at dksX0_grow_2 19 rfl rfl)
theorem dX0_grow_70 : decode cX0_grow 70 = .ok (.iload_n 3, 1) := dk_29 (dk_at dksX0_grow_2 22 rfl rfl)
theorem dX0_grow_71 : decode cX0_grow 71 = .ok (.iload 4, 2) := dk_21 4 (dk_at dksX0_grow_3 0 rfl rfl)
theorem dX0_grow_73 : decode cX0_grow 73 = .ok (.iastore, 1) := dk_79 (dk_at dksX0_grow_3 2 rfl rfl)
theorem dX0_grow_74 : decode cX0_grow 74 = .ok (.aload_n 0, 1) := dk_42 (dk_at dksX0_grow_3 3 rfl rfl)
theorem dX0_grow_75 : decode cX0_grow 75 = .ok (.iload_n 3, 1) := dk_29 (dk_at dksX0_grow_3 4 rfl rfl)
theorem dX0_grow_76 : decode cX0_grow 76 = .ok (.iconst 1, 1) := dk_4 (dk_at dksX0_grow_3 5 rfl rfl)
theorem dX0_grow_77 : decode cX0_grow 77 = .ok (.iadd, 1) := dk_96 (dk_at dksX0_grow_3 6 rfl rfl)
theorem dX0_grow_78 : decode cX0_grow 78 = .ok (.invokevirtual 87, 3) := dk_182 0 87 (dk_at dksX0_grow_3 7 rfl rfl)
theorem dX0_grow_81 : decode cX0_grow 81 = .ok (.ifCond .ne 6, 3) := dk_154 0 6 (dk_at dksX0_grow_3 10 rfl rfl)
theorem dX0_grow_84 : decode cX0_grow 84 = .ok (.goto 69, 3) := dk_167 0 69 (dk_at dksX0_grow_3 13 rfl rfl)
theorem dX0_grow_87 : decode cX0_grow 87 = .ok (.aload_n 0, 1) := dk_42 (dk_at dksX0_grow_3 16 rfl rfl)
theorem dX0_grow_88 : decode cX0_grow 88 = .ok (.getfield 91, 3) := dk_180 0 91 (dk_at dksX0_grow_3 17 rfl rfl)
theorem dX0_grow_91 : decode cX0_grow 91 = .ok (.sipush 3000, 3) := dk_17 11 184 (dk_at dksX0_grow_3 20 rfl rfl)
theorem dX0_grow_94 : decode cX0_grow 94 = .ok (.if_icmp .ne 9, 3) := dk_160 0 9 (dk_at dksX0_grow_4 0 rfl rfl)
theorem dX0_grow_97 : decode cX0_grow 97 = .ok (.aload_n 0, 1) := dk_42 (dk_at dksX0_grow_4 3 rfl rfl)
theorem dX0_grow_98 : decode cX0_grow 98 = .ok (.iconst 1, 1) := dk_4 (dk_at dksX0_grow_4 4 rfl rfl)
theorem dX0_grow_99 : decode cX0_grow 99 = .ok (.putfield 83, 3) := dk_181 0 83 (dk_at dksX0_grow_4 5 rfl rfl)
theorem dX0_grow_102 : decode cX0_grow 102 = .ok (.return_, 1) := dk_177 (dk_at dksX0_grow_4 8 rfl rfl)
theorem dX0_grow_103 : decode cX0_grow 103 = .ok (.aload_n 0, 1) := dk_42 (dk_at dksX0_grow_4 9 rfl rfl)
theorem dX0_grow_104 : decode cX0_grow 104 = .ok (.getfield 91, 3) := dk_180 0 91 (dk_at dksX0_grow_4 10 rfl rfl)
theorem dX0_grow_107 : decode cX0_grow 107 = .ok (.istore 5, 2) := dk_54 5 (dk_at dksX0_grow_4 13 rfl rfl)
theorem dX0_grow_109 : decode cX0_grow 109 = .ok (.aload_n 0, 1) := dk_42 (dk_at dksX0_grow_4 15 rfl rfl)
theorem dX0_grow_110 : decode cX0_grow 110 = .ok (.dup, 1) := dk_89 (dk_at dksX0_grow_4 16 rfl rfl)
theorem dX0_grow_111 : decode cX0_grow 111 = .ok (.getfield 91, 3) := dk_180 0 91 (dk_at dksX0_grow_4 17 rfl rfl)
theorem dX0_grow_114 : decode cX0_grow 114 = .ok (.iconst 1, 1) := dk_4 (dk_at dksX0_grow_4 20 rfl rfl)
theorem dX0_grow_115 : decode cX0_grow 115 = .ok (.iadd, 1) := dk_96 (dk_at dksX0_grow_4 21 rfl rfl)
theorem dX0_grow_116 : decode cX0_grow 116 = .ok (.putfield 91, 3) := dk_181 0 91 (dk_at dksX0_grow_5 0 rfl rfl)
theorem dX0_grow_119 : decode cX0_grow 119 = .ok (.aload_n 0, 1) := dk_42 (dk_at dksX0_grow_5 3 rfl rfl)
theorem dX0_grow_120 : decode cX0_grow 120 = .ok (.getfield 95, 3) := dk_180 0 95 (dk_at dksX0_grow_5 4 rfl rfl)
theorem dX0_grow_123 : decode cX0_grow 123 = .ok (.iload 5, 2) := dk_21 5 (dk_at dksX0_grow_5 7 rfl rfl)
theorem dX0_grow_125 : decode cX0_grow 125 = .ok (.iload_n 1, 1) := dk_27 (dk_at dksX0_grow_5 9 rfl rfl)
theorem dX0_grow_126 : decode cX0_grow 126 = .ok (.iastore, 1) := dk_79 (dk_at dksX0_grow_5 10 rfl rfl)
theorem dX0_grow_127 : decode cX0_grow 127 = .ok (.aload_n 0, 1) := dk_42 (dk_at dksX0_grow_5 11 rfl rfl)
theorem dX0_grow_128 : decode cX0_grow 128 = .ok (.getfield 98, 3) := dk_180 0 98 (dk_at dksX0_grow_5 12 rfl rfl)
theorem dX0_grow_131 : decode cX0_grow 131 = .ok (.iload 5, 2) := dk_21 5 (dk_at dksX0_grow_5 15 rfl rfl)
theorem dX0_grow_133 : decode cX0_grow 133 = .ok (.iload 4, 2) := dk_21 4 (dk_at dksX0_grow_5 17 rfl rfl)
theorem dX0_grow_135 : decode cX0_grow 135 = .ok (.iastore, 1) := dk_79 (dk_at dksX0_grow_5 19 rfl rfl)
theorem dX0_grow_136 : decode cX0_grow 136 = .ok (.aload_n 0, 1) := dk_42 (dk_at dksX0_grow_5 20 rfl rfl)
theorem dX0_grow_137 : decode cX0_grow 137 = .ok (.getfield 78, 3) := dk_180 0 78 (dk_at dksX0_grow_5 21 rfl rfl)
theorem dX0_grow_140 : decode cX0_grow 140 = .ok (.iload 5, 2) := dk_21 5 (dk_at dksX0_grow_6 0 rfl rfl)
theorem dX0_grow_142 : decode cX0_grow 142 = .ok (.iload_n 3, 1) := dk_29 (dk_at dksX0_grow_6 2 rfl rfl)
theorem dX0_grow_143 : decode cX0_grow 143 = .ok (.iconst 1, 1) := dk_4 (dk_at dksX0_grow_6 3 rfl rfl)
theorem dX0_grow_144 : decode cX0_grow 144 = .ok (.iadd, 1) := dk_96 (dk_at dksX0_grow_6 4 rfl rfl)
theorem dX0_grow_145 : decode cX0_grow 145 = .ok (.iastore, 1) := dk_79 (dk_at dksX0_grow_6 5 rfl rfl)
theorem dX0_grow_146 : decode cX0_grow 146 = .ok (.aload_n 0, 1) := dk_42 (dk_at dksX0_grow_6 6 rfl rfl)
theorem dX0_grow_147 : decode cX0_grow 147 = .ok (.iload 5, 2) := dk_21 5 (dk_at dksX0_grow_6 7 rfl rfl)
theorem dX0_grow_149 : decode cX0_grow 149 = .ok (.aload_n 2, 1) := dk_44 (dk_at dksX0_grow_6 9 rfl rfl)
theorem dX0_grow_150 : decode cX0_grow 150 = .ok (.invokestatic 100, 3) := dk_184 0 100 (dk_at dksX0_grow_6 10 rfl rfl)
theorem dX0_grow_153 : decode cX0_grow 153 = .ok (.iinc 4 1, 3) := dk_132 4 1 (dk_at dksX0_grow_6 13 rfl rfl)
theorem dX0_grow_156 : decode cX0_grow 156 = .ok (.goto (-134), 3) := dk_167 255 122 (dk_at dksX0_grow_6 16 rfl rfl)
theorem dX0_grow_159 : decode cX0_grow 159 = .ok (.return_, 1) := dk_177 (dk_at dksX0_grow_6 19 rfl rfl)
abbrev cX0_write_2 : ByteArray := prog_1_method_12_code
def yX0_write_2 : MethodName := ⟨RX0, "write", "([II[I)I"⟩
def dkwX0_write_2_6 : List UInt8 := [132, 4, 255, 167, 255, 160, 42, 180, 0, 129, 3, 46, 172]
abbrev dktX0_write_2_6 : List UInt8 := dkwX0_write_2_6 ++ []
def dkwX0_write_2_5 : List UInt8 := [28, 21, 6, 182, 0, 143, 161, 0, 17, 42, 180, 0, 129, 21, 5, 42, 180, 0, 129, 21, 4, 46, 79]
abbrev dktX0_write_2_5 : List UInt8 := dkwX0_write_2_5 ++ dktX0_write_2_6
def dkwX0_write_2_4 : List UInt8 := [182, 0, 135, 42, 180, 0, 31, 182, 0, 65, 21, 6, 182, 0, 139, 42, 42, 180, 0, 129, 21, 5, 46, 43]
abbrev dktX0_write_2_4 : List UInt8 := dkwX0_write_2_4 ++ dktX0_write_2_5
def dkwX0_write_2_3 : List UInt8 := [54, 6, 42, 180, 0, 129, 21, 5, 46, 155, 0, 47, 42, 42, 42, 180, 0, 129, 21, 4, 46, 43, 28]
abbrev dktX0_write_2_3 : List UInt8 := dkwX0_write_2_3 ++ dktX0_write_2_4
def dkwX0_write_2_2 : List UInt8 := [21, 4, 158, 0, 97, 42, 180, 0, 95, 21, 4, 46, 54, 5, 45, 42, 180, 0, 78, 21, 5, 46, 46]
abbrev dktX0_write_2_2 : List UInt8 := dkwX0_write_2_2 ++ dktX0_write_2_3
def dkwX0_write_2_1 : List UInt8 := [153, 0, 8, 21, 4, 167, 0, 4, 2, 79, 132, 4, 1, 167, 255, 222, 42, 180, 0, 91, 4, 100, 54, 4]
abbrev dktX0_write_2_1 : List UInt8 := dkwX0_write_2_1 ++ dktX0_write_2_2
def dkwX0_write_2_0 : List UInt8 := [3, 54, 4, 21, 4, 42, 180, 0, 91, 162, 0, 31, 42, 180, 0, 129, 21, 4, 42, 21, 4, 182, 0, 132]
abbrev dktX0_write_2_0 : List UInt8 := dkwX0_write_2_0 ++ dktX0_write_2_1
theorem dksX0_write_2_0 : cX0_write_2.data.toList.drop 0 = dktX0_write_2_0 := by decide +kernel
theorem dksX0_write_2_1 : cX0_write_2.data.toList.drop 24 = dktX0_write_2_1 := dk_seg dksX0_write_2_0 24 rfl rfl
theorem dksX0_write_2_2 : cX0_write_2.data.toList.drop 48 = dktX0_write_2_2 := dk_seg dksX0_write_2_1 24 rfl rfl
theorem dksX0_write_2_3 : cX0_write_2.data.toList.drop 71 = dktX0_write_2_3 := dk_seg dksX0_write_2_2 23 rfl rfl
theorem dksX0_write_2_4 : cX0_write_2.data.toList.drop 94 = dktX0_write_2_4 := dk_seg dksX0_write_2_3 23 rfl rfl
theorem dksX0_write_2_5 : cX0_write_2.data.toList.drop 118 = dktX0_write_2_5 := dk_seg dksX0_write_2_4 24 rfl rfl
theorem dksX0_write_2_6 : cX0_write_2.data.toList.drop 141 = dktX0_write_2_6 := dk_seg dksX0_write_2_5 23 rfl rfl
theorem dX0_write_2_0 : decode cX0_write_2 0 = .ok (.iconst 0, 1) := dk_3 (dk_at dksX0_write_2_0 0 rfl rfl)
theorem dX0_write_2_1 : decode cX0_write_2 1 = .ok (.istore 4, 2) := dk_54 4 (dk_at dksX0_write_2_0 1 rfl rfl)
theorem dX0_write_2_3 : decode cX0_write_2 3 = .ok (.iload 4, 2) := dk_21 4 (dk_at dksX0_write_2_0 3 rfl rfl)
theorem dX0_write_2_5 : decode cX0_write_2 5 = .ok (.aload_n 0, 1) := dk_42 (dk_at dksX0_write_2_0 5 rfl rfl)
theorem dX0_write_2_6 : decode cX0_write_2 6 = .ok (.getfield 91, 3) := dk_180 0 91 (dk_at dksX0_write_2_0 6 rfl rfl)
theorem dX0_write_2_9 : decode cX0_write_2 9 = .ok (.if_icmp .ge 31, 3) := dk_162 0 31 (dk_at dksX0_write_2_0 9 rfl rfl)
theorem dX0_write_2_12 : decode cX0_write_2 12 = .ok (.aload_n 0, 1) := dk_42 (dk_at dksX0_write_2_0 12 rfl rfl)
theorem dX0_write_2_13 : decode cX0_write_2 13 = .ok (.getfield 129, 3) := dk_180 0 129 (dk_at dksX0_write_2_0 13 rfl rfl)
theorem dX0_write_2_16 : decode cX0_write_2 16 = .ok (.iload 4, 2) := dk_21 4 (dk_at dksX0_write_2_0 16 rfl rfl)
theorem dX0_write_2_18 : decode cX0_write_2 18 = .ok (.aload_n 0, 1) := dk_42 (dk_at dksX0_write_2_0 18 rfl rfl)
theorem dX0_write_2_19 : decode cX0_write_2 19 = .ok (.iload 4, 2) := dk_21 4 (dk_at dksX0_write_2_0 19 rfl rfl)
theorem dX0_write_2_21 : decode cX0_write_2 21 = .ok (.invokevirtual 132, 3) := dk_182 0 132 (dk_at dksX0_write_2_0 21 rfl rfl)
theorem dX0_write_2_24 : decode cX0_write_2 24 = .ok (.ifCond .eq 8, 3) := dk_153 0 8 (dk_at dksX0_write_2_1 0 rfl rfl)
theorem dX0_write_2_27 : decode cX0_write_2 27 = .ok (.iload 4, 2) := dk_21 4 (dk_at dksX0_write_2_1 3 rfl rfl)
theorem dX0_write_2_29 : decode cX0_write_2 29 = .ok (.goto 4, 3) := dk_167 0 4 (dk_at dksX0_write_2_1 5 rfl rfl)
theorem dX0_write_2_32 : decode cX0_write_2 32 = .ok (.iconst (-1), 1) := dk_2 (dk_at dksX0_write_2_1 8 rfl rfl)
theorem dX0_write_2_33 : decode cX0_write_2 33 = .ok (.iastore, 1) := dk_79 (dk_at dksX0_write_2_1 9 rfl rfl)
theorem dX0_write_2_34 : decode cX0_write_2 34 = .ok (.iinc 4 1, 3) := dk_132 4 1 (dk_at dksX0_write_2_1 10 rfl rfl)
theorem dX0_write_2_37 : decode cX0_write_2 37 = .ok (.goto (-34), 3) := dk_167 255 222 (dk_at dksX0_write_2_1 13 rfl rfl)
theorem dX0_write_2_40 : decode cX0_write_2 40 = .ok (.aload_n 0, 1) := dk_42 (dk_at dksX0_write_2_1 16 rfl rfl)
theorem dX0_write_2_41 : decode cX0_write_2 41 = .ok (.getfield 91, 3) := dk_180 0 91 (dk_at dksX0_write_2_1 17 rfl rfl)
theorem dX0_write_2_44 : decode cX0_write_2 44 = .ok (.iconst 1, 1) := dk_4 (dk_at dksX0_write_2_1 20 rfl rfl)
theorem dX0_write_2_45 : decode cX0_write_2 45 = .ok (.isub, 1) := dk_100 (dk_at dksX0_write_2_1 21 rfl rfl)
theorem dX0_write_2_46 : decode cX0_write_2 46 = .ok (.istore 4, 2) := dk_54 4 (dk_at dksX0_write_2_1 22 rfl rfl)
theorem dX0_write_2_48 : decode cX0_write_2 48 = .ok (.iload 4, 2) := dk_21 4 (dk_at dksX0_write_2_2 0 rfl rfl)
theorem dX0_write_2_50 : decode cX0_write_2 50 = .ok (.ifCond .le 97, 3) := dk_158 0 97 (dk_at dksX0_write_2_2 2 rfl rfl)
theorem dX0_write_2_53 : decode cX0_write_2 53 = .ok (.aload_n 0, 1) := dk_42 (dk_at dksX0_write_2_2 5 rfl rfl)
theorem dX0_write_2_54 : decode cX0_write_2 54 = .ok (.getfield 95, 3) := dk_180 0 95 (dk_at dksX0_write_2_2 6 rfl rfl)
theorem dX0_write_2_57 : decode cX0_write_2 57 = .ok (.iload 4, 2) := dk_21 4 (dk_at dksX0_write_2_2 9 rfl rfl)
theorem dX0_write_2_59 : decode cX0_write_2 59 = .ok (.iaload, 1) := dk_46 (dk_at dksX0_write_2_2 11 rfl rfl)
theorem dX0_write_2_60 : decode cX0_write_2 60 = .ok (.istore 5, 2) := dk_54 5 (dk_at dksX0_write_2_2 12 rfl rfl)
theorem dX0_write_2_62 : decode cX0_write_2 62 = .ok (.aload_n 3, 1) := dk_45 (dk_at dksX0_write_2_2 14 rfl rfl)
theorem dX0_write_2_63 : decode cX0_write_2 63 = .ok (.aload_n 0, 1) := dk_42 (dk_at dksX0_write_2_2 15 rfl rfl)
theorem dX0_write_2_64 : decode cX0_write_2 64 = .ok (.getfield 78, 3) := dk_180 0 78 (dk_at dksX0_write_2_2 16 rfl rfl)
theorem dX0_write_2_67 : decode cX0_write_2 67 = .ok (.iload 5, 2) := dk_21 5 (dk_at dksX0_write_2_2 19 rfl rfl)
theorem dX0_write_2_69 : decode cX0_write_2 69 = .ok (.iaload, 1) := dk_46 (dk_at dksX0_write_2_2 21 rfl rfl)
theorem dX0_write_2_70 : decode cX0_write_2 70 = .ok (.iaload, 1) := dk_46 (dk_at dksX0_write_2_2 22 rfl rfl)
theorem dX0_write_2_71 : decode cX0_write_2 71 = .ok (.istore 6, 2) := dk_54 6 (dk_at dksX0_write_2_3 0 rfl rfl)
theorem dX0_write_2_73 : decode cX0_write_2 73 = .ok (.aload_n 0, 1) := dk_42 (dk_at dksX0_write_2_3 2 rfl rfl)
theorem dX0_write_2_74 : decode cX0_write_2 74 = .ok (.getfield 129, 3) := dk_180 0 129 (dk_at dksX0_write_2_3 3 rfl rfl)
theorem dX0_write_2_77 : decode cX0_write_2 77 = .ok (.iload 5, 2) := dk_21 5 (dk_at dksX0_write_2_3 6 rfl rfl)
theorem dX0_write_2_79 : decode cX0_write_2 79 = .ok (.iaload, 1) := dk_46 (dk_at dksX0_write_2_3 8 rfl rfl)
theorem dX0_write_2_80 : decode cX0_write_2 80 = .ok (.ifCond .lt 47, 3) := dk_155 0 47 (dk_at dksX0_write_2_3 9 rfl rfl)
theorem dX0_write_2_83 : decode cX0_write_2 83 = .ok (.aload_n 0, 1) := dk_42 (dk_at dksX0_write_2_3 12 rfl rfl)
theorem dX0_write_2_84 : decode cX0_write_2 84 = .ok (.aload_n 0, 1) := dk_42 (dk_at dksX0_write_2_3 13 rfl rfl)
theorem dX0_write_2_85 : decode cX0_write_2 85 = .ok (.aload_n 0, 1) := dk_42 (dk_at dksX0_write_2_3 14 rfl rfl)
theorem dX0_write_2_86 : decode cX0_write_2 86 = .ok (.getfield 129, 3) := dk_180 0 129 (dk_at dksX0_write_2_3 15 rfl rfl)
theorem dX0_write_2_89 : decode cX0_write_2 89 = .ok (.iload 4, 2) := dk_21 4 (dk_at dksX0_write_2_3 18 rfl rfl)
theorem dX0_write_2_91 : decode cX0_write_2 91 = .ok (.iaload, 1) := dk_46 (dk_at dksX0_write_2_3 20 rfl rfl)
theorem dX0_write_2_92 : decode cX0_write_2 92 = .ok (.aload_n 1, 1) := dk_43 (dk_at dksX0_write_2_3 21 rfl rfl)
theorem dX0_write_2_93 : decode cX0_write_2 93 = .ok (.iload_n 2, 1) := dk_28 (dk_at dksX0_write_2_3 22 rfl rfl)
theorem dX0_write_2_94 : decode cX0_write_2 94 = .ok (.invokevirtual 135, 3) := dk_182 0 135 (dk_at dksX0_write_2_4 0 rfl rfl)
theorem dX0_write_2_97 : decode cX0_write_2 97 = .ok (.aload_n 0, 1) := dk_42 (dk_at dksX0_write_2_4 3 rfl rfl)
theorem dX0_write_2_98 : decode cX0_write_2 98 = .ok (.getfield 31, 3) := dk_180 0 31 (dk_at dksX0_write_2_4 4 rfl rfl)
theorem dX0_write_2_101 : decode cX0_write_2 101 = .ok (.invokevirtual 65, 3) := dk_182 0 65 (dk_at dksX0_write_2_4 7 rfl rfl)
theorem dX0_write_2_104 : decode cX0_write_2 104 = .ok (.iload 6, 2) := dk_21 6 (dk_at dksX0_write_2_4 10 rfl rfl)
theorem dX0_write_2_106 : decode cX0_write_2 106 = .ok (.invokevirtual 139, 3) := dk_182 0 139 (dk_at dksX0_write_2_4 12 rfl rfl)
theorem dX0_write_2_109 : decode cX0_write_2 109 = .ok (.aload_n 0, 1) := dk_42 (dk_at dksX0_write_2_4 15 rfl rfl)
theorem dX0_write_2_110 : decode cX0_write_2 110 = .ok (.aload_n 0, 1) := dk_42 (dk_at dksX0_write_2_4 16 rfl rfl)
theorem dX0_write_2_111 : decode cX0_write_2 111 = .ok (.getfield 129, 3) := dk_180 0 129 (dk_at dksX0_write_2_4 17 rfl rfl)
theorem dX0_write_2_114 : decode cX0_write_2 114 = .ok (.iload 5, 2) := dk_21 5 (dk_at dksX0_write_2_4 20 rfl rfl)
theorem dX0_write_2_116 : decode cX0_write_2 116 = .ok (.iaload, 1) := dk_46 (dk_at dksX0_write_2_4 22 rfl rfl)
theorem dX0_write_2_117 : decode cX0_write_2 117 = .ok (.aload_n 1, 1) := dk_43 (dk_at dksX0_write_2_4 23 rfl rfl)
theorem dX0_write_2_118 : decode cX0_write_2 118 = .ok (.iload_n 2, 1) := dk_28 (dk_at dksX0_write_2_5 0 rfl rfl)
theorem dX0_write_2_119 : decode cX0_write_2 119 = .ok (.iload 6, 2) := dk_21 6 (dk_at dksX0_write_2_5 1 rfl rfl)
theorem dX0_write_2_121 : decode cX0_write_2 121 = .ok (.invokevirtual 143, 3) := dk_182 0 143 (dk_at dksX0_write_2_5 3 rfl rfl)
theorem dX0_write_2_124 : decode cX0_write_2 124 = .ok (.if_icmp .lt 17, 3) := dk_161 0 17 (dk_at dksX0_write_2_5 6 rfl rfl)
theorem dX0_write_2_127 : decode cX0_write_2 127 = .ok (.aload_n 0, 1) := dk_42 (dk_at dksX0_write_2_5 9 rfl rfl)
theorem dX0_write_2_128 : decode cX0_write_2 128 = .ok (.getfield 129, 3) := dk_180 0 129 (dk_at dksX0_write_2_5 10 rfl rfl)
theorem dX0_write_2_131 : decode cX0_write_2 131 = .ok (.iload 5, 2) := dk_21 5 (dk_at dksX0_write_2_5 13 rfl rfl)
theorem dX0_write_2_133 : decode cX0_write_2 133 = .ok (.aload_n 0, 1) := dk_42 (dk_at dksX0_write_2_5 15 rfl rfl)
theorem dX0_write_2_134 : decode cX0_write_2 134 = .ok (.getfield 129, 3) := dk_180 0 129 (dk_at dksX0_write_2_5 16 rfl rfl)
theorem dX0_write_2_137 : decode cX0_write_2 137 = .ok (.iload 4, 2) := dk_21 4 (dk_at dksX0_write_2_5 19 rfl rfl)
theorem dX0_write_2_139 : decode cX0_write_2 139 = .ok (.iaload, 1) := dk_46 (dk_at dksX0_write_2_5 21 rfl rfl)
theorem dX0_write_2_140 : decode cX0_write_2 140 = .ok (.iastore, 1) := dk_79 (dk_at dksX0_write_2_5 22 rfl rfl)
theorem dX0_write_2_141 : decode cX0_write_2 141 = .ok (.iinc 4 (-1), 3) := dk_132 4 255 (dk_at dksX0_write_2_6 0 rfl rfl)
theorem dX0_write_2_144 : decode cX0_write_2 144 = .ok (.goto (-96), 3) := dk_167 255 160 (dk_at dksX0_write_2_6 3 rfl rfl)
theorem dX0_write_2_147 : decode cX0_write_2 147 = .ok (.aload_n 0, 1) := dk_42 (dk_at dksX0_write_2_6 6 rfl rfl)
theorem dX0_write_2_148 : decode cX0_write_2 148 = .ok (.getfield 129, 3) := dk_180 0 129 (dk_at dksX0_write_2_6 7 rfl rfl)
theorem dX0_write_2_151 : decode cX0_write_2 151 = .ok (.iconst 0, 1) := dk_3 (dk_at dksX0_write_2_6 10 rfl rfl)
theorem dX0_write_2_152 : decode cX0_write_2 152 = .ok (.iaload, 1) := dk_46 (dk_at dksX0_write_2_6 11 rfl rfl)
theorem dX0_write_2_153 : decode cX0_write_2 153 = .ok (.ireturn, 1) := dk_172 (dk_at dksX0_write_2_6 12 rfl rfl)
abbrev cX0_isWhole : ByteArray := prog_1_method_11_code
def yX0_isWhole : MethodName := ⟨RX0, "isWhole", "(I)Z"⟩
def dkwX0_isWhole_0 : List UInt8 := [42, 180, 0, 78, 27, 46, 42, 180, 0, 31, 182, 0, 65, 160, 0, 7, 4, 167, 0, 4, 3, 172]
abbrev dktX0_isWhole_0 : List UInt8 := dkwX0_isWhole_0 ++ []
theorem dksX0_isWhole_0 : cX0_isWhole.data.toList.drop 0 = dktX0_isWhole_0 := by decide +kernel
theorem dX0_isWhole_0 : decode cX0_isWhole 0 = .ok (.aload_n 0, 1) := dk_42 (dk_at dksX0_isWhole_0 0 rfl rfl)
theorem dX0_isWhole_1 : decode cX0_isWhole 1 = .ok (.getfield 78, 3) := dk_180 0 78 (dk_at dksX0_isWhole_0 1 rfl rfl)
theorem dX0_isWhole_4 : decode cX0_isWhole 4 = .ok (.iload_n 1, 1) := dk_27 (dk_at dksX0_isWhole_0 4 rfl rfl)
theorem dX0_isWhole_5 : decode cX0_isWhole 5 = .ok (.iaload, 1) := dk_46 (dk_at dksX0_isWhole_0 5 rfl rfl)
theorem dX0_isWhole_6 : decode cX0_isWhole 6 = .ok (.aload_n 0, 1) := dk_42 (dk_at dksX0_isWhole_0 6 rfl rfl)
theorem dX0_isWhole_7 : decode cX0_isWhole 7 = .ok (.getfield 31, 3) := dk_180 0 31 (dk_at dksX0_isWhole_0 7 rfl rfl)
theorem dX0_isWhole_10 : decode cX0_isWhole 10 = .ok (.invokevirtual 65, 3) := dk_182 0 65 (dk_at dksX0_isWhole_0 10 rfl rfl)
theorem dX0_isWhole_13 : decode cX0_isWhole 13 = .ok (.if_icmp .ne 7, 3) := dk_160 0 7 (dk_at dksX0_isWhole_0 13 rfl rfl)
theorem dX0_isWhole_16 : decode cX0_isWhole 16 = .ok (.iconst 1, 1) := dk_4 (dk_at dksX0_isWhole_0 16 rfl rfl)
theorem dX0_isWhole_17 : decode cX0_isWhole 17 = .ok (.goto 4, 3) := dk_167 0 4 (dk_at dksX0_isWhole_0 17 rfl rfl)
theorem dX0_isWhole_20 : decode cX0_isWhole 20 = .ok (.iconst 0, 1) := dk_3 (dk_at dksX0_isWhole_0 20 rfl rfl)
theorem dX0_isWhole_21 : decode cX0_isWhole 21 = .ok (.ireturn, 1) := dk_172 (dk_at dksX0_isWhole_0 21 rfl rfl)
abbrev cX0_pathOf : ByteArray := prog_1_method_9_code
def yX0_pathOf : MethodName := ⟨RX0, "pathOf", "(I[II)[I"⟩
def dkwX0_pathOf_2 : List UInt8 := [54, 4, 167, 255, 221, 42, 180, 0, 108, 176]
abbrev dktX0_pathOf_2 : List UInt8 := dkwX0_pathOf_2 ++ []
def dkwX0_pathOf_1 : List UInt8 := [180, 0, 78, 21, 4, 46, 4, 100, 42, 180, 0, 98, 21, 4, 46, 79, 42, 180, 0, 95, 21, 4, 46]
abbrev dktX0_pathOf_1 : List UInt8 := dkwX0_pathOf_1 ++ dktX0_pathOf_2
def dkwX0_pathOf_0 : List UInt8 := [44, 3, 42, 180, 0, 108, 3, 29, 184, 0, 72, 27, 54, 4, 21, 4, 158, 0, 36, 42, 180, 0, 108, 42]
abbrev dktX0_pathOf_0 : List UInt8 := dkwX0_pathOf_0 ++ dktX0_pathOf_1
theorem dksX0_pathOf_0 : cX0_pathOf.data.toList.drop 0 = dktX0_pathOf_0 := by decide +kernel
theorem dksX0_pathOf_1 : cX0_pathOf.data.toList.drop 24 = dktX0_pathOf_1 := dk_seg dksX0_pathOf_0 24 rfl rfl
theorem dksX0_pathOf_2 : cX0_pathOf.data.toList.drop 47 = dktX0_pathOf_2 := dk_seg dksX0_pathOf_1 23 rfl rfl
theorem dX0_pathOf_0 : decode cX0_pathOf 0 = .ok (.aload_n 2, 1) := dk_44 (dk_at dksX0_pathOf_0 0 rfl rfl)
theorem dX0_pathOf_1 : decode cX0_pathOf 1 = .ok (.iconst 0, 1) := dk_3 (dk_at dksX0_pathOf_0 1 rfl rfl)
theorem dX0_pathOf_2 : decode cX0_pathOf 2 = .ok (.aload_n 0, 1) := dk_42 (dk_at dksX0_pathOf_0 2 rfl rfl)
theorem dX0_pathOf_3 : decode cX0_pathOf 3 = .ok (.getfield 108, 3) := dk_180 0 108 (dk_at dksX0_pathOf_0 3 rfl rfl)
theorem dX0_pathOf_6 : decode cX0_pathOf 6 = .ok (.iconst 0, 1) := dk_3 (dk_at dksX0_pathOf_0 6 rfl rfl)
theorem dX0_pathOf_7 : decode cX0_pathOf 7 = .ok (.iload_n 3, 1) := dk_29 (dk_at dksX0_pathOf_0 7 rfl rfl)
theorem dX0_pathOf_8 : decode cX0_pathOf 8 = .ok (.invokestatic 72, 3) := dk_184 0 72 (dk_at dksX0_pathOf_0 8 rfl rfl)
theorem dX0_pathOf_11 : decode cX0_pathOf 11 = .ok (.iload_n 1, 1) := dk_27 (dk_at dksX0_pathOf_0 11 rfl rfl)
theorem dX0_pathOf_12 : decode cX0_pathOf 12 = .ok (.istore 4, 2) := dk_54 4 (dk_at dksX0_pathOf_0 12 rfl rfl)
theorem dX0_pathOf_14 : decode cX0_pathOf 14 = .ok (.iload 4, 2) := dk_21 4 (dk_at dksX0_pathOf_0 14 rfl rfl)
theorem dX0_pathOf_16 : decode cX0_pathOf 16 = .ok (.ifCond .le 36, 3) := dk_158 0 36 (dk_at dksX0_pathOf_0 16 rfl rfl)
theorem dX0_pathOf_19 : decode cX0_pathOf 19 = .ok (.aload_n 0, 1) := dk_42 (dk_at dksX0_pathOf_0 19 rfl rfl)
theorem dX0_pathOf_20 : decode cX0_pathOf 20 = .ok (.getfield 108, 3) := dk_180 0 108 (dk_at dksX0_pathOf_0 20 rfl rfl)
theorem dX0_pathOf_23 : decode cX0_pathOf 23 = .ok (.aload_n 0, 1) := dk_42 (dk_at dksX0_pathOf_0 23 rfl rfl)
theorem dX0_pathOf_24 : decode cX0_pathOf 24 = .ok (.getfield 78, 3) := dk_180 0 78 (dk_at dksX0_pathOf_1 0 rfl rfl)
theorem dX0_pathOf_27 : decode cX0_pathOf 27 = .ok (.iload 4, 2) := dk_21 4 (dk_at dksX0_pathOf_1 3 rfl rfl)
theorem dX0_pathOf_29 : decode cX0_pathOf 29 = .ok (.iaload, 1) := dk_46 (dk_at dksX0_pathOf_1 5 rfl rfl)
theorem dX0_pathOf_30 : decode cX0_pathOf 30 = .ok (.iconst 1, 1) := dk_4 (dk_at dksX0_pathOf_1 6 rfl rfl)
theorem dX0_pathOf_31 : decode cX0_pathOf 31 = .ok (.isub, 1) := dk_100 (dk_at dksX0_pathOf_1 7 rfl rfl)
theorem dX0_pathOf_32 : decode cX0_pathOf 32 = .ok (.aload_n 0, 1) := dk_42 (dk_at dksX0_pathOf_1 8 rfl rfl)
theorem dX0_pathOf_33 : decode cX0_pathOf 33 = .ok (.getfield 98, 3) := dk_180 0 98 (dk_at dksX0_pathOf_1 9 rfl rfl)
theorem dX0_pathOf_36 : decode cX0_pathOf 36 = .ok (.iload 4, 2) := dk_21 4 (dk_at dksX0_pathOf_1 12 rfl rfl)
theorem dX0_pathOf_38 : decode cX0_pathOf 38 = .ok (.iaload, 1) := dk_46 (dk_at dksX0_pathOf_1 14 rfl rfl)
theorem dX0_pathOf_39 : decode cX0_pathOf 39 = .ok (.iastore, 1) := dk_79 (dk_at dksX0_pathOf_1 15 rfl rfl)
theorem dX0_pathOf_40 : decode cX0_pathOf 40 = .ok (.aload_n 0, 1) := dk_42 (dk_at dksX0_pathOf_1 16 rfl rfl)
theorem dX0_pathOf_41 : decode cX0_pathOf 41 = .ok (.getfield 95, 3) := dk_180 0 95 (dk_at dksX0_pathOf_1 17 rfl rfl)
theorem dX0_pathOf_44 : decode cX0_pathOf 44 = .ok (.iload 4, 2) := dk_21 4 (dk_at dksX0_pathOf_1 20 rfl rfl)
theorem dX0_pathOf_46 : decode cX0_pathOf 46 = .ok (.iaload, 1) := dk_46 (dk_at dksX0_pathOf_1 22 rfl rfl)
theorem dX0_pathOf_47 : decode cX0_pathOf 47 = .ok (.istore 4, 2) := dk_54 4 (dk_at dksX0_pathOf_2 0 rfl rfl)
theorem dX0_pathOf_49 : decode cX0_pathOf 49 = .ok (.goto (-35), 3) := dk_167 255 221 (dk_at dksX0_pathOf_2 2 rfl rfl)
theorem dX0_pathOf_52 : decode cX0_pathOf 52 = .ok (.aload_n 0, 1) := dk_42 (dk_at dksX0_pathOf_2 5 rfl rfl)
theorem dX0_pathOf_53 : decode cX0_pathOf 53 = .ok (.getfield 108, 3) := dk_180 0 108 (dk_at dksX0_pathOf_2 6 rfl rfl)
theorem dX0_pathOf_56 : decode cX0_pathOf 56 = .ok (.areturn, 1) := dk_176 (dk_at dksX0_pathOf_2 9 rfl rfl)
abbrev cX0_meaningOf : ByteArray := prog_1_method_13_code
def yX0_meaningOf : MethodName := ⟨RX0, "meaningOf", "(I[III)I"⟩
def dkwX0_meaningOf_0 : List UInt8 := [42, 42, 27, 44, 29, 182, 0, 135, 42, 180, 0, 31, 182, 0, 65, 21, 4, 182, 0, 139, 172]
abbrev dktX0_meaningOf_0 : List UInt8 := dkwX0_meaningOf_0 ++ []
theorem dksX0_meaningOf_0 : cX0_meaningOf.data.toList.drop 0 = dktX0_meaningOf_0 := by decide +kernel
theorem dX0_meaningOf_0 : decode cX0_meaningOf 0 = .ok (.aload_n 0, 1) := dk_42 (dk_at dksX0_meaningOf_0 0 rfl rfl)
theorem dX0_meaningOf_1 : decode cX0_meaningOf 1 = .ok (.aload_n 0, 1) := dk_42 (dk_at dksX0_meaningOf_0 1 rfl rfl)
theorem dX0_meaningOf_2 : decode cX0_meaningOf 2 = .ok (.iload_n 1, 1) := dk_27 (dk_at dksX0_meaningOf_0 2 rfl rfl)
theorem dX0_meaningOf_3 : decode cX0_meaningOf 3 = .ok (.aload_n 2, 1) := dk_44 (dk_at dksX0_meaningOf_0 3 rfl rfl)
theorem dX0_meaningOf_4 : decode cX0_meaningOf 4 = .ok (.iload_n 3, 1) := dk_29 (dk_at dksX0_meaningOf_0 4 rfl rfl)
theorem dX0_meaningOf_5 : decode cX0_meaningOf 5 = .ok (.invokevirtual 135, 3) := dk_182 0 135 (dk_at dksX0_meaningOf_0 5 rfl rfl)
theorem dX0_meaningOf_8 : decode cX0_meaningOf 8 = .ok (.aload_n 0, 1) := dk_42 (dk_at dksX0_meaningOf_0 8 rfl rfl)
theorem dX0_meaningOf_9 : decode cX0_meaningOf 9 = .ok (.getfield 31, 3) := dk_180 0 31 (dk_at dksX0_meaningOf_0 9 rfl rfl)
theorem dX0_meaningOf_12 : decode cX0_meaningOf 12 = .ok (.invokevirtual 65, 3) := dk_182 0 65 (dk_at dksX0_meaningOf_0 12 rfl rfl)
theorem dX0_meaningOf_15 : decode cX0_meaningOf 15 = .ok (.iload 4, 2) := dk_21 4 (dk_at dksX0_meaningOf_0 15 rfl rfl)
theorem dX0_meaningOf_17 : decode cX0_meaningOf 17 = .ok (.invokevirtual 139, 3) := dk_182 0 139 (dk_at dksX0_meaningOf_0 17 rfl rfl)
theorem dX0_meaningOf_20 : decode cX0_meaningOf 20 = .ok (.ireturn, 1) := dk_172 (dk_at dksX0_meaningOf_0 20 rfl rfl)
abbrev cX0_layDown : ByteArray := prog_1_method_39_code
def yX0_layDown : MethodName := ⟨RX0, "layDown", "(I[II)V"⟩
def dkwX0_layDown_1 : List UInt8 := [42, 180, 0, 31, 182, 0, 65, 181, 0, 218, 177]
abbrev dktX0_layDown_1 : List UInt8 := dkwX0_layDown_1 ++ []
def dkwX0_layDown_0 : List UInt8 := [42, 27, 44, 29, 182, 0, 135, 3, 42, 180, 0, 175, 3, 42, 180, 0, 31, 182, 0, 65, 184, 0, 72, 42]
abbrev dktX0_layDown_0 : List UInt8 := dkwX0_layDown_0 ++ dktX0_layDown_1
theorem dksX0_layDown_0 : cX0_layDown.data.toList.drop 0 = dktX0_layDown_0 := by decide +kernel
theorem dksX0_layDown_1 : cX0_layDown.data.toList.drop 24 = dktX0_layDown_1 := dk_seg dksX0_layDown_0 24 rfl rfl
theorem dX0_layDown_0 : decode cX0_layDown 0 = .ok (.aload_n 0, 1) := dk_42 (dk_at dksX0_layDown_0 0 rfl rfl)
theorem dX0_layDown_1 : decode cX0_layDown 1 = .ok (.iload_n 1, 1) := dk_27 (dk_at dksX0_layDown_0 1 rfl rfl)
theorem dX0_layDown_2 : decode cX0_layDown 2 = .ok (.aload_n 2, 1) := dk_44 (dk_at dksX0_layDown_0 2 rfl rfl)
theorem dX0_layDown_3 : decode cX0_layDown 3 = .ok (.iload_n 3, 1) := dk_29 (dk_at dksX0_layDown_0 3 rfl rfl)
theorem dX0_layDown_4 : decode cX0_layDown 4 = .ok (.invokevirtual 135, 3) := dk_182 0 135 (dk_at dksX0_layDown_0 4 rfl rfl)
theorem dX0_layDown_7 : decode cX0_layDown 7 = .ok (.iconst 0, 1) := dk_3 (dk_at dksX0_layDown_0 7 rfl rfl)
theorem dX0_layDown_8 : decode cX0_layDown 8 = .ok (.aload_n 0, 1) := dk_42 (dk_at dksX0_layDown_0 8 rfl rfl)
theorem dX0_layDown_9 : decode cX0_layDown 9 = .ok (.getfield 175, 3) := dk_180 0 175 (dk_at dksX0_layDown_0 9 rfl rfl)
theorem dX0_layDown_12 : decode cX0_layDown 12 = .ok (.iconst 0, 1) := dk_3 (dk_at dksX0_layDown_0 12 rfl rfl)
theorem dX0_layDown_13 : decode cX0_layDown 13 = .ok (.aload_n 0, 1) := dk_42 (dk_at dksX0_layDown_0 13 rfl rfl)
theorem dX0_layDown_14 : decode cX0_layDown 14 = .ok (.getfield 31, 3) := dk_180 0 31 (dk_at dksX0_layDown_0 14 rfl rfl)
theorem dX0_layDown_17 : decode cX0_layDown 17 = .ok (.invokevirtual 65, 3) := dk_182 0 65 (dk_at dksX0_layDown_0 17 rfl rfl)
theorem dX0_layDown_20 : decode cX0_layDown 20 = .ok (.invokestatic 72, 3) := dk_184 0 72 (dk_at dksX0_layDown_0 20 rfl rfl)
theorem dX0_layDown_23 : decode cX0_layDown 23 = .ok (.aload_n 0, 1) := dk_42 (dk_at dksX0_layDown_0 23 rfl rfl)
theorem dX0_layDown_24 : decode cX0_layDown 24 = .ok (.aload_n 0, 1) := dk_42 (dk_at dksX0_layDown_1 0 rfl rfl)
theorem dX0_layDown_25 : decode cX0_layDown 25 = .ok (.getfield 31, 3) := dk_180 0 31 (dk_at dksX0_layDown_1 1 rfl rfl)
theorem dX0_layDown_28 : decode cX0_layDown 28 = .ok (.invokevirtual 65, 3) := dk_182 0 65 (dk_at dksX0_layDown_1 4 rfl rfl)
theorem dX0_layDown_31 : decode cX0_layDown 31 = .ok (.putfield 218, 3) := dk_181 0 218 (dk_at dksX0_layDown_1 7 rfl rfl)
theorem dX0_layDown_34 : decode cX0_layDown 34 = .ok (.return_, 1) := dk_177 (dk_at dksX0_layDown_1 10 rfl rfl)
abbrev cX0_held : ByteArray := prog_1_method_44_code
def yX0_held : MethodName := ⟨RX0, "held", "(I)I"⟩
def dkwX0_held_1 : List UInt8 := [167, 0, 5, 18, 245, 172]
abbrev dktX0_held_1 : List UInt8 := dkwX0_held_1 ++ []
def dkwX0_held_0 : List UInt8 := [27, 4, 16, 7, 184, 0, 235, 153, 0, 18, 42, 182, 1, 29, 153, 0, 11, 42, 27, 182, 1, 32]
abbrev dktX0_held_0 : List UInt8 := dkwX0_held_0 ++ dktX0_held_1
theorem dksX0_held_0 : cX0_held.data.toList.drop 0 = dktX0_held_0 := by decide +kernel
theorem dksX0_held_1 : cX0_held.data.toList.drop 22 = dktX0_held_1 := dk_seg dksX0_held_0 22 rfl rfl
theorem dX0_held_0 : decode cX0_held 0 = .ok (.iload_n 1, 1) := dk_27 (dk_at dksX0_held_0 0 rfl rfl)
theorem dX0_held_1 : decode cX0_held 1 = .ok (.iconst 1, 1) := dk_4 (dk_at dksX0_held_0 1 rfl rfl)
theorem dX0_held_2 : decode cX0_held 2 = .ok (.bipush 7, 2) := dk_16 7 (dk_at dksX0_held_0 2 rfl rfl)
theorem dX0_held_4 : decode cX0_held 4 = .ok (.invokestatic 235, 3) := dk_184 0 235 (dk_at dksX0_held_0 4 rfl rfl)
theorem dX0_held_7 : decode cX0_held 7 = .ok (.ifCond .eq 18, 3) := dk_153 0 18 (dk_at dksX0_held_0 7 rfl rfl)
theorem dX0_held_10 : decode cX0_held 10 = .ok (.aload_n 0, 1) := dk_42 (dk_at dksX0_held_0 10 rfl rfl)
theorem dX0_held_11 : decode cX0_held 11 = .ok (.invokevirtual 285, 3) := dk_182 1 29 (dk_at dksX0_held_0 11 rfl rfl)
theorem dX0_held_14 : decode cX0_held 14 = .ok (.ifCond .eq 11, 3) := dk_153 0 11 (dk_at dksX0_held_0 14 rfl rfl)
theorem dX0_held_17 : decode cX0_held 17 = .ok (.aload_n 0, 1) := dk_42 (dk_at dksX0_held_0 17 rfl rfl)
theorem dX0_held_18 : decode cX0_held 18 = .ok (.iload_n 1, 1) := dk_27 (dk_at dksX0_held_0 18 rfl rfl)
theorem dX0_held_19 : decode cX0_held 19 = .ok (.invokevirtual 288, 3) := dk_182 1 32 (dk_at dksX0_held_0 19 rfl rfl)
theorem dX0_held_22 : decode cX0_held 22 = .ok (.goto 5, 3) := dk_167 0 5 (dk_at dksX0_held_1 0 rfl rfl)
theorem dX0_held_25 : decode cX0_held 25 = .ok (.ldc 245, 2) := dk_18 245 (dk_at dksX0_held_1 3 rfl rfl)
theorem dX0_held_27 : decode cX0_held 27 = .ok (.ireturn, 1) := dk_172 (dk_at dksX0_held_1 5 rfl rfl)
abbrev cX0_hasTree : ByteArray := prog_1_method_43_code
def yX0_hasTree : MethodName := ⟨RX0, "hasTree", "()Z"⟩
def dkwX0_hasTree_1 : List UInt8 := [154, 0, 7, 4, 167, 0, 4, 3, 172]
abbrev dktX0_hasTree_1 : List UInt8 := dkwX0_hasTree_1 ++ []
def dkwX0_hasTree_0 : List UInt8 := [42, 42, 180, 0, 164, 42, 180, 0, 164, 16, 12, 46, 1, 182, 1, 13, 153, 0, 14, 42, 180, 0, 83]
abbrev dktX0_hasTree_0 : List UInt8 := dkwX0_hasTree_0 ++ dktX0_hasTree_1
theorem dksX0_hasTree_0 : cX0_hasTree.data.toList.drop 0 = dktX0_hasTree_0 := by decide +kernel
theorem dksX0_hasTree_1 : cX0_hasTree.data.toList.drop 23 = dktX0_hasTree_1 := dk_seg dksX0_hasTree_0 23 rfl rfl
theorem dX0_hasTree_0 : decode cX0_hasTree 0 = .ok (.aload_n 0, 1) := dk_42 (dk_at dksX0_hasTree_0 0 rfl rfl)
theorem dX0_hasTree_1 : decode cX0_hasTree 1 = .ok (.aload_n 0, 1) := dk_42 (dk_at dksX0_hasTree_0 1 rfl rfl)
theorem dX0_hasTree_2 : decode cX0_hasTree 2 = .ok (.getfield 164, 3) := dk_180 0 164 (dk_at dksX0_hasTree_0 2 rfl rfl)
theorem dX0_hasTree_5 : decode cX0_hasTree 5 = .ok (.aload_n 0, 1) := dk_42 (dk_at dksX0_hasTree_0 5 rfl rfl)
theorem dX0_hasTree_6 : decode cX0_hasTree 6 = .ok (.getfield 164, 3) := dk_180 0 164 (dk_at dksX0_hasTree_0 6 rfl rfl)
theorem dX0_hasTree_9 : decode cX0_hasTree 9 = .ok (.bipush 12, 2) := dk_16 12 (dk_at dksX0_hasTree_0 9 rfl rfl)
theorem dX0_hasTree_11 : decode cX0_hasTree 11 = .ok (.iaload, 1) := dk_46 (dk_at dksX0_hasTree_0 11 rfl rfl)
theorem dX0_hasTree_12 : decode cX0_hasTree 12 = .ok (.aconst_null, 1) := dk_1 (dk_at dksX0_hasTree_0 12 rfl rfl)
theorem dX0_hasTree_13 : decode cX0_hasTree 13 = .ok (.invokevirtual 269, 3) := dk_182 1 13 (dk_at dksX0_hasTree_0 13 rfl rfl)
theorem dX0_hasTree_16 : decode cX0_hasTree 16 = .ok (.ifCond .eq 14, 3) := dk_153 0 14 (dk_at dksX0_hasTree_0 16 rfl rfl)
theorem dX0_hasTree_19 : decode cX0_hasTree 19 = .ok (.aload_n 0, 1) := dk_42 (dk_at dksX0_hasTree_0 19 rfl rfl)
theorem dX0_hasTree_20 : decode cX0_hasTree 20 = .ok (.getfield 83, 3) := dk_180 0 83 (dk_at dksX0_hasTree_0 20 rfl rfl)
theorem dX0_hasTree_23 : decode cX0_hasTree 23 = .ok (.ifCond .ne 7, 3) := dk_154 0 7 (dk_at dksX0_hasTree_1 0 rfl rfl)
theorem dX0_hasTree_26 : decode cX0_hasTree 26 = .ok (.iconst 1, 1) := dk_4 (dk_at dksX0_hasTree_1 3 rfl rfl)
theorem dX0_hasTree_27 : decode cX0_hasTree 27 = .ok (.goto 4, 3) := dk_167 0 4 (dk_at dksX0_hasTree_1 4 rfl rfl)
theorem dX0_hasTree_30 : decode cX0_hasTree 30 = .ok (.iconst 0, 1) := dk_3 (dk_at dksX0_hasTree_1 7 rfl rfl)
theorem dX0_hasTree_31 : decode cX0_hasTree 31 = .ok (.ireturn, 1) := dk_172 (dk_at dksX0_hasTree_1 8 rfl rfl)
abbrev cX0_hold : ByteArray := prog_1_method_42_code
def yX0_hold : MethodName := ⟨RX0, "hold", "(I)I"⟩
def dkwX0_hold_7 : List UInt8 := [46, 79, 42, 180, 0, 129, 29, 4, 79, 132, 2, 255, 167, 255, 147, 42, 180, 0, 153, 3, 46, 172]
abbrev dktX0_hold_7 : List UInt8 := dkwX0_hold_7 ++ []
def dkwX0_hold_6 : List UInt8 := [180, 0, 153, 28, 46, 42, 180, 0, 153, 29, 46, 162, 0, 15, 42, 180, 0, 153, 29, 42, 180, 0, 153, 28]
abbrev dktX0_hold_6 : List UInt8 := dkwX0_hold_6 ++ dktX0_hold_7
def dkwX0_hold_5 : List UInt8 := [153, 0, 21, 42, 180, 0, 153, 28, 46, 42, 180, 0, 153, 29, 46, 164, 0, 33, 167, 0, 18, 42]
abbrev dktX0_hold_5 : List UInt8 := dkwX0_hold_5 ++ dktX0_hold_6
def dkwX0_hold_4 : List UInt8 := [4, 160, 0, 7, 4, 167, 0, 4, 3, 54, 4, 42, 180, 0, 129, 29, 46, 153, 0, 41, 21, 4]
abbrev dktX0_hold_4 : List UInt8 := dkwX0_hold_4 ++ dktX0_hold_5
def dkwX0_hold_3 : List UInt8 := [180, 0, 95, 28, 46, 62, 27, 42, 180, 0, 164, 16, 6, 42, 180, 0, 78, 29, 46, 96, 46, 122, 4, 126]
abbrev dktX0_hold_3 : List UInt8 := dkwX0_hold_3 ++ dktX0_hold_4
def dkwX0_hold_2 : List UInt8 := [167, 0, 4, 3, 79, 132, 2, 1, 167, 255, 202, 42, 180, 0, 91, 4, 100, 61, 28, 158, 0, 111, 42]
abbrev dktX0_hold_2 : List UInt8 := dkwX0_hold_2 ++ dktX0_hold_3
def dkwX0_hold_1 : List UInt8 := [167, 0, 4, 3, 79, 42, 180, 0, 153, 28, 42, 28, 182, 0, 132, 153, 0, 12, 42, 28, 27, 182, 1, 25]
abbrev dktX0_hold_1 : List UInt8 := dkwX0_hold_1 ++ dktX0_hold_2
def dkwX0_hold_0 : List UInt8 := [3, 61, 28, 42, 180, 0, 91, 162, 0, 52, 42, 180, 0, 129, 28, 42, 28, 182, 0, 132, 153, 0, 7, 4]
abbrev dktX0_hold_0 : List UInt8 := dkwX0_hold_0 ++ dktX0_hold_1
theorem dksX0_hold_0 : cX0_hold.data.toList.drop 0 = dktX0_hold_0 := by decide +kernel
theorem dksX0_hold_1 : cX0_hold.data.toList.drop 24 = dktX0_hold_1 := dk_seg dksX0_hold_0 24 rfl rfl
theorem dksX0_hold_2 : cX0_hold.data.toList.drop 48 = dktX0_hold_2 := dk_seg dksX0_hold_1 24 rfl rfl
theorem dksX0_hold_3 : cX0_hold.data.toList.drop 71 = dktX0_hold_3 := dk_seg dksX0_hold_2 23 rfl rfl
theorem dksX0_hold_4 : cX0_hold.data.toList.drop 95 = dktX0_hold_4 := dk_seg dksX0_hold_3 24 rfl rfl
theorem dksX0_hold_5 : cX0_hold.data.toList.drop 117 = dktX0_hold_5 := dk_seg dksX0_hold_4 22 rfl rfl
theorem dksX0_hold_6 : cX0_hold.data.toList.drop 139 = dktX0_hold_6 := dk_seg dksX0_hold_5 22 rfl rfl
theorem dksX0_hold_7 : cX0_hold.data.toList.drop 163 = dktX0_hold_7 := dk_seg dksX0_hold_6 24 rfl rfl
theorem dX0_hold_0 : decode cX0_hold 0 = .ok (.iconst 0, 1) := dk_3 (dk_at dksX0_hold_0 0 rfl rfl)
theorem dX0_hold_1 : decode cX0_hold 1 = .ok (.istore_n 2, 1) := dk_61 (dk_at dksX0_hold_0 1 rfl rfl)
theorem dX0_hold_2 : decode cX0_hold 2 = .ok (.iload_n 2, 1) := dk_28 (dk_at dksX0_hold_0 2 rfl rfl)
theorem dX0_hold_3 : decode cX0_hold 3 = .ok (.aload_n 0, 1) := dk_42 (dk_at dksX0_hold_0 3 rfl rfl)
theorem dX0_hold_4 : decode cX0_hold 4 = .ok (.getfield 91, 3) := dk_180 0 91 (dk_at dksX0_hold_0 4 rfl rfl)
theorem dX0_hold_7 : decode cX0_hold 7 = .ok (.if_icmp .ge 52, 3) := dk_162 0 52 (dk_at dksX0_hold_0 7 rfl rfl)
theorem dX0_hold_10 : decode cX0_hold 10 = .ok (.aload_n 0, 1) := dk_42 (dk_at dksX0_hold_0 10 rfl rfl)
theorem dX0_hold_11 : decode cX0_hold 11 = .ok (.getfield 129, 3) := dk_180 0 129 (dk_at dksX0_hold_0 11 rfl rfl)
theorem dX0_hold_14 : decode cX0_hold 14 = .ok (.iload_n 2, 1) := dk_28 (dk_at dksX0_hold_0 14 rfl rfl)
theorem dX0_hold_15 : decode cX0_hold 15 = .ok (.aload_n 0, 1) := dk_42 (dk_at dksX0_hold_0 15 rfl rfl)
theorem dX0_hold_16 : decode cX0_hold 16 = .ok (.iload_n 2, 1) := dk_28 (dk_at dksX0_hold_0 16 rfl rfl)
theorem dX0_hold_17 : decode cX0_hold 17 = .ok (.invokevirtual 132, 3) := dk_182 0 132 (dk_at dksX0_hold_0 17 rfl rfl)
theorem dX0_hold_20 : decode cX0_hold 20 = .ok (.ifCond .eq 7, 3) := dk_153 0 7 (dk_at dksX0_hold_0 20 rfl rfl)
theorem dX0_hold_23 : decode cX0_hold 23 = .ok (.iconst 1, 1) := dk_4 (dk_at dksX0_hold_0 23 rfl rfl)
theorem dX0_hold_24 : decode cX0_hold 24 = .ok (.goto 4, 3) := dk_167 0 4 (dk_at dksX0_hold_1 0 rfl rfl)
theorem dX0_hold_27 : decode cX0_hold 27 = .ok (.iconst 0, 1) := dk_3 (dk_at dksX0_hold_1 3 rfl rfl)
theorem dX0_hold_28 : decode cX0_hold 28 = .ok (.iastore, 1) := dk_79 (dk_at dksX0_hold_1 4 rfl rfl)
theorem dX0_hold_29 : decode cX0_hold 29 = .ok (.aload_n 0, 1) := dk_42 (dk_at dksX0_hold_1 5 rfl rfl)
theorem dX0_hold_30 : decode cX0_hold 30 = .ok (.getfield 153, 3) := dk_180 0 153 (dk_at dksX0_hold_1 6 rfl rfl)
theorem dX0_hold_33 : decode cX0_hold 33 = .ok (.iload_n 2, 1) := dk_28 (dk_at dksX0_hold_1 9 rfl rfl)
theorem dX0_hold_34 : decode cX0_hold 34 = .ok (.aload_n 0, 1) := dk_42 (dk_at dksX0_hold_1 10 rfl rfl)
theorem dX0_hold_35 : decode cX0_hold 35 = .ok (.iload_n 2, 1) := dk_28 (dk_at dksX0_hold_1 11 rfl rfl)
theorem dX0_hold_36 : decode cX0_hold 36 = .ok (.invokevirtual 132, 3) := dk_182 0 132 (dk_at dksX0_hold_1 12 rfl rfl)
theorem dX0_hold_39 : decode cX0_hold 39 = .ok (.ifCond .eq 12, 3) := dk_153 0 12 (dk_at dksX0_hold_1 15 rfl rfl)
theorem dX0_hold_42 : decode cX0_hold 42 = .ok (.aload_n 0, 1) := dk_42 (dk_at dksX0_hold_1 18 rfl rfl)
theorem dX0_hold_43 : decode cX0_hold 43 = .ok (.iload_n 2, 1) := dk_28 (dk_at dksX0_hold_1 19 rfl rfl)
theorem dX0_hold_44 : decode cX0_hold 44 = .ok (.iload_n 1, 1) := dk_27 (dk_at dksX0_hold_1 20 rfl rfl)
theorem dX0_hold_45 : decode cX0_hold 45 = .ok (.invokevirtual 281, 3) := dk_182 1 25 (dk_at dksX0_hold_1 21 rfl rfl)
theorem dX0_hold_48 : decode cX0_hold 48 = .ok (.goto 4, 3) := dk_167 0 4 (dk_at dksX0_hold_2 0 rfl rfl)
theorem dX0_hold_51 : decode cX0_hold 51 = .ok (.iconst 0, 1) := dk_3 (dk_at dksX0_hold_2 3 rfl rfl)
theorem dX0_hold_52 : decode cX0_hold 52 = .ok (.iastore, 1) := dk_79 (dk_at dksX0_hold_2 4 rfl rfl)
theorem dX0_hold_53 : decode cX0_hold 53 = .ok (.iinc 2 1, 3) := dk_132 2 1 (dk_at dksX0_hold_2 5 rfl rfl)
theorem dX0_hold_56 : decode cX0_hold 56 = .ok (.goto (-54), 3) := dk_167 255 202 (dk_at dksX0_hold_2 8 rfl rfl)
theorem dX0_hold_59 : decode cX0_hold 59 = .ok (.aload_n 0, 1) := dk_42 (dk_at dksX0_hold_2 11 rfl rfl)
theorem dX0_hold_60 : decode cX0_hold 60 = .ok (.getfield 91, 3) := dk_180 0 91 (dk_at dksX0_hold_2 12 rfl rfl)
theorem dX0_hold_63 : decode cX0_hold 63 = .ok (.iconst 1, 1) := dk_4 (dk_at dksX0_hold_2 15 rfl rfl)
theorem dX0_hold_64 : decode cX0_hold 64 = .ok (.isub, 1) := dk_100 (dk_at dksX0_hold_2 16 rfl rfl)
theorem dX0_hold_65 : decode cX0_hold 65 = .ok (.istore_n 2, 1) := dk_61 (dk_at dksX0_hold_2 17 rfl rfl)
theorem dX0_hold_66 : decode cX0_hold 66 = .ok (.iload_n 2, 1) := dk_28 (dk_at dksX0_hold_2 18 rfl rfl)
theorem dX0_hold_67 : decode cX0_hold 67 = .ok (.ifCond .le 111, 3) := dk_158 0 111 (dk_at dksX0_hold_2 19 rfl rfl)
theorem dX0_hold_70 : decode cX0_hold 70 = .ok (.aload_n 0, 1) := dk_42 (dk_at dksX0_hold_2 22 rfl rfl)
theorem dX0_hold_71 : decode cX0_hold 71 = .ok (.getfield 95, 3) := dk_180 0 95 (dk_at dksX0_hold_3 0 rfl rfl)
theorem dX0_hold_74 : decode cX0_hold 74 = .ok (.iload_n 2, 1) := dk_28 (dk_at dksX0_hold_3 3 rfl rfl)
theorem dX0_hold_75 : decode cX0_hold 75 = .ok (.iaload, 1) := dk_46 (dk_at dksX0_hold_3 4 rfl rfl)
theorem dX0_hold_76 : decode cX0_hold 76 = .ok (.istore_n 3, 1) := dk_62 (dk_at dksX0_hold_3 5 rfl rfl)
theorem dX0_hold_77 : decode cX0_hold 77 = .ok (.iload_n 1, 1) := dk_27 (dk_at dksX0_hold_3 6 rfl rfl)
theorem dX0_hold_78 : decode cX0_hold 78 = .ok (.aload_n 0, 1) := dk_42 (dk_at dksX0_hold_3 7 rfl rfl)
theorem dX0_hold_79 : decode cX0_hold 79 = .ok (.getfield 164, 3) := dk_180 0 164 (dk_at dksX0_hold_3 8 rfl rfl)
theorem dX0_hold_82 : decode cX0_hold 82 = .ok (.bipush 6, 2) := dk_16 6 (dk_at dksX0_hold_3 11 rfl rfl)
theorem dX0_hold_84 : decode cX0_hold 84 = .ok (.aload_n 0, 1) := dk_42 (dk_at dksX0_hold_3 13 rfl rfl)
theorem dX0_hold_85 : decode cX0_hold 85 = .ok (.getfield 78, 3) := dk_180 0 78 (dk_at dksX0_hold_3 14 rfl rfl)
theorem dX0_hold_88 : decode cX0_hold 88 = .ok (.iload_n 3, 1) := dk_29 (dk_at dksX0_hold_3 17 rfl rfl)
theorem dX0_hold_89 : decode cX0_hold 89 = .ok (.iaload, 1) := dk_46 (dk_at dksX0_hold_3 18 rfl rfl)
theorem dX0_hold_90 : decode cX0_hold 90 = .ok (.iadd, 1) := dk_96 (dk_at dksX0_hold_3 19 rfl rfl)
theorem dX0_hold_91 : decode cX0_hold 91 = .ok (.iaload, 1) := dk_46 (dk_at dksX0_hold_3 20 rfl rfl)
theorem dX0_hold_92 : decode cX0_hold 92 = .ok (.ishr, 1) := dk_122 (dk_at dksX0_hold_3 21 rfl rfl)
theorem dX0_hold_93 : decode cX0_hold 93 = .ok (.iconst 1, 1) := dk_4 (dk_at dksX0_hold_3 22 rfl rfl)
theorem dX0_hold_94 : decode cX0_hold 94 = .ok (.iand, 1) := dk_126 (dk_at dksX0_hold_3 23 rfl rfl)
theorem dX0_hold_95 : decode cX0_hold 95 = .ok (.iconst 1, 1) := dk_4 (dk_at dksX0_hold_4 0 rfl rfl)
theorem dX0_hold_96 : decode cX0_hold 96 = .ok (.if_icmp .ne 7, 3) := dk_160 0 7 (dk_at dksX0_hold_4 1 rfl rfl)
theorem dX0_hold_99 : decode cX0_hold 99 = .ok (.iconst 1, 1) := dk_4 (dk_at dksX0_hold_4 4 rfl rfl)
theorem dX0_hold_100 : decode cX0_hold 100 = .ok (.goto 4, 3) := dk_167 0 4 (dk_at dksX0_hold_4 5 rfl rfl)
theorem dX0_hold_103 : decode cX0_hold 103 = .ok (.iconst 0, 1) := dk_3 (dk_at dksX0_hold_4 8 rfl rfl)
theorem dX0_hold_104 : decode cX0_hold 104 = .ok (.istore 4, 2) := dk_54 4 (dk_at dksX0_hold_4 9 rfl rfl)
theorem dX0_hold_106 : decode cX0_hold 106 = .ok (.aload_n 0, 1) := dk_42 (dk_at dksX0_hold_4 11 rfl rfl)
theorem dX0_hold_107 : decode cX0_hold 107 = .ok (.getfield 129, 3) := dk_180 0 129 (dk_at dksX0_hold_4 12 rfl rfl)
theorem dX0_hold_110 : decode cX0_hold 110 = .ok (.iload_n 3, 1) := dk_29 (dk_at dksX0_hold_4 15 rfl rfl)
theorem dX0_hold_111 : decode cX0_hold 111 = .ok (.iaload, 1) := dk_46 (dk_at dksX0_hold_4 16 rfl rfl)
theorem dX0_hold_112 : decode cX0_hold 112 = .ok (.ifCond .eq 41, 3) := dk_153 0 41 (dk_at dksX0_hold_4 17 rfl rfl)
theorem dX0_hold_115 : decode cX0_hold 115 = .ok (.iload 4, 2) := dk_21 4 (dk_at dksX0_hold_4 20 rfl rfl)
theorem dX0_hold_117 : decode cX0_hold 117 = .ok (.ifCond .eq 21, 3) := dk_153 0 21 (dk_at dksX0_hold_5 0 rfl rfl)
theorem dX0_hold_120 : decode cX0_hold 120 = .ok (.aload_n 0, 1) := dk_42 (dk_at dksX0_hold_5 3 rfl rfl)
theorem dX0_hold_121 : decode cX0_hold 121 = .ok (.getfield 153, 3) := dk_180 0 153 (dk_at dksX0_hold_5 4 rfl rfl)
theorem dX0_hold_124 : decode cX0_hold 124 = .ok (.iload_n 2, 1) := dk_28 (dk_at dksX0_hold_5 7 rfl rfl)
theorem dX0_hold_125 : decode cX0_hold 125 = .ok (.iaload, 1) := dk_46 (dk_at dksX0_hold_5 8 rfl rfl)
theorem dX0_hold_126 : decode cX0_hold 126 = .ok (.aload_n 0, 1) := dk_42 (dk_at dksX0_hold_5 9 rfl rfl)
theorem dX0_hold_127 : decode cX0_hold 127 = .ok (.getfield 153, 3) := dk_180 0 153 (dk_at dksX0_hold_5 10 rfl rfl)
theorem dX0_hold_130 : decode cX0_hold 130 = .ok (.iload_n 3, 1) := dk_29 (dk_at dksX0_hold_5 13 rfl rfl)
theorem dX0_hold_131 : decode cX0_hold 131 = .ok (.iaload, 1) := dk_46 (dk_at dksX0_hold_5 14 rfl rfl)
theorem dX0_hold_132 : decode cX0_hold 132 = .ok (.if_icmp .le 33, 3) := dk_164 0 33 (dk_at dksX0_hold_5 15 rfl rfl)
theorem dX0_hold_135 : decode cX0_hold 135 = .ok (.goto 18, 3) := dk_167 0 18 (dk_at dksX0_hold_5 18 rfl rfl)
theorem dX0_hold_138 : decode cX0_hold 138 = .ok (.aload_n 0, 1) := dk_42 (dk_at dksX0_hold_5 21 rfl rfl)
theorem dX0_hold_139 : decode cX0_hold 139 = .ok (.getfield 153, 3) := dk_180 0 153 (dk_at dksX0_hold_6 0 rfl rfl)
theorem dX0_hold_142 : decode cX0_hold 142 = .ok (.iload_n 2, 1) := dk_28 (dk_at dksX0_hold_6 3 rfl rfl)
theorem dX0_hold_143 : decode cX0_hold 143 = .ok (.iaload, 1) := dk_46 (dk_at dksX0_hold_6 4 rfl rfl)
theorem dX0_hold_144 : decode cX0_hold 144 = .ok (.aload_n 0, 1) := dk_42 (dk_at dksX0_hold_6 5 rfl rfl)
theorem dX0_hold_145 : decode cX0_hold 145 = .ok (.getfield 153, 3) := dk_180 0 153 (dk_at dksX0_hold_6 6 rfl rfl)
theorem dX0_hold_148 : decode cX0_hold 148 = .ok (.iload_n 3, 1) := dk_29 (dk_at dksX0_hold_6 9 rfl rfl)
theorem dX0_hold_149 : decode cX0_hold 149 = .ok (.iaload, 1) := dk_46 (dk_at dksX0_hold_6 10 rfl rfl)
theorem dX0_hold_150 : decode cX0_hold 150 = .ok (.if_icmp .ge 15, 3) := dk_162 0 15 (dk_at dksX0_hold_6 11 rfl rfl)
theorem dX0_hold_153 : decode cX0_hold 153 = .ok (.aload_n 0, 1) := dk_42 (dk_at dksX0_hold_6 14 rfl rfl)
theorem dX0_hold_154 : decode cX0_hold 154 = .ok (.getfield 153, 3) := dk_180 0 153 (dk_at dksX0_hold_6 15 rfl rfl)
theorem dX0_hold_157 : decode cX0_hold 157 = .ok (.iload_n 3, 1) := dk_29 (dk_at dksX0_hold_6 18 rfl rfl)
theorem dX0_hold_158 : decode cX0_hold 158 = .ok (.aload_n 0, 1) := dk_42 (dk_at dksX0_hold_6 19 rfl rfl)
theorem dX0_hold_159 : decode cX0_hold 159 = .ok (.getfield 153, 3) := dk_180 0 153 (dk_at dksX0_hold_6 20 rfl rfl)
theorem dX0_hold_162 : decode cX0_hold 162 = .ok (.iload_n 2, 1) := dk_28 (dk_at dksX0_hold_6 23 rfl rfl)
theorem dX0_hold_163 : decode cX0_hold 163 = .ok (.iaload, 1) := dk_46 (dk_at dksX0_hold_7 0 rfl rfl)
theorem dX0_hold_164 : decode cX0_hold 164 = .ok (.iastore, 1) := dk_79 (dk_at dksX0_hold_7 1 rfl rfl)
theorem dX0_hold_165 : decode cX0_hold 165 = .ok (.aload_n 0, 1) := dk_42 (dk_at dksX0_hold_7 2 rfl rfl)
theorem dX0_hold_166 : decode cX0_hold 166 = .ok (.getfield 129, 3) := dk_180 0 129 (dk_at dksX0_hold_7 3 rfl rfl)
theorem dX0_hold_169 : decode cX0_hold 169 = .ok (.iload_n 3, 1) := dk_29 (dk_at dksX0_hold_7 6 rfl rfl)
theorem dX0_hold_170 : decode cX0_hold 170 = .ok (.iconst 1, 1) := dk_4 (dk_at dksX0_hold_7 7 rfl rfl)
theorem dX0_hold_171 : decode cX0_hold 171 = .ok (.iastore, 1) := dk_79 (dk_at dksX0_hold_7 8 rfl rfl)
theorem dX0_hold_172 : decode cX0_hold 172 = .ok (.iinc 2 (-1), 3) := dk_132 2 255 (dk_at dksX0_hold_7 9 rfl rfl)
theorem dX0_hold_175 : decode cX0_hold 175 = .ok (.goto (-109), 3) := dk_167 255 147 (dk_at dksX0_hold_7 12 rfl rfl)
theorem dX0_hold_178 : decode cX0_hold 178 = .ok (.aload_n 0, 1) := dk_42 (dk_at dksX0_hold_7 15 rfl rfl)
theorem dX0_hold_179 : decode cX0_hold 179 = .ok (.getfield 153, 3) := dk_180 0 153 (dk_at dksX0_hold_7 16 rfl rfl)
theorem dX0_hold_182 : decode cX0_hold 182 = .ok (.iconst 0, 1) := dk_3 (dk_at dksX0_hold_7 19 rfl rfl)
theorem dX0_hold_183 : decode cX0_hold 183 = .ok (.iaload, 1) := dk_46 (dk_at dksX0_hold_7 20 rfl rfl)
theorem dX0_hold_184 : decode cX0_hold 184 = .ok (.ireturn, 1) := dk_172 (dk_at dksX0_hold_7 21 rfl rfl)
abbrev cX0_sumOf : ByteArray := prog_1_method_41_code
def yX0_sumOf : MethodName := ⟨RX0, "sumOf", "(II)I"⟩
def dkwX0_sumOf_2 : List UInt8 := [132, 4, 1, 167, 255, 213, 29, 172]
abbrev dktX0_sumOf_2 : List UInt8 := dkwX0_sumOf_2 ++ []
def dkwX0_sumOf_1 : List UInt8 := [167, 0, 21, 42, 27, 42, 180, 0, 164, 42, 180, 0, 164, 16, 12, 46, 21, 4, 182, 0, 143, 96, 62]
abbrev dktX0_sumOf_1 : List UInt8 := dkwX0_sumOf_1 ++ dktX0_sumOf_2
def dkwX0_sumOf_0 : List UInt8 := [3, 62, 3, 54, 4, 21, 4, 6, 162, 0, 43, 29, 28, 21, 4, 122, 4, 126, 154, 0, 7, 3]
abbrev dktX0_sumOf_0 : List UInt8 := dkwX0_sumOf_0 ++ dktX0_sumOf_1
theorem dksX0_sumOf_0 : cX0_sumOf.data.toList.drop 0 = dktX0_sumOf_0 := by decide +kernel
theorem dksX0_sumOf_1 : cX0_sumOf.data.toList.drop 22 = dktX0_sumOf_1 := dk_seg dksX0_sumOf_0 22 rfl rfl
theorem dksX0_sumOf_2 : cX0_sumOf.data.toList.drop 45 = dktX0_sumOf_2 := dk_seg dksX0_sumOf_1 23 rfl rfl
theorem dX0_sumOf_0 : decode cX0_sumOf 0 = .ok (.iconst 0, 1) := dk_3 (dk_at dksX0_sumOf_0 0 rfl rfl)
theorem dX0_sumOf_1 : decode cX0_sumOf 1 = .ok (.istore_n 3, 1) := dk_62 (dk_at dksX0_sumOf_0 1 rfl rfl)
theorem dX0_sumOf_2 : decode cX0_sumOf 2 = .ok (.iconst 0, 1) := dk_3 (dk_at dksX0_sumOf_0 2 rfl rfl)
theorem dX0_sumOf_3 : decode cX0_sumOf 3 = .ok (.istore 4, 2) := dk_54 4 (dk_at dksX0_sumOf_0 3 rfl rfl)
theorem dX0_sumOf_5 : decode cX0_sumOf 5 = .ok (.iload 4, 2) := dk_21 4 (dk_at dksX0_sumOf_0 5 rfl rfl)
theorem dX0_sumOf_7 : decode cX0_sumOf 7 = .ok (.iconst 3, 1) := dk_6 (dk_at dksX0_sumOf_0 7 rfl rfl)
theorem dX0_sumOf_8 : decode cX0_sumOf 8 = .ok (.if_icmp .ge 43, 3) := dk_162 0 43 (dk_at dksX0_sumOf_0 8 rfl rfl)
theorem dX0_sumOf_11 : decode cX0_sumOf 11 = .ok (.iload_n 3, 1) := dk_29 (dk_at dksX0_sumOf_0 11 rfl rfl)
theorem dX0_sumOf_12 : decode cX0_sumOf 12 = .ok (.iload_n 2, 1) := dk_28 (dk_at dksX0_sumOf_0 12 rfl rfl)
theorem dX0_sumOf_13 : decode cX0_sumOf 13 = .ok (.iload 4, 2) := dk_21 4 (dk_at dksX0_sumOf_0 13 rfl rfl)
theorem dX0_sumOf_15 : decode cX0_sumOf 15 = .ok (.ishr, 1) := dk_122 (dk_at dksX0_sumOf_0 15 rfl rfl)
theorem dX0_sumOf_16 : decode cX0_sumOf 16 = .ok (.iconst 1, 1) := dk_4 (dk_at dksX0_sumOf_0 16 rfl rfl)
theorem dX0_sumOf_17 : decode cX0_sumOf 17 = .ok (.iand, 1) := dk_126 (dk_at dksX0_sumOf_0 17 rfl rfl)
theorem dX0_sumOf_18 : decode cX0_sumOf 18 = .ok (.ifCond .ne 7, 3) := dk_154 0 7 (dk_at dksX0_sumOf_0 18 rfl rfl)
theorem dX0_sumOf_21 : decode cX0_sumOf 21 = .ok (.iconst 0, 1) := dk_3 (dk_at dksX0_sumOf_0 21 rfl rfl)
theorem dX0_sumOf_22 : decode cX0_sumOf 22 = .ok (.goto 21, 3) := dk_167 0 21 (dk_at dksX0_sumOf_1 0 rfl rfl)
theorem dX0_sumOf_25 : decode cX0_sumOf 25 = .ok (.aload_n 0, 1) := dk_42 (dk_at dksX0_sumOf_1 3 rfl rfl)
theorem dX0_sumOf_26 : decode cX0_sumOf 26 = .ok (.iload_n 1, 1) := dk_27 (dk_at dksX0_sumOf_1 4 rfl rfl)
theorem dX0_sumOf_27 : decode cX0_sumOf 27 = .ok (.aload_n 0, 1) := dk_42 (dk_at dksX0_sumOf_1 5 rfl rfl)
theorem dX0_sumOf_28 : decode cX0_sumOf 28 = .ok (.getfield 164, 3) := dk_180 0 164 (dk_at dksX0_sumOf_1 6 rfl rfl)
theorem dX0_sumOf_31 : decode cX0_sumOf 31 = .ok (.aload_n 0, 1) := dk_42 (dk_at dksX0_sumOf_1 9 rfl rfl)
theorem dX0_sumOf_32 : decode cX0_sumOf 32 = .ok (.getfield 164, 3) := dk_180 0 164 (dk_at dksX0_sumOf_1 10 rfl rfl)
theorem dX0_sumOf_35 : decode cX0_sumOf 35 = .ok (.bipush 12, 2) := dk_16 12 (dk_at dksX0_sumOf_1 13 rfl rfl)
theorem dX0_sumOf_37 : decode cX0_sumOf 37 = .ok (.iaload, 1) := dk_46 (dk_at dksX0_sumOf_1 15 rfl rfl)
theorem dX0_sumOf_38 : decode cX0_sumOf 38 = .ok (.iload 4, 2) := dk_21 4 (dk_at dksX0_sumOf_1 16 rfl rfl)
theorem dX0_sumOf_40 : decode cX0_sumOf 40 = .ok (.invokevirtual 143, 3) := dk_182 0 143 (dk_at dksX0_sumOf_1 18 rfl rfl)
theorem dX0_sumOf_43 : decode cX0_sumOf 43 = .ok (.iadd, 1) := dk_96 (dk_at dksX0_sumOf_1 21 rfl rfl)
theorem dX0_sumOf_44 : decode cX0_sumOf 44 = .ok (.istore_n 3, 1) := dk_62 (dk_at dksX0_sumOf_1 22 rfl rfl)
theorem dX0_sumOf_45 : decode cX0_sumOf 45 = .ok (.iinc 4 1, 3) := dk_132 4 1 (dk_at dksX0_sumOf_2 0 rfl rfl)
theorem dX0_sumOf_48 : decode cX0_sumOf 48 = .ok (.goto (-43), 3) := dk_167 255 213 (dk_at dksX0_sumOf_2 3 rfl rfl)
theorem dX0_sumOf_51 : decode cX0_sumOf 51 = .ok (.iload_n 3, 1) := dk_29 (dk_at dksX0_sumOf_2 6 rfl rfl)
theorem dX0_sumOf_52 : decode cX0_sumOf 52 = .ok (.ireturn, 1) := dk_172 (dk_at dksX0_sumOf_2 7 rfl rfl)
abbrev cX0_share : ByteArray := prog_1_method_46_code
def yX0_share : MethodName := ⟨RX0, "share", "(II)I"⟩
def dkwX0_share_5 : List UInt8 := [54, 4, 28, 154, 0, 10, 29, 21, 4, 108, 167, 0, 8, 16, 6, 21, 4, 108, 172]
abbrev dktX0_share_5 : List UInt8 := dkwX0_share_5 ++ []
def dkwX0_share_4 : List UInt8 := [167, 0, 9, 42, 21, 5, 182, 1, 32, 100, 96, 62, 132, 4, 1, 167, 255, 180, 29, 16, 6, 184, 1, 38]
abbrev dktX0_share_4 : List UInt8 := dkwX0_share_4 ++ dktX0_share_5
def dkwX0_share_3 : List UInt8 := [132, 6, 1, 167, 255, 228, 29, 42, 21, 5, 4, 27, 120, 128, 182, 1, 32, 21, 5, 154, 0, 7, 3]
abbrev dktX0_share_3 : List UInt8 := dkwX0_share_3 ++ dktX0_share_4
def dkwX0_share_2 : List UInt8 := [21, 6, 184, 1, 41, 27, 159, 0, 23, 21, 5, 4, 21, 4, 21, 6, 184, 1, 41, 120, 128, 54, 5]
abbrev dktX0_share_2 : List UInt8 := dkwX0_share_2 ++ dktX0_share_3
def dkwX0_share_1 : List UInt8 := [18, 245, 172, 3, 62, 3, 54, 4, 21, 4, 16, 6, 162, 0, 75, 3, 54, 5, 3, 54, 6, 21, 4]
abbrev dktX0_share_1 : List UInt8 := dkwX0_share_1 ++ dktX0_share_2
def dkwX0_share_0 : List UInt8 := [27, 184, 0, 242, 153, 0, 19, 28, 3, 4, 184, 0, 235, 153, 0, 10, 42, 182, 1, 29, 154, 0, 6]
abbrev dktX0_share_0 : List UInt8 := dkwX0_share_0 ++ dktX0_share_1
theorem dksX0_share_0 : cX0_share.data.toList.drop 0 = dktX0_share_0 := by decide +kernel
theorem dksX0_share_1 : cX0_share.data.toList.drop 23 = dktX0_share_1 := dk_seg dksX0_share_0 23 rfl rfl
theorem dksX0_share_2 : cX0_share.data.toList.drop 46 = dktX0_share_2 := dk_seg dksX0_share_1 23 rfl rfl
theorem dksX0_share_3 : cX0_share.data.toList.drop 69 = dktX0_share_3 := dk_seg dksX0_share_2 23 rfl rfl
theorem dksX0_share_4 : cX0_share.data.toList.drop 92 = dktX0_share_4 := dk_seg dksX0_share_3 23 rfl rfl
theorem dksX0_share_5 : cX0_share.data.toList.drop 116 = dktX0_share_5 := dk_seg dksX0_share_4 24 rfl rfl
theorem dX0_share_0 : decode cX0_share 0 = .ok (.iload_n 1, 1) := dk_27 (dk_at dksX0_share_0 0 rfl rfl)
theorem dX0_share_1 : decode cX0_share 1 = .ok (.invokestatic 242, 3) := dk_184 0 242 (dk_at dksX0_share_0 1 rfl rfl)
theorem dX0_share_4 : decode cX0_share 4 = .ok (.ifCond .eq 19, 3) := dk_153 0 19 (dk_at dksX0_share_0 4 rfl rfl)
theorem dX0_share_7 : decode cX0_share 7 = .ok (.iload_n 2, 1) := dk_28 (dk_at dksX0_share_0 7 rfl rfl)
theorem dX0_share_8 : decode cX0_share 8 = .ok (.iconst 0, 1) := dk_3 (dk_at dksX0_share_0 8 rfl rfl)
theorem dX0_share_9 : decode cX0_share 9 = .ok (.iconst 1, 1) := dk_4 (dk_at dksX0_share_0 9 rfl rfl)
theorem dX0_share_10 : decode cX0_share 10 = .ok (.invokestatic 235, 3) := dk_184 0 235 (dk_at dksX0_share_0 10 rfl rfl)
theorem dX0_share_13 : decode cX0_share 13 = .ok (.ifCond .eq 10, 3) := dk_153 0 10 (dk_at dksX0_share_0 13 rfl rfl)
theorem dX0_share_16 : decode cX0_share 16 = .ok (.aload_n 0, 1) := dk_42 (dk_at dksX0_share_0 16 rfl rfl)
theorem dX0_share_17 : decode cX0_share 17 = .ok (.invokevirtual 285, 3) := dk_182 1 29 (dk_at dksX0_share_0 17 rfl rfl)
theorem dX0_share_20 : decode cX0_share 20 = .ok (.ifCond .ne 6, 3) := dk_154 0 6 (dk_at dksX0_share_0 20 rfl rfl)
theorem dX0_share_23 : decode cX0_share 23 = .ok (.ldc 245, 2) := dk_18 245 (dk_at dksX0_share_1 0 rfl rfl)
theorem dX0_share_25 : decode cX0_share 25 = .ok (.ireturn, 1) := dk_172 (dk_at dksX0_share_1 2 rfl rfl)
theorem dX0_share_26 : decode cX0_share 26 = .ok (.iconst 0, 1) := dk_3 (dk_at dksX0_share_1 3 rfl rfl)
theorem dX0_share_27 : decode cX0_share 27 = .ok (.istore_n 3, 1) := dk_62 (dk_at dksX0_share_1 4 rfl rfl)
theorem dX0_share_28 : decode cX0_share 28 = .ok (.iconst 0, 1) := dk_3 (dk_at dksX0_share_1 5 rfl rfl)
theorem dX0_share_29 : decode cX0_share 29 = .ok (.istore 4, 2) := dk_54 4 (dk_at dksX0_share_1 6 rfl rfl)
theorem dX0_share_31 : decode cX0_share 31 = .ok (.iload 4, 2) := dk_21 4 (dk_at dksX0_share_1 8 rfl rfl)
theorem dX0_share_33 : decode cX0_share 33 = .ok (.bipush 6, 2) := dk_16 6 (dk_at dksX0_share_1 10 rfl rfl)
theorem dX0_share_35 : decode cX0_share 35 = .ok (.if_icmp .ge 75, 3) := dk_162 0 75 (dk_at dksX0_share_1 12 rfl rfl)
theorem dX0_share_38 : decode cX0_share 38 = .ok (.iconst 0, 1) := dk_3 (dk_at dksX0_share_1 15 rfl rfl)
theorem dX0_share_39 : decode cX0_share 39 = .ok (.istore 5, 2) := dk_54 5 (dk_at dksX0_share_1 16 rfl rfl)
theorem dX0_share_41 : decode cX0_share 41 = .ok (.iconst 0, 1) := dk_3 (dk_at dksX0_share_1 18 rfl rfl)
theorem dX0_share_42 : decode cX0_share 42 = .ok (.istore 6, 2) := dk_54 6 (dk_at dksX0_share_1 19 rfl rfl)
theorem dX0_share_44 : decode cX0_share 44 = .ok (.iload 4, 2) := dk_21 4 (dk_at dksX0_share_1 21 rfl rfl)
theorem dX0_share_46 : decode cX0_share 46 = .ok (.iload 6, 2) := dk_21 6 (dk_at dksX0_share_2 0 rfl rfl)
theorem dX0_share_48 : decode cX0_share 48 = .ok (.invokestatic 297, 3) := dk_184 1 41 (dk_at dksX0_share_2 2 rfl rfl)
theorem dX0_share_51 : decode cX0_share 51 = .ok (.iload_n 1, 1) := dk_27 (dk_at dksX0_share_2 5 rfl rfl)
theorem dX0_share_52 : decode cX0_share 52 = .ok (.if_icmp .eq 23, 3) := dk_159 0 23 (dk_at dksX0_share_2 6 rfl rfl)
theorem dX0_share_55 : decode cX0_share 55 = .ok (.iload 5, 2) := dk_21 5 (dk_at dksX0_share_2 9 rfl rfl)
theorem dX0_share_57 : decode cX0_share 57 = .ok (.iconst 1, 1) := dk_4 (dk_at dksX0_share_2 11 rfl rfl)
theorem dX0_share_58 : decode cX0_share 58 = .ok (.iload 4, 2) := dk_21 4 (dk_at dksX0_share_2 12 rfl rfl)
theorem dX0_share_60 : decode cX0_share 60 = .ok (.iload 6, 2) := dk_21 6 (dk_at dksX0_share_2 14 rfl rfl)
theorem dX0_share_62 : decode cX0_share 62 = .ok (.invokestatic 297, 3) := dk_184 1 41 (dk_at dksX0_share_2 16 rfl rfl)
theorem dX0_share_65 : decode cX0_share 65 = .ok (.ishl, 1) := dk_120 (dk_at dksX0_share_2 19 rfl rfl)
theorem dX0_share_66 : decode cX0_share 66 = .ok (.ior, 1) := dk_128 (dk_at dksX0_share_2 20 rfl rfl)
theorem dX0_share_67 : decode cX0_share 67 = .ok (.istore 5, 2) := dk_54 5 (dk_at dksX0_share_2 21 rfl rfl)
theorem dX0_share_69 : decode cX0_share 69 = .ok (.iinc 6 1, 3) := dk_132 6 1 (dk_at dksX0_share_3 0 rfl rfl)
theorem dX0_share_72 : decode cX0_share 72 = .ok (.goto (-28), 3) := dk_167 255 228 (dk_at dksX0_share_3 3 rfl rfl)
theorem dX0_share_75 : decode cX0_share 75 = .ok (.iload_n 3, 1) := dk_29 (dk_at dksX0_share_3 6 rfl rfl)
theorem dX0_share_76 : decode cX0_share 76 = .ok (.aload_n 0, 1) := dk_42 (dk_at dksX0_share_3 7 rfl rfl)
theorem dX0_share_77 : decode cX0_share 77 = .ok (.iload 5, 2) := dk_21 5 (dk_at dksX0_share_3 8 rfl rfl)
theorem dX0_share_79 : decode cX0_share 79 = .ok (.iconst 1, 1) := dk_4 (dk_at dksX0_share_3 10 rfl rfl)
theorem dX0_share_80 : decode cX0_share 80 = .ok (.iload_n 1, 1) := dk_27 (dk_at dksX0_share_3 11 rfl rfl)
theorem dX0_share_81 : decode cX0_share 81 = .ok (.ishl, 1) := dk_120 (dk_at dksX0_share_3 12 rfl rfl)
theorem dX0_share_82 : decode cX0_share 82 = .ok (.ior, 1) := dk_128 (dk_at dksX0_share_3 13 rfl rfl)
theorem dX0_share_83 : decode cX0_share 83 = .ok (.invokevirtual 288, 3) := dk_182 1 32 (dk_at dksX0_share_3 14 rfl rfl)
theorem dX0_share_86 : decode cX0_share 86 = .ok (.iload 5, 2) := dk_21 5 (dk_at dksX0_share_3 17 rfl rfl)
theorem dX0_share_88 : decode cX0_share 88 = .ok (.ifCond .ne 7, 3) := dk_154 0 7 (dk_at dksX0_share_3 19 rfl rfl)
theorem dX0_share_91 : decode cX0_share 91 = .ok (.iconst 0, 1) := dk_3 (dk_at dksX0_share_3 22 rfl rfl)
theorem dX0_share_92 : decode cX0_share 92 = .ok (.goto 9, 3) := dk_167 0 9 (dk_at dksX0_share_4 0 rfl rfl)
theorem dX0_share_95 : decode cX0_share 95 = .ok (.aload_n 0, 1) := dk_42 (dk_at dksX0_share_4 3 rfl rfl)
theorem dX0_share_96 : decode cX0_share 96 = .ok (.iload 5, 2) := dk_21 5 (dk_at dksX0_share_4 4 rfl rfl)
theorem dX0_share_98 : decode cX0_share 98 = .ok (.invokevirtual 288, 3) := dk_182 1 32 (dk_at dksX0_share_4 6 rfl rfl)
theorem dX0_share_101 : decode cX0_share 101 = .ok (.isub, 1) := dk_100 (dk_at dksX0_share_4 9 rfl rfl)
theorem dX0_share_102 : decode cX0_share 102 = .ok (.iadd, 1) := dk_96 (dk_at dksX0_share_4 10 rfl rfl)
theorem dX0_share_103 : decode cX0_share 103 = .ok (.istore_n 3, 1) := dk_62 (dk_at dksX0_share_4 11 rfl rfl)
theorem dX0_share_104 : decode cX0_share 104 = .ok (.iinc 4 1, 3) := dk_132 4 1 (dk_at dksX0_share_4 12 rfl rfl)
theorem dX0_share_107 : decode cX0_share 107 = .ok (.goto (-76), 3) := dk_167 255 180 (dk_at dksX0_share_4 15 rfl rfl)
theorem dX0_share_110 : decode cX0_share 110 = .ok (.iload_n 3, 1) := dk_29 (dk_at dksX0_share_4 18 rfl rfl)
theorem dX0_share_111 : decode cX0_share 111 = .ok (.bipush 6, 2) := dk_16 6 (dk_at dksX0_share_4 19 rfl rfl)
theorem dX0_share_113 : decode cX0_share 113 = .ok (.invokestatic 294, 3) := dk_184 1 38 (dk_at dksX0_share_4 21 rfl rfl)
theorem dX0_share_116 : decode cX0_share 116 = .ok (.istore 4, 2) := dk_54 4 (dk_at dksX0_share_5 0 rfl rfl)
theorem dX0_share_118 : decode cX0_share 118 = .ok (.iload_n 2, 1) := dk_28 (dk_at dksX0_share_5 2 rfl rfl)
theorem dX0_share_119 : decode cX0_share 119 = .ok (.ifCond .ne 10, 3) := dk_154 0 10 (dk_at dksX0_share_5 3 rfl rfl)
theorem dX0_share_122 : decode cX0_share 122 = .ok (.iload_n 3, 1) := dk_29 (dk_at dksX0_share_5 6 rfl rfl)
theorem dX0_share_123 : decode cX0_share 123 = .ok (.iload 4, 2) := dk_21 4 (dk_at dksX0_share_5 7 rfl rfl)
theorem dX0_share_125 : decode cX0_share 125 = .ok (.idiv, 1) := dk_108 (dk_at dksX0_share_5 9 rfl rfl)
theorem dX0_share_126 : decode cX0_share 126 = .ok (.goto 8, 3) := dk_167 0 8 (dk_at dksX0_share_5 10 rfl rfl)
theorem dX0_share_129 : decode cX0_share 129 = .ok (.bipush 6, 2) := dk_16 6 (dk_at dksX0_share_5 13 rfl rfl)
theorem dX0_share_131 : decode cX0_share 131 = .ok (.iload 4, 2) := dk_21 4 (dk_at dksX0_share_5 15 rfl rfl)
theorem dX0_share_133 : decode cX0_share 133 = .ok (.idiv, 1) := dk_108 (dk_at dksX0_share_5 17 rfl rfl)
theorem dX0_share_134 : decode cX0_share 134 = .ok (.ireturn, 1) := dk_172 (dk_at dksX0_share_5 18 rfl rfl)
abbrev cX0_byOrder : ByteArray := prog_1_method_58_code
def yX0_byOrder : MethodName := ⟨RX0, "byOrder", "(II)I"⟩
def dkwX0_byOrder_2 : List UInt8 := [21, 4, 4, 160, 0, 7, 29, 167, 0, 8, 6, 28, 100, 29, 100, 172]
abbrev dktX0_byOrder_2 : List UInt8 := dkwX0_byOrder_2 ++ []
def dkwX0_byOrder_1 : List UInt8 := [160, 0, 7, 4, 167, 0, 4, 5, 62, 27, 6, 112, 54, 4, 21, 4, 154, 0, 7, 28, 167, 0, 18]
abbrev dktX0_byOrder_1 : List UInt8 := dkwX0_byOrder_1 ++ dktX0_byOrder_2
def dkwX0_byOrder_0 : List UInt8 := [26, 5, 108, 61, 26, 5, 112, 154, 0, 15, 28, 154, 0, 7, 4, 167, 0, 17, 3, 167, 0, 13, 28, 5]
abbrev dktX0_byOrder_0 : List UInt8 := dkwX0_byOrder_0 ++ dktX0_byOrder_1
theorem dksX0_byOrder_0 : cX0_byOrder.data.toList.drop 0 = dktX0_byOrder_0 := by decide +kernel
theorem dksX0_byOrder_1 : cX0_byOrder.data.toList.drop 24 = dktX0_byOrder_1 := dk_seg dksX0_byOrder_0 24 rfl rfl
theorem dksX0_byOrder_2 : cX0_byOrder.data.toList.drop 47 = dktX0_byOrder_2 := dk_seg dksX0_byOrder_1 23 rfl rfl
theorem dX0_byOrder_0 : decode cX0_byOrder 0 = .ok (.iload_n 0, 1) := dk_26 (dk_at dksX0_byOrder_0 0 rfl rfl)
theorem dX0_byOrder_1 : decode cX0_byOrder 1 = .ok (.iconst 2, 1) := dk_5 (dk_at dksX0_byOrder_0 1 rfl rfl)
theorem dX0_byOrder_2 : decode cX0_byOrder 2 = .ok (.idiv, 1) := dk_108 (dk_at dksX0_byOrder_0 2 rfl rfl)
theorem dX0_byOrder_3 : decode cX0_byOrder 3 = .ok (.istore_n 2, 1) := dk_61 (dk_at dksX0_byOrder_0 3 rfl rfl)
theorem dX0_byOrder_4 : decode cX0_byOrder 4 = .ok (.iload_n 0, 1) := dk_26 (dk_at dksX0_byOrder_0 4 rfl rfl)
theorem dX0_byOrder_5 : decode cX0_byOrder 5 = .ok (.iconst 2, 1) := dk_5 (dk_at dksX0_byOrder_0 5 rfl rfl)
theorem dX0_byOrder_6 : decode cX0_byOrder 6 = .ok (.irem, 1) := dk_112 (dk_at dksX0_byOrder_0 6 rfl rfl)
theorem dX0_byOrder_7 : decode cX0_byOrder 7 = .ok (.ifCond .ne 15, 3) := dk_154 0 15 (dk_at dksX0_byOrder_0 7 rfl rfl)
theorem dX0_byOrder_10 : decode cX0_byOrder 10 = .ok (.iload_n 2, 1) := dk_28 (dk_at dksX0_byOrder_0 10 rfl rfl)
theorem dX0_byOrder_11 : decode cX0_byOrder 11 = .ok (.ifCond .ne 7, 3) := dk_154 0 7 (dk_at dksX0_byOrder_0 11 rfl rfl)
theorem dX0_byOrder_14 : decode cX0_byOrder 14 = .ok (.iconst 1, 1) := dk_4 (dk_at dksX0_byOrder_0 14 rfl rfl)
theorem dX0_byOrder_15 : decode cX0_byOrder 15 = .ok (.goto 17, 3) := dk_167 0 17 (dk_at dksX0_byOrder_0 15 rfl rfl)
theorem dX0_byOrder_18 : decode cX0_byOrder 18 = .ok (.iconst 0, 1) := dk_3 (dk_at dksX0_byOrder_0 18 rfl rfl)
theorem dX0_byOrder_19 : decode cX0_byOrder 19 = .ok (.goto 13, 3) := dk_167 0 13 (dk_at dksX0_byOrder_0 19 rfl rfl)
theorem dX0_byOrder_22 : decode cX0_byOrder 22 = .ok (.iload_n 2, 1) := dk_28 (dk_at dksX0_byOrder_0 22 rfl rfl)
theorem dX0_byOrder_23 : decode cX0_byOrder 23 = .ok (.iconst 2, 1) := dk_5 (dk_at dksX0_byOrder_0 23 rfl rfl)
theorem dX0_byOrder_24 : decode cX0_byOrder 24 = .ok (.if_icmp .ne 7, 3) := dk_160 0 7 (dk_at dksX0_byOrder_1 0 rfl rfl)
theorem dX0_byOrder_27 : decode cX0_byOrder 27 = .ok (.iconst 1, 1) := dk_4 (dk_at dksX0_byOrder_1 3 rfl rfl)
theorem dX0_byOrder_28 : decode cX0_byOrder 28 = .ok (.goto 4, 3) := dk_167 0 4 (dk_at dksX0_byOrder_1 4 rfl rfl)
theorem dX0_byOrder_31 : decode cX0_byOrder 31 = .ok (.iconst 2, 1) := dk_5 (dk_at dksX0_byOrder_1 7 rfl rfl)
theorem dX0_byOrder_32 : decode cX0_byOrder 32 = .ok (.istore_n 3, 1) := dk_62 (dk_at dksX0_byOrder_1 8 rfl rfl)
theorem dX0_byOrder_33 : decode cX0_byOrder 33 = .ok (.iload_n 1, 1) := dk_27 (dk_at dksX0_byOrder_1 9 rfl rfl)
theorem dX0_byOrder_34 : decode cX0_byOrder 34 = .ok (.iconst 3, 1) := dk_6 (dk_at dksX0_byOrder_1 10 rfl rfl)
theorem dX0_byOrder_35 : decode cX0_byOrder 35 = .ok (.irem, 1) := dk_112 (dk_at dksX0_byOrder_1 11 rfl rfl)
theorem dX0_byOrder_36 : decode cX0_byOrder 36 = .ok (.istore 4, 2) := dk_54 4 (dk_at dksX0_byOrder_1 12 rfl rfl)
theorem dX0_byOrder_38 : decode cX0_byOrder 38 = .ok (.iload 4, 2) := dk_21 4 (dk_at dksX0_byOrder_1 14 rfl rfl)
theorem dX0_byOrder_40 : decode cX0_byOrder 40 = .ok (.ifCond .ne 7, 3) := dk_154 0 7 (dk_at dksX0_byOrder_1 16 rfl rfl)
theorem dX0_byOrder_43 : decode cX0_byOrder 43 = .ok (.iload_n 2, 1) := dk_28 (dk_at dksX0_byOrder_1 19 rfl rfl)
theorem dX0_byOrder_44 : decode cX0_byOrder 44 = .ok (.goto 18, 3) := dk_167 0 18 (dk_at dksX0_byOrder_1 20 rfl rfl)
theorem dX0_byOrder_47 : decode cX0_byOrder 47 = .ok (.iload 4, 2) := dk_21 4 (dk_at dksX0_byOrder_2 0 rfl rfl)
theorem dX0_byOrder_49 : decode cX0_byOrder 49 = .ok (.iconst 1, 1) := dk_4 (dk_at dksX0_byOrder_2 2 rfl rfl)
theorem dX0_byOrder_50 : decode cX0_byOrder 50 = .ok (.if_icmp .ne 7, 3) := dk_160 0 7 (dk_at dksX0_byOrder_2 3 rfl rfl)
theorem dX0_byOrder_53 : decode cX0_byOrder 53 = .ok (.iload_n 3, 1) := dk_29 (dk_at dksX0_byOrder_2 6 rfl rfl)
theorem dX0_byOrder_54 : decode cX0_byOrder 54 = .ok (.goto 8, 3) := dk_167 0 8 (dk_at dksX0_byOrder_2 7 rfl rfl)
theorem dX0_byOrder_57 : decode cX0_byOrder 57 = .ok (.iconst 3, 1) := dk_6 (dk_at dksX0_byOrder_2 10 rfl rfl)
theorem dX0_byOrder_58 : decode cX0_byOrder 58 = .ok (.iload_n 2, 1) := dk_28 (dk_at dksX0_byOrder_2 11 rfl rfl)
theorem dX0_byOrder_59 : decode cX0_byOrder 59 = .ok (.isub, 1) := dk_100 (dk_at dksX0_byOrder_2 12 rfl rfl)
theorem dX0_byOrder_60 : decode cX0_byOrder 60 = .ok (.iload_n 3, 1) := dk_29 (dk_at dksX0_byOrder_2 13 rfl rfl)
theorem dX0_byOrder_61 : decode cX0_byOrder 61 = .ok (.isub, 1) := dk_100 (dk_at dksX0_byOrder_2 14 rfl rfl)
theorem dX0_byOrder_62 : decode cX0_byOrder 62 = .ok (.ireturn, 1) := dk_172 (dk_at dksX0_byOrder_2 15 rfl rfl)
abbrev cX0_common : ByteArray := prog_1_method_45_code
def yX0_common : MethodName := ⟨RX0, "common", "(II)I"⟩
def dkwX0_common_0 : List UInt8 := [27, 154, 0, 10, 26, 184, 1, 35, 167, 0, 10, 27, 26, 27, 112, 184, 1, 38, 172]
abbrev dktX0_common_0 : List UInt8 := dkwX0_common_0 ++ []
theorem dksX0_common_0 : cX0_common.data.toList.drop 0 = dktX0_common_0 := by decide +kernel
theorem dX0_common_0 : decode cX0_common 0 = .ok (.iload_n 1, 1) := dk_27 (dk_at dksX0_common_0 0 rfl rfl)
theorem dX0_common_1 : decode cX0_common 1 = .ok (.ifCond .ne 10, 3) := dk_154 0 10 (dk_at dksX0_common_0 1 rfl rfl)
theorem dX0_common_4 : decode cX0_common 4 = .ok (.iload_n 0, 1) := dk_26 (dk_at dksX0_common_0 4 rfl rfl)
theorem dX0_common_5 : decode cX0_common 5 = .ok (.invokestatic 291, 3) := dk_184 1 35 (dk_at dksX0_common_0 5 rfl rfl)
theorem dX0_common_8 : decode cX0_common 8 = .ok (.goto 10, 3) := dk_167 0 10 (dk_at dksX0_common_0 8 rfl rfl)
theorem dX0_common_11 : decode cX0_common 11 = .ok (.iload_n 1, 1) := dk_27 (dk_at dksX0_common_0 11 rfl rfl)
theorem dX0_common_12 : decode cX0_common 12 = .ok (.iload_n 0, 1) := dk_26 (dk_at dksX0_common_0 12 rfl rfl)
theorem dX0_common_13 : decode cX0_common 13 = .ok (.iload_n 1, 1) := dk_27 (dk_at dksX0_common_0 13 rfl rfl)
theorem dX0_common_14 : decode cX0_common 14 = .ok (.irem, 1) := dk_112 (dk_at dksX0_common_0 14 rfl rfl)
theorem dX0_common_15 : decode cX0_common 15 = .ok (.invokestatic 294, 3) := dk_184 1 38 (dk_at dksX0_common_0 15 rfl rfl)
theorem dX0_common_18 : decode cX0_common 18 = .ok (.ireturn, 1) := dk_172 (dk_at dksX0_common_0 18 rfl rfl)
abbrev cX0_swap : ByteArray := prog_1_method_49_code
def yX0_swap : MethodName := ⟨RX0, "swap", "()I"⟩
def dkwX0_swap_4 : List UInt8 := [167, 255, 184, 2, 172]
abbrev dktX0_swap_4 : List UInt8 := dkwX0_swap_4 ++ []
def dkwX0_swap_3 : List UInt8 := [182, 1, 47, 153, 0, 10, 16, 10, 27, 104, 28, 96, 172, 132, 2, 1, 167, 255, 205, 132, 1, 1]
abbrev dktX0_swap_3 : List UInt8 := dkwX0_swap_3 ++ dktX0_swap_4
def dkwX0_swap_2 : List UInt8 := [180, 0, 164, 16, 6, 27, 96, 46, 42, 180, 0, 164, 16, 6, 28, 96, 46, 159, 0, 19, 42, 27, 28]
abbrev dktX0_swap_2 : List UInt8 := dkwX0_swap_2 ++ dktX0_swap_3
def dkwX0_swap_1 : List UInt8 := [182, 0, 65, 162, 0, 67, 27, 4, 96, 61, 28, 42, 180, 0, 31, 182, 0, 65, 162, 0, 46, 42]
abbrev dktX0_swap_1 : List UInt8 := dkwX0_swap_1 ++ dktX0_swap_2
def dkwX0_swap_0 : List UInt8 := [42, 182, 1, 29, 154, 0, 5, 2, 172, 42, 180, 0, 164, 16, 12, 46, 60, 27, 42, 180, 0, 31]
abbrev dktX0_swap_0 : List UInt8 := dkwX0_swap_0 ++ dktX0_swap_1
theorem dksX0_swap_0 : cX0_swap.data.toList.drop 0 = dktX0_swap_0 := by decide +kernel
theorem dksX0_swap_1 : cX0_swap.data.toList.drop 22 = dktX0_swap_1 := dk_seg dksX0_swap_0 22 rfl rfl
theorem dksX0_swap_2 : cX0_swap.data.toList.drop 44 = dktX0_swap_2 := dk_seg dksX0_swap_1 22 rfl rfl
theorem dksX0_swap_3 : cX0_swap.data.toList.drop 67 = dktX0_swap_3 := dk_seg dksX0_swap_2 23 rfl rfl
theorem dksX0_swap_4 : cX0_swap.data.toList.drop 89 = dktX0_swap_4 := dk_seg dksX0_swap_3 22 rfl rfl
theorem dX0_swap_0 : decode cX0_swap 0 = .ok (.aload_n 0, 1) := dk_42 (dk_at dksX0_swap_0 0 rfl rfl)
theorem dX0_swap_1 : decode cX0_swap 1 = .ok (.invokevirtual 285, 3) := dk_182 1 29 (dk_at dksX0_swap_0 1 rfl rfl)
theorem dX0_swap_4 : decode cX0_swap 4 = .ok (.ifCond .ne 5, 3) := dk_154 0 5 (dk_at dksX0_swap_0 4 rfl rfl)
theorem dX0_swap_7 : decode cX0_swap 7 = .ok (.iconst (-1), 1) := dk_2 (dk_at dksX0_swap_0 7 rfl rfl)
theorem dX0_swap_8 : decode cX0_swap 8 = .ok (.ireturn, 1) := dk_172 (dk_at dksX0_swap_0 8 rfl rfl)
theorem dX0_swap_9 : decode cX0_swap 9 = .ok (.aload_n 0, 1) := dk_42 (dk_at dksX0_swap_0 9 rfl rfl)
theorem dX0_swap_10 : decode cX0_swap 10 = .ok (.getfield 164, 3) := dk_180 0 164 (dk_at dksX0_swap_0 10 rfl rfl)
theorem dX0_swap_13 : decode cX0_swap 13 = .ok (.bipush 12, 2) := dk_16 12 (dk_at dksX0_swap_0 13 rfl rfl)
theorem dX0_swap_15 : decode cX0_swap 15 = .ok (.iaload, 1) := dk_46 (dk_at dksX0_swap_0 15 rfl rfl)
theorem dX0_swap_16 : decode cX0_swap 16 = .ok (.istore_n 1, 1) := dk_60 (dk_at dksX0_swap_0 16 rfl rfl)
theorem dX0_swap_17 : decode cX0_swap 17 = .ok (.iload_n 1, 1) := dk_27 (dk_at dksX0_swap_0 17 rfl rfl)
theorem dX0_swap_18 : decode cX0_swap 18 = .ok (.aload_n 0, 1) := dk_42 (dk_at dksX0_swap_0 18 rfl rfl)
theorem dX0_swap_19 : decode cX0_swap 19 = .ok (.getfield 31, 3) := dk_180 0 31 (dk_at dksX0_swap_0 19 rfl rfl)
theorem dX0_swap_22 : decode cX0_swap 22 = .ok (.invokevirtual 65, 3) := dk_182 0 65 (dk_at dksX0_swap_1 0 rfl rfl)
theorem dX0_swap_25 : decode cX0_swap 25 = .ok (.if_icmp .ge 67, 3) := dk_162 0 67 (dk_at dksX0_swap_1 3 rfl rfl)
theorem dX0_swap_28 : decode cX0_swap 28 = .ok (.iload_n 1, 1) := dk_27 (dk_at dksX0_swap_1 6 rfl rfl)
theorem dX0_swap_29 : decode cX0_swap 29 = .ok (.iconst 1, 1) := dk_4 (dk_at dksX0_swap_1 7 rfl rfl)
theorem dX0_swap_30 : decode cX0_swap 30 = .ok (.iadd, 1) := dk_96 (dk_at dksX0_swap_1 8 rfl rfl)
theorem dX0_swap_31 : decode cX0_swap 31 = .ok (.istore_n 2, 1) := dk_61 (dk_at dksX0_swap_1 9 rfl rfl)
theorem dX0_swap_32 : decode cX0_swap 32 = .ok (.iload_n 2, 1) := dk_28 (dk_at dksX0_swap_1 10 rfl rfl)
theorem dX0_swap_33 : decode cX0_swap 33 = .ok (.aload_n 0, 1) := dk_42 (dk_at dksX0_swap_1 11 rfl rfl)
theorem dX0_swap_34 : decode cX0_swap 34 = .ok (.getfield 31, 3) := dk_180 0 31 (dk_at dksX0_swap_1 12 rfl rfl)
theorem dX0_swap_37 : decode cX0_swap 37 = .ok (.invokevirtual 65, 3) := dk_182 0 65 (dk_at dksX0_swap_1 15 rfl rfl)
theorem dX0_swap_40 : decode cX0_swap 40 = .ok (.if_icmp .ge 46, 3) := dk_162 0 46 (dk_at dksX0_swap_1 18 rfl rfl)
theorem dX0_swap_43 : decode cX0_swap 43 = .ok (.aload_n 0, 1) := dk_42 (dk_at dksX0_swap_1 21 rfl rfl)
theorem dX0_swap_44 : decode cX0_swap 44 = .ok (.getfield 164, 3) := dk_180 0 164 (dk_at dksX0_swap_2 0 rfl rfl)
theorem dX0_swap_47 : decode cX0_swap 47 = .ok (.bipush 6, 2) := dk_16 6 (dk_at dksX0_swap_2 3 rfl rfl)
theorem dX0_swap_49 : decode cX0_swap 49 = .ok (.iload_n 1, 1) := dk_27 (dk_at dksX0_swap_2 5 rfl rfl)
theorem dX0_swap_50 : decode cX0_swap 50 = .ok (.iadd, 1) := dk_96 (dk_at dksX0_swap_2 6 rfl rfl)
theorem dX0_swap_51 : decode cX0_swap 51 = .ok (.iaload, 1) := dk_46 (dk_at dksX0_swap_2 7 rfl rfl)
theorem dX0_swap_52 : decode cX0_swap 52 = .ok (.aload_n 0, 1) := dk_42 (dk_at dksX0_swap_2 8 rfl rfl)
theorem dX0_swap_53 : decode cX0_swap 53 = .ok (.getfield 164, 3) := dk_180 0 164 (dk_at dksX0_swap_2 9 rfl rfl)
theorem dX0_swap_56 : decode cX0_swap 56 = .ok (.bipush 6, 2) := dk_16 6 (dk_at dksX0_swap_2 12 rfl rfl)
theorem dX0_swap_58 : decode cX0_swap 58 = .ok (.iload_n 2, 1) := dk_28 (dk_at dksX0_swap_2 14 rfl rfl)
theorem dX0_swap_59 : decode cX0_swap 59 = .ok (.iadd, 1) := dk_96 (dk_at dksX0_swap_2 15 rfl rfl)
theorem dX0_swap_60 : decode cX0_swap 60 = .ok (.iaload, 1) := dk_46 (dk_at dksX0_swap_2 16 rfl rfl)
theorem dX0_swap_61 : decode cX0_swap 61 = .ok (.if_icmp .eq 19, 3) := dk_159 0 19 (dk_at dksX0_swap_2 17 rfl rfl)
theorem dX0_swap_64 : decode cX0_swap 64 = .ok (.aload_n 0, 1) := dk_42 (dk_at dksX0_swap_2 20 rfl rfl)
theorem dX0_swap_65 : decode cX0_swap 65 = .ok (.iload_n 1, 1) := dk_27 (dk_at dksX0_swap_2 21 rfl rfl)
theorem dX0_swap_66 : decode cX0_swap 66 = .ok (.iload_n 2, 1) := dk_28 (dk_at dksX0_swap_2 22 rfl rfl)
theorem dX0_swap_67 : decode cX0_swap 67 = .ok (.invokevirtual 303, 3) := dk_182 1 47 (dk_at dksX0_swap_3 0 rfl rfl)
theorem dX0_swap_70 : decode cX0_swap 70 = .ok (.ifCond .eq 10, 3) := dk_153 0 10 (dk_at dksX0_swap_3 3 rfl rfl)
theorem dX0_swap_73 : decode cX0_swap 73 = .ok (.bipush 10, 2) := dk_16 10 (dk_at dksX0_swap_3 6 rfl rfl)
theorem dX0_swap_75 : decode cX0_swap 75 = .ok (.iload_n 1, 1) := dk_27 (dk_at dksX0_swap_3 8 rfl rfl)
theorem dX0_swap_76 : decode cX0_swap 76 = .ok (.imul, 1) := dk_104 (dk_at dksX0_swap_3 9 rfl rfl)
theorem dX0_swap_77 : decode cX0_swap 77 = .ok (.iload_n 2, 1) := dk_28 (dk_at dksX0_swap_3 10 rfl rfl)
theorem dX0_swap_78 : decode cX0_swap 78 = .ok (.iadd, 1) := dk_96 (dk_at dksX0_swap_3 11 rfl rfl)
theorem dX0_swap_79 : decode cX0_swap 79 = .ok (.ireturn, 1) := dk_172 (dk_at dksX0_swap_3 12 rfl rfl)
theorem dX0_swap_80 : decode cX0_swap 80 = .ok (.iinc 2 1, 3) := dk_132 2 1 (dk_at dksX0_swap_3 13 rfl rfl)
theorem dX0_swap_83 : decode cX0_swap 83 = .ok (.goto (-51), 3) := dk_167 255 205 (dk_at dksX0_swap_3 16 rfl rfl)
theorem dX0_swap_86 : decode cX0_swap 86 = .ok (.iinc 1 1, 3) := dk_132 1 1 (dk_at dksX0_swap_3 19 rfl rfl)
theorem dX0_swap_89 : decode cX0_swap 89 = .ok (.goto (-72), 3) := dk_167 255 184 (dk_at dksX0_swap_4 0 rfl rfl)
theorem dX0_swap_92 : decode cX0_swap 92 = .ok (.iconst (-1), 1) := dk_2 (dk_at dksX0_swap_4 3 rfl rfl)
theorem dX0_swap_93 : decode cX0_swap 93 = .ok (.ireturn, 1) := dk_172 (dk_at dksX0_swap_4 4 rfl rfl)
abbrev cX0_doSwap : ByteArray := prog_1_method_48_code
def yX0_doSwap : MethodName := ⟨RX0, "doSwap", "(II)Z"⟩
def dkwX0_doSwap_5 : List UInt8 := [21, 9, 42, 180, 0, 164, 29, 21, 5, 182, 0, 143, 21, 8, 164, 0, 7, 4, 167, 0, 4, 3, 172]
abbrev dktX0_doSwap_5 : List UInt8 := dkwX0_doSwap_5 ++ []
def dkwX0_doSwap_4 : List UInt8 := [182, 1, 17, 54, 9, 42, 21, 9, 42, 180, 0, 164, 29, 21, 4, 182, 0, 143, 21, 7, 164, 0, 25, 42]
abbrev dktX0_doSwap_4 : List UInt8 := dkwX0_doSwap_4 ++ dktX0_doSwap_5
def dkwX0_doSwap_3 : List UInt8 := [27, 21, 5, 79, 42, 180, 0, 172, 28, 21, 4, 79, 42, 42, 180, 0, 164, 29, 42, 180, 0, 172]
abbrev dktX0_doSwap_3 : List UInt8 := dkwX0_doSwap_3 ++ dktX0_doSwap_4
def dkwX0_doSwap_2 : List UInt8 := [182, 0, 143, 54, 7, 42, 21, 6, 42, 180, 0, 164, 29, 21, 5, 182, 0, 143, 54, 8, 42, 180, 0, 172]
abbrev dktX0_doSwap_2 : List UInt8 := dkwX0_doSwap_2 ++ dktX0_doSwap_3
def dkwX0_doSwap_1 : List UInt8 := [16, 6, 28, 96, 46, 54, 5, 42, 182, 1, 44, 54, 6, 42, 21, 6, 42, 180, 0, 164, 29, 21, 4]
abbrev dktX0_doSwap_1 : List UInt8 := dkwX0_doSwap_1 ++ dktX0_doSwap_2
def dkwX0_doSwap_0 : List UInt8 := [42, 180, 0, 164, 16, 12, 46, 62, 42, 180, 0, 164, 16, 6, 27, 96, 46, 54, 4, 42, 180, 0, 164]
abbrev dktX0_doSwap_0 : List UInt8 := dkwX0_doSwap_0 ++ dktX0_doSwap_1
theorem dksX0_doSwap_0 : cX0_doSwap.data.toList.drop 0 = dktX0_doSwap_0 := by decide +kernel
theorem dksX0_doSwap_1 : cX0_doSwap.data.toList.drop 23 = dktX0_doSwap_1 := dk_seg dksX0_doSwap_0 23 rfl rfl
theorem dksX0_doSwap_2 : cX0_doSwap.data.toList.drop 46 = dktX0_doSwap_2 := dk_seg dksX0_doSwap_1 23 rfl rfl
theorem dksX0_doSwap_3 : cX0_doSwap.data.toList.drop 70 = dktX0_doSwap_3 := dk_seg dksX0_doSwap_2 24 rfl rfl
theorem dksX0_doSwap_4 : cX0_doSwap.data.toList.drop 92 = dktX0_doSwap_4 := dk_seg dksX0_doSwap_3 22 rfl rfl
theorem dksX0_doSwap_5 : cX0_doSwap.data.toList.drop 116 = dktX0_doSwap_5 := dk_seg dksX0_doSwap_4 24 rfl rfl
theorem dX0_doSwap_0 : decode cX0_doSwap 0 = .ok (.aload_n 0, 1) := dk_42 (dk_at dksX0_doSwap_0 0 rfl rfl)
theorem dX0_doSwap_1 : decode cX0_doSwap 1 = .ok (.getfield 164, 3) := dk_180 0 164 (dk_at dksX0_doSwap_0 1 rfl rfl)
theorem dX0_doSwap_4 : decode cX0_doSwap 4 = .ok (.bipush 12, 2) := dk_16 12 (dk_at dksX0_doSwap_0 4 rfl rfl)
theorem dX0_doSwap_6 : decode cX0_doSwap 6 = .ok (.iaload, 1) := dk_46 (dk_at dksX0_doSwap_0 6 rfl rfl)
theorem dX0_doSwap_7 : decode cX0_doSwap 7 = .ok (.istore_n 3, 1) := dk_62 (dk_at dksX0_doSwap_0 7 rfl rfl)
theorem dX0_doSwap_8 : decode cX0_doSwap 8 = .ok (.aload_n 0, 1) := dk_42 (dk_at dksX0_doSwap_0 8 rfl rfl)
theorem dX0_doSwap_9 : decode cX0_doSwap 9 = .ok (.getfield 164, 3) := dk_180 0 164 (dk_at dksX0_doSwap_0 9 rfl rfl)
theorem dX0_doSwap_12 : decode cX0_doSwap 12 = .ok (.bipush 6, 2) := dk_16 6 (dk_at dksX0_doSwap_0 12 rfl rfl)
theorem dX0_doSwap_14 : decode cX0_doSwap 14 = .ok (.iload_n 1, 1) := dk_27 (dk_at dksX0_doSwap_0 14 rfl rfl)
theorem dX0_doSwap_15 : decode cX0_doSwap 15 = .ok (.iadd, 1) := dk_96 (dk_at dksX0_doSwap_0 15 rfl rfl)
theorem dX0_doSwap_16 : decode cX0_doSwap 16 = .ok (.iaload, 1) := dk_46 (dk_at dksX0_doSwap_0 16 rfl rfl)
theorem dX0_doSwap_17 : decode cX0_doSwap 17 = .ok (.istore 4, 2) := dk_54 4 (dk_at dksX0_doSwap_0 17 rfl rfl)
theorem dX0_doSwap_19 : decode cX0_doSwap 19 = .ok (.aload_n 0, 1) := dk_42 (dk_at dksX0_doSwap_0 19 rfl rfl)
theorem dX0_doSwap_20 : decode cX0_doSwap 20 = .ok (.getfield 164, 3) := dk_180 0 164 (dk_at dksX0_doSwap_0 20 rfl rfl)
theorem dX0_doSwap_23 : decode cX0_doSwap 23 = .ok (.bipush 6, 2) := dk_16 6 (dk_at dksX0_doSwap_1 0 rfl rfl)
theorem dX0_doSwap_25 : decode cX0_doSwap 25 = .ok (.iload_n 2, 1) := dk_28 (dk_at dksX0_doSwap_1 2 rfl rfl)
theorem dX0_doSwap_26 : decode cX0_doSwap 26 = .ok (.iadd, 1) := dk_96 (dk_at dksX0_doSwap_1 3 rfl rfl)
theorem dX0_doSwap_27 : decode cX0_doSwap 27 = .ok (.iaload, 1) := dk_46 (dk_at dksX0_doSwap_1 4 rfl rfl)
theorem dX0_doSwap_28 : decode cX0_doSwap 28 = .ok (.istore 5, 2) := dk_54 5 (dk_at dksX0_doSwap_1 5 rfl rfl)
theorem dX0_doSwap_30 : decode cX0_doSwap 30 = .ok (.aload_n 0, 1) := dk_42 (dk_at dksX0_doSwap_1 7 rfl rfl)
theorem dX0_doSwap_31 : decode cX0_doSwap 31 = .ok (.invokevirtual 300, 3) := dk_182 1 44 (dk_at dksX0_doSwap_1 8 rfl rfl)
theorem dX0_doSwap_34 : decode cX0_doSwap 34 = .ok (.istore 6, 2) := dk_54 6 (dk_at dksX0_doSwap_1 11 rfl rfl)
theorem dX0_doSwap_36 : decode cX0_doSwap 36 = .ok (.aload_n 0, 1) := dk_42 (dk_at dksX0_doSwap_1 13 rfl rfl)
theorem dX0_doSwap_37 : decode cX0_doSwap 37 = .ok (.iload 6, 2) := dk_21 6 (dk_at dksX0_doSwap_1 14 rfl rfl)
theorem dX0_doSwap_39 : decode cX0_doSwap 39 = .ok (.aload_n 0, 1) := dk_42 (dk_at dksX0_doSwap_1 16 rfl rfl)
theorem dX0_doSwap_40 : decode cX0_doSwap 40 = .ok (.getfield 164, 3) := dk_180 0 164 (dk_at dksX0_doSwap_1 17 rfl rfl)
theorem dX0_doSwap_43 : decode cX0_doSwap 43 = .ok (.iload_n 3, 1) := dk_29 (dk_at dksX0_doSwap_1 20 rfl rfl)
theorem dX0_doSwap_44 : decode cX0_doSwap 44 = .ok (.iload 4, 2) := dk_21 4 (dk_at dksX0_doSwap_1 21 rfl rfl)
theorem dX0_doSwap_46 : decode cX0_doSwap 46 = .ok (.invokevirtual 143, 3) := dk_182 0 143 (dk_at dksX0_doSwap_2 0 rfl rfl)
theorem dX0_doSwap_49 : decode cX0_doSwap 49 = .ok (.istore 7, 2) := dk_54 7 (dk_at dksX0_doSwap_2 3 rfl rfl)
theorem dX0_doSwap_51 : decode cX0_doSwap 51 = .ok (.aload_n 0, 1) := dk_42 (dk_at dksX0_doSwap_2 5 rfl rfl)
theorem dX0_doSwap_52 : decode cX0_doSwap 52 = .ok (.iload 6, 2) := dk_21 6 (dk_at dksX0_doSwap_2 6 rfl rfl)
theorem dX0_doSwap_54 : decode cX0_doSwap 54 = .ok (.aload_n 0, 1) := dk_42 (dk_at dksX0_doSwap_2 8 rfl rfl)
theorem dX0_doSwap_55 : decode cX0_doSwap 55 = .ok (.getfield 164, 3) := dk_180 0 164 (dk_at dksX0_doSwap_2 9 rfl rfl)
theorem dX0_doSwap_58 : decode cX0_doSwap 58 = .ok (.iload_n 3, 1) := dk_29 (dk_at dksX0_doSwap_2 12 rfl rfl)
theorem dX0_doSwap_59 : decode cX0_doSwap 59 = .ok (.iload 5, 2) := dk_21 5 (dk_at dksX0_doSwap_2 13 rfl rfl)
theorem dX0_doSwap_61 : decode cX0_doSwap 61 = .ok (.invokevirtual 143, 3) := dk_182 0 143 (dk_at dksX0_doSwap_2 15 rfl rfl)
theorem dX0_doSwap_64 : decode cX0_doSwap 64 = .ok (.istore 8, 2) := dk_54 8 (dk_at dksX0_doSwap_2 18 rfl rfl)
theorem dX0_doSwap_66 : decode cX0_doSwap 66 = .ok (.aload_n 0, 1) := dk_42 (dk_at dksX0_doSwap_2 20 rfl rfl)
theorem dX0_doSwap_67 : decode cX0_doSwap 67 = .ok (.getfield 172, 3) := dk_180 0 172 (dk_at dksX0_doSwap_2 21 rfl rfl)
theorem dX0_doSwap_70 : decode cX0_doSwap 70 = .ok (.iload_n 1, 1) := dk_27 (dk_at dksX0_doSwap_3 0 rfl rfl)
theorem dX0_doSwap_71 : decode cX0_doSwap 71 = .ok (.iload 5, 2) := dk_21 5 (dk_at dksX0_doSwap_3 1 rfl rfl)
theorem dX0_doSwap_73 : decode cX0_doSwap 73 = .ok (.iastore, 1) := dk_79 (dk_at dksX0_doSwap_3 3 rfl rfl)
theorem dX0_doSwap_74 : decode cX0_doSwap 74 = .ok (.aload_n 0, 1) := dk_42 (dk_at dksX0_doSwap_3 4 rfl rfl)
theorem dX0_doSwap_75 : decode cX0_doSwap 75 = .ok (.getfield 172, 3) := dk_180 0 172 (dk_at dksX0_doSwap_3 5 rfl rfl)
theorem dX0_doSwap_78 : decode cX0_doSwap 78 = .ok (.iload_n 2, 1) := dk_28 (dk_at dksX0_doSwap_3 8 rfl rfl)
theorem dX0_doSwap_79 : decode cX0_doSwap 79 = .ok (.iload 4, 2) := dk_21 4 (dk_at dksX0_doSwap_3 9 rfl rfl)
theorem dX0_doSwap_81 : decode cX0_doSwap 81 = .ok (.iastore, 1) := dk_79 (dk_at dksX0_doSwap_3 11 rfl rfl)
theorem dX0_doSwap_82 : decode cX0_doSwap 82 = .ok (.aload_n 0, 1) := dk_42 (dk_at dksX0_doSwap_3 12 rfl rfl)
theorem dX0_doSwap_83 : decode cX0_doSwap 83 = .ok (.aload_n 0, 1) := dk_42 (dk_at dksX0_doSwap_3 13 rfl rfl)
theorem dX0_doSwap_84 : decode cX0_doSwap 84 = .ok (.getfield 164, 3) := dk_180 0 164 (dk_at dksX0_doSwap_3 14 rfl rfl)
theorem dX0_doSwap_87 : decode cX0_doSwap 87 = .ok (.iload_n 3, 1) := dk_29 (dk_at dksX0_doSwap_3 17 rfl rfl)
theorem dX0_doSwap_88 : decode cX0_doSwap 88 = .ok (.aload_n 0, 1) := dk_42 (dk_at dksX0_doSwap_3 18 rfl rfl)
theorem dX0_doSwap_89 : decode cX0_doSwap 89 = .ok (.getfield 172, 3) := dk_180 0 172 (dk_at dksX0_doSwap_3 19 rfl rfl)
theorem dX0_doSwap_92 : decode cX0_doSwap 92 = .ok (.invokevirtual 273, 3) := dk_182 1 17 (dk_at dksX0_doSwap_4 0 rfl rfl)
theorem dX0_doSwap_95 : decode cX0_doSwap 95 = .ok (.istore 9, 2) := dk_54 9 (dk_at dksX0_doSwap_4 3 rfl rfl)
theorem dX0_doSwap_97 : decode cX0_doSwap 97 = .ok (.aload_n 0, 1) := dk_42 (dk_at dksX0_doSwap_4 5 rfl rfl)
theorem dX0_doSwap_98 : decode cX0_doSwap 98 = .ok (.iload 9, 2) := dk_21 9 (dk_at dksX0_doSwap_4 6 rfl rfl)
theorem dX0_doSwap_100 : decode cX0_doSwap 100 = .ok (.aload_n 0, 1) := dk_42 (dk_at dksX0_doSwap_4 8 rfl rfl)
theorem dX0_doSwap_101 : decode cX0_doSwap 101 = .ok (.getfield 164, 3) := dk_180 0 164 (dk_at dksX0_doSwap_4 9 rfl rfl)
theorem dX0_doSwap_104 : decode cX0_doSwap 104 = .ok (.iload_n 3, 1) := dk_29 (dk_at dksX0_doSwap_4 12 rfl rfl)
theorem dX0_doSwap_105 : decode cX0_doSwap 105 = .ok (.iload 4, 2) := dk_21 4 (dk_at dksX0_doSwap_4 13 rfl rfl)
theorem dX0_doSwap_107 : decode cX0_doSwap 107 = .ok (.invokevirtual 143, 3) := dk_182 0 143 (dk_at dksX0_doSwap_4 15 rfl rfl)
theorem dX0_doSwap_110 : decode cX0_doSwap 110 = .ok (.iload 7, 2) := dk_21 7 (dk_at dksX0_doSwap_4 18 rfl rfl)
theorem dX0_doSwap_112 : decode cX0_doSwap 112 = .ok (.if_icmp .le 25, 3) := dk_164 0 25 (dk_at dksX0_doSwap_4 20 rfl rfl)
theorem dX0_doSwap_115 : decode cX0_doSwap 115 = .ok (.aload_n 0, 1) := dk_42 (dk_at dksX0_doSwap_4 23 rfl rfl)
theorem dX0_doSwap_116 : decode cX0_doSwap 116 = .ok (.iload 9, 2) := dk_21 9 (dk_at dksX0_doSwap_5 0 rfl rfl)
theorem dX0_doSwap_118 : decode cX0_doSwap 118 = .ok (.aload_n 0, 1) := dk_42 (dk_at dksX0_doSwap_5 2 rfl rfl)
theorem dX0_doSwap_119 : decode cX0_doSwap 119 = .ok (.getfield 164, 3) := dk_180 0 164 (dk_at dksX0_doSwap_5 3 rfl rfl)
theorem dX0_doSwap_122 : decode cX0_doSwap 122 = .ok (.iload_n 3, 1) := dk_29 (dk_at dksX0_doSwap_5 6 rfl rfl)
theorem dX0_doSwap_123 : decode cX0_doSwap 123 = .ok (.iload 5, 2) := dk_21 5 (dk_at dksX0_doSwap_5 7 rfl rfl)
theorem dX0_doSwap_125 : decode cX0_doSwap 125 = .ok (.invokevirtual 143, 3) := dk_182 0 143 (dk_at dksX0_doSwap_5 9 rfl rfl)
theorem dX0_doSwap_128 : decode cX0_doSwap 128 = .ok (.iload 8, 2) := dk_21 8 (dk_at dksX0_doSwap_5 12 rfl rfl)
theorem dX0_doSwap_130 : decode cX0_doSwap 130 = .ok (.if_icmp .le 7, 3) := dk_164 0 7 (dk_at dksX0_doSwap_5 14 rfl rfl)
theorem dX0_doSwap_133 : decode cX0_doSwap 133 = .ok (.iconst 1, 1) := dk_4 (dk_at dksX0_doSwap_5 17 rfl rfl)
theorem dX0_doSwap_134 : decode cX0_doSwap 134 = .ok (.goto 4, 3) := dk_167 0 4 (dk_at dksX0_doSwap_5 18 rfl rfl)
theorem dX0_doSwap_137 : decode cX0_doSwap 137 = .ok (.iconst 0, 1) := dk_3 (dk_at dksX0_doSwap_5 21 rfl rfl)
theorem dX0_doSwap_138 : decode cX0_doSwap 138 = .ok (.ireturn, 1) := dk_172 (dk_at dksX0_doSwap_5 22 rfl rfl)
abbrev cX0_writtenNow : ByteArray := prog_1_method_47_code
def yX0_writtenNow : MethodName := ⟨RX0, "writtenNow", "()I"⟩
def dkwX0_writtenNow_1 : List UInt8 := [180, 0, 164, 16, 12, 46, 42, 180, 0, 172, 182, 1, 17, 172]
abbrev dktX0_writtenNow_1 : List UInt8 := dkwX0_writtenNow_1 ++ []
def dkwX0_writtenNow_0 : List UInt8 := [42, 180, 0, 164, 16, 6, 42, 180, 0, 172, 3, 16, 6, 184, 0, 72, 42, 42, 180, 0, 164, 42]
abbrev dktX0_writtenNow_0 : List UInt8 := dkwX0_writtenNow_0 ++ dktX0_writtenNow_1
theorem dksX0_writtenNow_0 : cX0_writtenNow.data.toList.drop 0 = dktX0_writtenNow_0 := by decide +kernel
theorem dksX0_writtenNow_1 : cX0_writtenNow.data.toList.drop 22 = dktX0_writtenNow_1 := dk_seg dksX0_writtenNow_0 22 rfl rfl
theorem dX0_writtenNow_0 : decode cX0_writtenNow 0 = .ok (.aload_n 0, 1) := dk_42 (dk_at dksX0_writtenNow_0 0 rfl rfl)
theorem dX0_writtenNow_1 : decode cX0_writtenNow 1 = .ok (.getfield 164, 3) := dk_180 0 164 (dk_at dksX0_writtenNow_0 1 rfl rfl)
theorem dX0_writtenNow_4 : decode cX0_writtenNow 4 = .ok (.bipush 6, 2) := dk_16 6 (dk_at dksX0_writtenNow_0 4 rfl rfl)
theorem dX0_writtenNow_6 : decode cX0_writtenNow 6 = .ok (.aload_n 0, 1) := dk_42 (dk_at dksX0_writtenNow_0 6 rfl rfl)
theorem dX0_writtenNow_7 : decode cX0_writtenNow 7 = .ok (.getfield 172, 3) := dk_180 0 172 (dk_at dksX0_writtenNow_0 7 rfl rfl)
theorem dX0_writtenNow_10 : decode cX0_writtenNow 10 = .ok (.iconst 0, 1) := dk_3 (dk_at dksX0_writtenNow_0 10 rfl rfl)
theorem dX0_writtenNow_11 : decode cX0_writtenNow 11 = .ok (.bipush 6, 2) := dk_16 6 (dk_at dksX0_writtenNow_0 11 rfl rfl)
theorem dX0_writtenNow_13 : decode cX0_writtenNow 13 = .ok (.invokestatic 72, 3) := dk_184 0 72 (dk_at dksX0_writtenNow_0 13 rfl rfl)
theorem dX0_writtenNow_16 : decode cX0_writtenNow 16 = .ok (.aload_n 0, 1) := dk_42 (dk_at dksX0_writtenNow_0 16 rfl rfl)
theorem dX0_writtenNow_17 : decode cX0_writtenNow 17 = .ok (.aload_n 0, 1) := dk_42 (dk_at dksX0_writtenNow_0 17 rfl rfl)
theorem dX0_writtenNow_18 : decode cX0_writtenNow 18 = .ok (.getfield 164, 3) := dk_180 0 164 (dk_at dksX0_writtenNow_0 18 rfl rfl)
theorem dX0_writtenNow_21 : decode cX0_writtenNow 21 = .ok (.aload_n 0, 1) := dk_42 (dk_at dksX0_writtenNow_0 21 rfl rfl)
theorem dX0_writtenNow_22 : decode cX0_writtenNow 22 = .ok (.getfield 164, 3) := dk_180 0 164 (dk_at dksX0_writtenNow_1 0 rfl rfl)
theorem dX0_writtenNow_25 : decode cX0_writtenNow 25 = .ok (.bipush 12, 2) := dk_16 12 (dk_at dksX0_writtenNow_1 3 rfl rfl)
theorem dX0_writtenNow_27 : decode cX0_writtenNow 27 = .ok (.iaload, 1) := dk_46 (dk_at dksX0_writtenNow_1 5 rfl rfl)
theorem dX0_writtenNow_28 : decode cX0_writtenNow 28 = .ok (.aload_n 0, 1) := dk_42 (dk_at dksX0_writtenNow_1 6 rfl rfl)
theorem dX0_writtenNow_29 : decode cX0_writtenNow 29 = .ok (.getfield 172, 3) := dk_180 0 172 (dk_at dksX0_writtenNow_1 7 rfl rfl)
theorem dX0_writtenNow_32 : decode cX0_writtenNow 32 = .ok (.invokevirtual 273, 3) := dk_182 1 17 (dk_at dksX0_writtenNow_1 10 rfl rfl)
theorem dX0_writtenNow_35 : decode cX0_writtenNow 35 = .ok (.ireturn, 1) := dk_172 (dk_at dksX0_writtenNow_1 13 rfl rfl)
abbrev cX0_bribe : ByteArray := prog_1_method_51_code
def yX0_bribe : MethodName := ⟨RX0, "bribe", "(II)I"⟩
def dkwX0_bribe_2 : List UInt8 := [29, 27, 28, 182, 1, 51, 153, 0, 5, 29, 172, 132, 3, 1, 167, 255, 235, 2, 172]
abbrev dktX0_bribe_2 : List UInt8 := dkwX0_bribe_2 ++ []
def dkwX0_bribe_1 : List UInt8 := [154, 0, 6, 16, 254, 172, 42, 182, 1, 29, 154, 0, 5, 2, 172, 3, 62, 29, 16, 100, 162, 0, 21, 42]
abbrev dktX0_bribe_1 : List UInt8 := dkwX0_bribe_1 ++ dktX0_bribe_2
def dkwX0_bribe_0 : List UInt8 := [42, 27, 182, 1, 4, 153, 0, 22, 27, 42, 180, 0, 164, 16, 12, 46, 161, 0, 11, 42, 28, 182, 0, 239]
abbrev dktX0_bribe_0 : List UInt8 := dkwX0_bribe_0 ++ dktX0_bribe_1
theorem dksX0_bribe_0 : cX0_bribe.data.toList.drop 0 = dktX0_bribe_0 := by decide +kernel
theorem dksX0_bribe_1 : cX0_bribe.data.toList.drop 24 = dktX0_bribe_1 := dk_seg dksX0_bribe_0 24 rfl rfl
theorem dksX0_bribe_2 : cX0_bribe.data.toList.drop 48 = dktX0_bribe_2 := dk_seg dksX0_bribe_1 24 rfl rfl
theorem dX0_bribe_0 : decode cX0_bribe 0 = .ok (.aload_n 0, 1) := dk_42 (dk_at dksX0_bribe_0 0 rfl rfl)
theorem dX0_bribe_1 : decode cX0_bribe 1 = .ok (.iload_n 1, 1) := dk_27 (dk_at dksX0_bribe_0 1 rfl rfl)
theorem dX0_bribe_2 : decode cX0_bribe 2 = .ok (.invokevirtual 260, 3) := dk_182 1 4 (dk_at dksX0_bribe_0 2 rfl rfl)
theorem dX0_bribe_5 : decode cX0_bribe 5 = .ok (.ifCond .eq 22, 3) := dk_153 0 22 (dk_at dksX0_bribe_0 5 rfl rfl)
theorem dX0_bribe_8 : decode cX0_bribe 8 = .ok (.iload_n 1, 1) := dk_27 (dk_at dksX0_bribe_0 8 rfl rfl)
theorem dX0_bribe_9 : decode cX0_bribe 9 = .ok (.aload_n 0, 1) := dk_42 (dk_at dksX0_bribe_0 9 rfl rfl)
theorem dX0_bribe_10 : decode cX0_bribe 10 = .ok (.getfield 164, 3) := dk_180 0 164 (dk_at dksX0_bribe_0 10 rfl rfl)
theorem dX0_bribe_13 : decode cX0_bribe 13 = .ok (.bipush 12, 2) := dk_16 12 (dk_at dksX0_bribe_0 13 rfl rfl)
theorem dX0_bribe_15 : decode cX0_bribe 15 = .ok (.iaload, 1) := dk_46 (dk_at dksX0_bribe_0 15 rfl rfl)
theorem dX0_bribe_16 : decode cX0_bribe 16 = .ok (.if_icmp .lt 11, 3) := dk_161 0 11 (dk_at dksX0_bribe_0 16 rfl rfl)
theorem dX0_bribe_19 : decode cX0_bribe 19 = .ok (.aload_n 0, 1) := dk_42 (dk_at dksX0_bribe_0 19 rfl rfl)
theorem dX0_bribe_20 : decode cX0_bribe 20 = .ok (.iload_n 2, 1) := dk_28 (dk_at dksX0_bribe_0 20 rfl rfl)
theorem dX0_bribe_21 : decode cX0_bribe 21 = .ok (.invokevirtual 239, 3) := dk_182 0 239 (dk_at dksX0_bribe_0 21 rfl rfl)
theorem dX0_bribe_24 : decode cX0_bribe 24 = .ok (.ifCond .ne 6, 3) := dk_154 0 6 (dk_at dksX0_bribe_1 0 rfl rfl)
theorem dX0_bribe_27 : decode cX0_bribe 27 = .ok (.bipush (-2), 2) := dk_16 254 (dk_at dksX0_bribe_1 3 rfl rfl)
theorem dX0_bribe_29 : decode cX0_bribe 29 = .ok (.ireturn, 1) := dk_172 (dk_at dksX0_bribe_1 5 rfl rfl)
theorem dX0_bribe_30 : decode cX0_bribe 30 = .ok (.aload_n 0, 1) := dk_42 (dk_at dksX0_bribe_1 6 rfl rfl)
theorem dX0_bribe_31 : decode cX0_bribe 31 = .ok (.invokevirtual 285, 3) := dk_182 1 29 (dk_at dksX0_bribe_1 7 rfl rfl)
theorem dX0_bribe_34 : decode cX0_bribe 34 = .ok (.ifCond .ne 5, 3) := dk_154 0 5 (dk_at dksX0_bribe_1 10 rfl rfl)
theorem dX0_bribe_37 : decode cX0_bribe 37 = .ok (.iconst (-1), 1) := dk_2 (dk_at dksX0_bribe_1 13 rfl rfl)
theorem dX0_bribe_38 : decode cX0_bribe 38 = .ok (.ireturn, 1) := dk_172 (dk_at dksX0_bribe_1 14 rfl rfl)
theorem dX0_bribe_39 : decode cX0_bribe 39 = .ok (.iconst 0, 1) := dk_3 (dk_at dksX0_bribe_1 15 rfl rfl)
theorem dX0_bribe_40 : decode cX0_bribe 40 = .ok (.istore_n 3, 1) := dk_62 (dk_at dksX0_bribe_1 16 rfl rfl)
theorem dX0_bribe_41 : decode cX0_bribe 41 = .ok (.iload_n 3, 1) := dk_29 (dk_at dksX0_bribe_1 17 rfl rfl)
theorem dX0_bribe_42 : decode cX0_bribe 42 = .ok (.bipush 100, 2) := dk_16 100 (dk_at dksX0_bribe_1 18 rfl rfl)
theorem dX0_bribe_44 : decode cX0_bribe 44 = .ok (.if_icmp .ge 21, 3) := dk_162 0 21 (dk_at dksX0_bribe_1 20 rfl rfl)
theorem dX0_bribe_47 : decode cX0_bribe 47 = .ok (.aload_n 0, 1) := dk_42 (dk_at dksX0_bribe_1 23 rfl rfl)
theorem dX0_bribe_48 : decode cX0_bribe 48 = .ok (.iload_n 3, 1) := dk_29 (dk_at dksX0_bribe_2 0 rfl rfl)
theorem dX0_bribe_49 : decode cX0_bribe 49 = .ok (.iload_n 1, 1) := dk_27 (dk_at dksX0_bribe_2 1 rfl rfl)
theorem dX0_bribe_50 : decode cX0_bribe 50 = .ok (.iload_n 2, 1) := dk_28 (dk_at dksX0_bribe_2 2 rfl rfl)
theorem dX0_bribe_51 : decode cX0_bribe 51 = .ok (.invokevirtual 307, 3) := dk_182 1 51 (dk_at dksX0_bribe_2 3 rfl rfl)
theorem dX0_bribe_54 : decode cX0_bribe 54 = .ok (.ifCond .eq 5, 3) := dk_153 0 5 (dk_at dksX0_bribe_2 6 rfl rfl)
theorem dX0_bribe_57 : decode cX0_bribe 57 = .ok (.iload_n 3, 1) := dk_29 (dk_at dksX0_bribe_2 9 rfl rfl)
theorem dX0_bribe_58 : decode cX0_bribe 58 = .ok (.ireturn, 1) := dk_172 (dk_at dksX0_bribe_2 10 rfl rfl)
theorem dX0_bribe_59 : decode cX0_bribe 59 = .ok (.iinc 3 1, 3) := dk_132 3 1 (dk_at dksX0_bribe_2 11 rfl rfl)
theorem dX0_bribe_62 : decode cX0_bribe 62 = .ok (.goto (-21), 3) := dk_167 255 235 (dk_at dksX0_bribe_2 14 rfl rfl)
theorem dX0_bribe_65 : decode cX0_bribe 65 = .ok (.iconst (-1), 1) := dk_2 (dk_at dksX0_bribe_2 17 rfl rfl)
theorem dX0_bribe_66 : decode cX0_bribe 66 = .ok (.ireturn, 1) := dk_172 (dk_at dksX0_bribe_2 18 rfl rfl)
abbrev cX0_comesBy : ByteArray := prog_1_method_50_code
def yX0_comesBy : MethodName := ⟨RX0, "comesBy", "(III)Z"⟩
def dkwX0_comesBy_2 : List UInt8 := [46, 29, 160, 0, 7, 4, 167, 0, 4, 3, 54, 4, 42, 2, 181, 0, 117, 21, 4, 172]
abbrev dktX0_comesBy_2 : List UInt8 := dkwX0_comesBy_2 ++ []
def dkwX0_comesBy_1 : List UInt8 := [27, 181, 0, 126, 42, 42, 182, 1, 44, 42, 180, 0, 164, 42, 180, 0, 164, 16, 12, 46, 182, 0, 135, 28]
abbrev dktX0_comesBy_1 : List UInt8 := dkwX0_comesBy_1 ++ dktX0_comesBy_2
def dkwX0_comesBy_0 : List UInt8 := [42, 42, 180, 0, 164, 16, 6, 28, 96, 46, 181, 0, 117, 42, 28, 181, 0, 120, 42, 29, 181, 0, 123, 42]
abbrev dktX0_comesBy_0 : List UInt8 := dkwX0_comesBy_0 ++ dktX0_comesBy_1
theorem dksX0_comesBy_0 : cX0_comesBy.data.toList.drop 0 = dktX0_comesBy_0 := by decide +kernel
theorem dksX0_comesBy_1 : cX0_comesBy.data.toList.drop 24 = dktX0_comesBy_1 := dk_seg dksX0_comesBy_0 24 rfl rfl
theorem dksX0_comesBy_2 : cX0_comesBy.data.toList.drop 48 = dktX0_comesBy_2 := dk_seg dksX0_comesBy_1 24 rfl rfl
theorem dX0_comesBy_0 : decode cX0_comesBy 0 = .ok (.aload_n 0, 1) := dk_42 (dk_at dksX0_comesBy_0 0 rfl rfl)
theorem dX0_comesBy_1 : decode cX0_comesBy 1 = .ok (.aload_n 0, 1) := dk_42 (dk_at dksX0_comesBy_0 1 rfl rfl)
theorem dX0_comesBy_2 : decode cX0_comesBy 2 = .ok (.getfield 164, 3) := dk_180 0 164 (dk_at dksX0_comesBy_0 2 rfl rfl)
theorem dX0_comesBy_5 : decode cX0_comesBy 5 = .ok (.bipush 6, 2) := dk_16 6 (dk_at dksX0_comesBy_0 5 rfl rfl)
theorem dX0_comesBy_7 : decode cX0_comesBy 7 = .ok (.iload_n 2, 1) := dk_28 (dk_at dksX0_comesBy_0 7 rfl rfl)
theorem dX0_comesBy_8 : decode cX0_comesBy 8 = .ok (.iadd, 1) := dk_96 (dk_at dksX0_comesBy_0 8 rfl rfl)
theorem dX0_comesBy_9 : decode cX0_comesBy 9 = .ok (.iaload, 1) := dk_46 (dk_at dksX0_comesBy_0 9 rfl rfl)
theorem dX0_comesBy_10 : decode cX0_comesBy 10 = .ok (.putfield 117, 3) := dk_181 0 117 (dk_at dksX0_comesBy_0 10 rfl rfl)
theorem dX0_comesBy_13 : decode cX0_comesBy 13 = .ok (.aload_n 0, 1) := dk_42 (dk_at dksX0_comesBy_0 13 rfl rfl)
theorem dX0_comesBy_14 : decode cX0_comesBy 14 = .ok (.iload_n 2, 1) := dk_28 (dk_at dksX0_comesBy_0 14 rfl rfl)
theorem dX0_comesBy_15 : decode cX0_comesBy 15 = .ok (.putfield 120, 3) := dk_181 0 120 (dk_at dksX0_comesBy_0 15 rfl rfl)
theorem dX0_comesBy_18 : decode cX0_comesBy 18 = .ok (.aload_n 0, 1) := dk_42 (dk_at dksX0_comesBy_0 18 rfl rfl)
theorem dX0_comesBy_19 : decode cX0_comesBy 19 = .ok (.iload_n 3, 1) := dk_29 (dk_at dksX0_comesBy_0 19 rfl rfl)
theorem dX0_comesBy_20 : decode cX0_comesBy 20 = .ok (.putfield 123, 3) := dk_181 0 123 (dk_at dksX0_comesBy_0 20 rfl rfl)
theorem dX0_comesBy_23 : decode cX0_comesBy 23 = .ok (.aload_n 0, 1) := dk_42 (dk_at dksX0_comesBy_0 23 rfl rfl)
theorem dX0_comesBy_24 : decode cX0_comesBy 24 = .ok (.iload_n 1, 1) := dk_27 (dk_at dksX0_comesBy_1 0 rfl rfl)
theorem dX0_comesBy_25 : decode cX0_comesBy 25 = .ok (.putfield 126, 3) := dk_181 0 126 (dk_at dksX0_comesBy_1 1 rfl rfl)
theorem dX0_comesBy_28 : decode cX0_comesBy 28 = .ok (.aload_n 0, 1) := dk_42 (dk_at dksX0_comesBy_1 4 rfl rfl)
theorem dX0_comesBy_29 : decode cX0_comesBy 29 = .ok (.aload_n 0, 1) := dk_42 (dk_at dksX0_comesBy_1 5 rfl rfl)
theorem dX0_comesBy_30 : decode cX0_comesBy 30 = .ok (.invokevirtual 300, 3) := dk_182 1 44 (dk_at dksX0_comesBy_1 6 rfl rfl)
theorem dX0_comesBy_33 : decode cX0_comesBy 33 = .ok (.aload_n 0, 1) := dk_42 (dk_at dksX0_comesBy_1 9 rfl rfl)
theorem dX0_comesBy_34 : decode cX0_comesBy 34 = .ok (.getfield 164, 3) := dk_180 0 164 (dk_at dksX0_comesBy_1 10 rfl rfl)
theorem dX0_comesBy_37 : decode cX0_comesBy 37 = .ok (.aload_n 0, 1) := dk_42 (dk_at dksX0_comesBy_1 13 rfl rfl)
theorem dX0_comesBy_38 : decode cX0_comesBy 38 = .ok (.getfield 164, 3) := dk_180 0 164 (dk_at dksX0_comesBy_1 14 rfl rfl)
theorem dX0_comesBy_41 : decode cX0_comesBy 41 = .ok (.bipush 12, 2) := dk_16 12 (dk_at dksX0_comesBy_1 17 rfl rfl)
theorem dX0_comesBy_43 : decode cX0_comesBy 43 = .ok (.iaload, 1) := dk_46 (dk_at dksX0_comesBy_1 19 rfl rfl)
theorem dX0_comesBy_44 : decode cX0_comesBy 44 = .ok (.invokevirtual 135, 3) := dk_182 0 135 (dk_at dksX0_comesBy_1 20 rfl rfl)
theorem dX0_comesBy_47 : decode cX0_comesBy 47 = .ok (.iload_n 2, 1) := dk_28 (dk_at dksX0_comesBy_1 23 rfl rfl)
theorem dX0_comesBy_48 : decode cX0_comesBy 48 = .ok (.iaload, 1) := dk_46 (dk_at dksX0_comesBy_2 0 rfl rfl)
theorem dX0_comesBy_49 : decode cX0_comesBy 49 = .ok (.iload_n 3, 1) := dk_29 (dk_at dksX0_comesBy_2 1 rfl rfl)
theorem dX0_comesBy_50 : decode cX0_comesBy 50 = .ok (.if_icmp .ne 7, 3) := dk_160 0 7 (dk_at dksX0_comesBy_2 2 rfl rfl)
theorem dX0_comesBy_53 : decode cX0_comesBy 53 = .ok (.iconst 1, 1) := dk_4 (dk_at dksX0_comesBy_2 5 rfl rfl)
theorem dX0_comesBy_54 : decode cX0_comesBy 54 = .ok (.goto 4, 3) := dk_167 0 4 (dk_at dksX0_comesBy_2 6 rfl rfl)
theorem dX0_comesBy_57 : decode cX0_comesBy 57 = .ok (.iconst 0, 1) := dk_3 (dk_at dksX0_comesBy_2 9 rfl rfl)
theorem dX0_comesBy_58 : decode cX0_comesBy 58 = .ok (.istore 4, 2) := dk_54 4 (dk_at dksX0_comesBy_2 10 rfl rfl)
theorem dX0_comesBy_60 : decode cX0_comesBy 60 = .ok (.aload_n 0, 1) := dk_42 (dk_at dksX0_comesBy_2 12 rfl rfl)
theorem dX0_comesBy_61 : decode cX0_comesBy 61 = .ok (.iconst (-1), 1) := dk_2 (dk_at dksX0_comesBy_2 13 rfl rfl)
theorem dX0_comesBy_62 : decode cX0_comesBy 62 = .ok (.putfield 117, 3) := dk_181 0 117 (dk_at dksX0_comesBy_2 14 rfl rfl)
theorem dX0_comesBy_65 : decode cX0_comesBy 65 = .ok (.iload 4, 2) := dk_21 4 (dk_at dksX0_comesBy_2 17 rfl rfl)
theorem dX0_comesBy_67 : decode cX0_comesBy 67 = .ok (.ireturn, 1) := dk_172 (dk_at dksX0_comesBy_2 19 rfl rfl)
abbrev cX0_shortest : ByteArray := prog_1_method_54_code
def yX0_shortest : MethodName := ⟨RX0, "shortest", "(I)I"⟩
def dkwX0_shortest_1 : List UInt8 := [42, 180, 0, 181, 27, 46, 167, 0, 4, 2, 172]
abbrev dktX0_shortest_1 : List UInt8 := dkwX0_shortest_1 ++ []
def dkwX0_shortest_0 : List UInt8 := [42, 182, 1, 58, 27, 3, 42, 180, 0, 31, 180, 0, 35, 182, 0, 47, 4, 100, 184, 0, 235, 153, 0, 12]
abbrev dktX0_shortest_0 : List UInt8 := dkwX0_shortest_0 ++ dktX0_shortest_1
theorem dksX0_shortest_0 : cX0_shortest.data.toList.drop 0 = dktX0_shortest_0 := by decide +kernel
theorem dksX0_shortest_1 : cX0_shortest.data.toList.drop 24 = dktX0_shortest_1 := dk_seg dksX0_shortest_0 24 rfl rfl
theorem dX0_shortest_0 : decode cX0_shortest 0 = .ok (.aload_n 0, 1) := dk_42 (dk_at dksX0_shortest_0 0 rfl rfl)
theorem dX0_shortest_1 : decode cX0_shortest 1 = .ok (.invokevirtual 314, 3) := dk_182 1 58 (dk_at dksX0_shortest_0 1 rfl rfl)
theorem dX0_shortest_4 : decode cX0_shortest 4 = .ok (.iload_n 1, 1) := dk_27 (dk_at dksX0_shortest_0 4 rfl rfl)
theorem dX0_shortest_5 : decode cX0_shortest 5 = .ok (.iconst 0, 1) := dk_3 (dk_at dksX0_shortest_0 5 rfl rfl)
theorem dX0_shortest_6 : decode cX0_shortest 6 = .ok (.aload_n 0, 1) := dk_42 (dk_at dksX0_shortest_0 6 rfl rfl)
theorem dX0_shortest_7 : decode cX0_shortest 7 = .ok (.getfield 31, 3) := dk_180 0 31 (dk_at dksX0_shortest_0 7 rfl rfl)
theorem dX0_shortest_10 : decode cX0_shortest 10 = .ok (.getfield 35, 3) := dk_180 0 35 (dk_at dksX0_shortest_0 10 rfl rfl)
theorem dX0_shortest_13 : decode cX0_shortest 13 = .ok (.invokevirtual 47, 3) := dk_182 0 47 (dk_at dksX0_shortest_0 13 rfl rfl)
theorem dX0_shortest_16 : decode cX0_shortest 16 = .ok (.iconst 1, 1) := dk_4 (dk_at dksX0_shortest_0 16 rfl rfl)
theorem dX0_shortest_17 : decode cX0_shortest 17 = .ok (.isub, 1) := dk_100 (dk_at dksX0_shortest_0 17 rfl rfl)
theorem dX0_shortest_18 : decode cX0_shortest 18 = .ok (.invokestatic 235, 3) := dk_184 0 235 (dk_at dksX0_shortest_0 18 rfl rfl)
theorem dX0_shortest_21 : decode cX0_shortest 21 = .ok (.ifCond .eq 12, 3) := dk_153 0 12 (dk_at dksX0_shortest_0 21 rfl rfl)
theorem dX0_shortest_24 : decode cX0_shortest 24 = .ok (.aload_n 0, 1) := dk_42 (dk_at dksX0_shortest_1 0 rfl rfl)
theorem dX0_shortest_25 : decode cX0_shortest 25 = .ok (.getfield 181, 3) := dk_180 0 181 (dk_at dksX0_shortest_1 1 rfl rfl)
theorem dX0_shortest_28 : decode cX0_shortest 28 = .ok (.iload_n 1, 1) := dk_27 (dk_at dksX0_shortest_1 4 rfl rfl)
theorem dX0_shortest_29 : decode cX0_shortest 29 = .ok (.iaload, 1) := dk_46 (dk_at dksX0_shortest_1 5 rfl rfl)
theorem dX0_shortest_30 : decode cX0_shortest 30 = .ok (.goto 4, 3) := dk_167 0 4 (dk_at dksX0_shortest_1 6 rfl rfl)
theorem dX0_shortest_33 : decode cX0_shortest 33 = .ok (.iconst (-1), 1) := dk_2 (dk_at dksX0_shortest_1 9 rfl rfl)
theorem dX0_shortest_34 : decode cX0_shortest 34 = .ok (.ireturn, 1) := dk_172 (dk_at dksX0_shortest_1 10 rfl rfl)
abbrev cX0_layFewest : ByteArray := prog_1_method_53_code
def yX0_layFewest : MethodName := ⟨RX0, "layFewest", "()V"⟩
def dkwX0_layFewest_6 : List UInt8 := [167, 255, 161, 132, 2, 1, 167, 255, 139, 167, 255, 128, 177]
abbrev dktX0_layFewest_6 : List UInt8 := dkwX0_layFewest_6 ++ []
def dkwX0_layFewest_5 : List UInt8 := [180, 0, 181, 28, 46, 161, 0, 6, 167, 0, 13, 42, 180, 0, 181, 28, 21, 4, 79, 4, 60, 132, 3, 1]
abbrev dktX0_layFewest_5 : List UInt8 := dkwX0_layFewest_5 ++ dktX0_layFewest_6
def dkwX0_layFewest_4 : List UInt8 := [182, 1, 54, 54, 4, 21, 4, 153, 0, 36, 42, 180, 0, 181, 28, 46, 158, 0, 17, 21, 4, 42]
abbrev dktX0_layFewest_4 : List UInt8 := dkwX0_layFewest_4 ++ dktX0_layFewest_5
def dkwX0_layFewest_3 : List UInt8 := [42, 180, 0, 31, 180, 0, 35, 28, 182, 0, 51, 192, 0, 55, 180, 0, 57, 29, 182, 0, 51, 192, 0, 60]
abbrev dktX0_layFewest_3 : List UInt8 := dkwX0_layFewest_3 ++ dktX0_layFewest_4
def dkwX0_layFewest_2 : List UInt8 := [42, 180, 0, 31, 180, 0, 35, 28, 182, 0, 51, 192, 0, 55, 180, 0, 57, 182, 0, 47, 162, 0, 77, 42]
abbrev dktX0_layFewest_2 : List UInt8 := dkwX0_layFewest_2 ++ dktX0_layFewest_3
def dkwX0_layFewest_1 : List UInt8 := [153, 0, 130, 3, 60, 3, 61, 28, 42, 180, 0, 31, 180, 0, 35, 182, 0, 47, 162, 0, 109, 3, 62, 29]
abbrev dktX0_layFewest_1 : List UInt8 := dkwX0_layFewest_1 ++ dktX0_layFewest_2
def dkwX0_layFewest_0 : List UInt8 := [3, 60, 27, 16, 8, 162, 0, 16, 42, 180, 0, 181, 27, 3, 79, 132, 1, 1, 167, 255, 240, 4, 60, 27]
abbrev dktX0_layFewest_0 : List UInt8 := dkwX0_layFewest_0 ++ dktX0_layFewest_1
theorem dksX0_layFewest_0 : cX0_layFewest.data.toList.drop 0 = dktX0_layFewest_0 := by decide +kernel
theorem dksX0_layFewest_1 : cX0_layFewest.data.toList.drop 24 = dktX0_layFewest_1 := dk_seg dksX0_layFewest_0 24 rfl rfl
theorem dksX0_layFewest_2 : cX0_layFewest.data.toList.drop 48 = dktX0_layFewest_2 := dk_seg dksX0_layFewest_1 24 rfl rfl
theorem dksX0_layFewest_3 : cX0_layFewest.data.toList.drop 72 = dktX0_layFewest_3 := dk_seg dksX0_layFewest_2 24 rfl rfl
theorem dksX0_layFewest_4 : cX0_layFewest.data.toList.drop 96 = dktX0_layFewest_4 := dk_seg dksX0_layFewest_3 24 rfl rfl
theorem dksX0_layFewest_5 : cX0_layFewest.data.toList.drop 118 = dktX0_layFewest_5 := dk_seg dksX0_layFewest_4 22 rfl rfl
theorem dksX0_layFewest_6 : cX0_layFewest.data.toList.drop 142 = dktX0_layFewest_6 := dk_seg dksX0_layFewest_5 24 rfl rfl
theorem dX0_layFewest_0 : decode cX0_layFewest 0 = .ok (.iconst 0, 1) := dk_3 (dk_at dksX0_layFewest_0 0 rfl rfl)
theorem dX0_layFewest_1 : decode cX0_layFewest 1 = .ok (.istore_n 1, 1) := dk_60 (dk_at dksX0_layFewest_0 1 rfl rfl)
theorem dX0_layFewest_2 : decode cX0_layFewest 2 = .ok (.iload_n 1, 1) := dk_27 (dk_at dksX0_layFewest_0 2 rfl rfl)
theorem dX0_layFewest_3 : decode cX0_layFewest 3 = .ok (.bipush 8, 2) := dk_16 8 (dk_at dksX0_layFewest_0 3 rfl rfl)
theorem dX0_layFewest_5 : decode cX0_layFewest 5 = .ok (.if_icmp .ge 16, 3) := dk_162 0 16 (dk_at dksX0_layFewest_0 5 rfl rfl)
theorem dX0_layFewest_8 : decode cX0_layFewest 8 = .ok (.aload_n 0, 1) := dk_42 (dk_at dksX0_layFewest_0 8 rfl rfl)
theorem dX0_layFewest_9 : decode cX0_layFewest 9 = .ok (.getfield 181, 3) := dk_180 0 181 (dk_at dksX0_layFewest_0 9 rfl rfl)
theorem dX0_layFewest_12 : decode cX0_layFewest 12 = .ok (.iload_n 1, 1) := dk_27 (dk_at dksX0_layFewest_0 12 rfl rfl)
theorem dX0_layFewest_13 : decode cX0_layFewest 13 = .ok (.iconst 0, 1) := dk_3 (dk_at dksX0_layFewest_0 13 rfl rfl)
theorem dX0_layFewest_14 : decode cX0_layFewest 14 = .ok (.iastore, 1) := dk_79 (dk_at dksX0_layFewest_0 14 rfl rfl)
theorem dX0_layFewest_15 : decode cX0_layFewest 15 = .ok (.iinc 1 1, 3) := dk_132 1 1 (dk_at dksX0_layFewest_0 15 rfl rfl)
theorem dX0_layFewest_18 : decode cX0_layFewest 18 = .ok (.goto (-16), 3) := dk_167 255 240 (dk_at dksX0_layFewest_0 18 rfl rfl)
theorem dX0_layFewest_21 : decode cX0_layFewest 21 = .ok (.iconst 1, 1) := dk_4 (dk_at dksX0_layFewest_0 21 rfl rfl)
theorem dX0_layFewest_22 : decode cX0_layFewest 22 = .ok (.istore_n 1, 1) := dk_60 (dk_at dksX0_layFewest_0 22 rfl rfl)
theorem dX0_layFewest_23 : decode cX0_layFewest 23 = .ok (.iload_n 1, 1) := dk_27 (dk_at dksX0_layFewest_0 23 rfl rfl)
theorem dX0_layFewest_24 : decode cX0_layFewest 24 = .ok (.ifCond .eq 130, 3) := dk_153 0 130 (dk_at dksX0_layFewest_1 0 rfl rfl)
theorem dX0_layFewest_27 : decode cX0_layFewest 27 = .ok (.iconst 0, 1) := dk_3 (dk_at dksX0_layFewest_1 3 rfl rfl)
theorem dX0_layFewest_28 : decode cX0_layFewest 28 = .ok (.istore_n 1, 1) := dk_60 (dk_at dksX0_layFewest_1 4 rfl rfl)
theorem dX0_layFewest_29 : decode cX0_layFewest 29 = .ok (.iconst 0, 1) := dk_3 (dk_at dksX0_layFewest_1 5 rfl rfl)
theorem dX0_layFewest_30 : decode cX0_layFewest 30 = .ok (.istore_n 2, 1) := dk_61 (dk_at dksX0_layFewest_1 6 rfl rfl)
theorem dX0_layFewest_31 : decode cX0_layFewest 31 = .ok (.iload_n 2, 1) := dk_28 (dk_at dksX0_layFewest_1 7 rfl rfl)
theorem dX0_layFewest_32 : decode cX0_layFewest 32 = .ok (.aload_n 0, 1) := dk_42 (dk_at dksX0_layFewest_1 8 rfl rfl)
theorem dX0_layFewest_33 : decode cX0_layFewest 33 = .ok (.getfield 31, 3) := dk_180 0 31 (dk_at dksX0_layFewest_1 9 rfl rfl)
theorem dX0_layFewest_36 : decode cX0_layFewest 36 = .ok (.getfield 35, 3) := dk_180 0 35 (dk_at dksX0_layFewest_1 12 rfl rfl)
theorem dX0_layFewest_39 : decode cX0_layFewest 39 = .ok (.invokevirtual 47, 3) := dk_182 0 47 (dk_at dksX0_layFewest_1 15 rfl rfl)
theorem dX0_layFewest_42 : decode cX0_layFewest 42 = .ok (.if_icmp .ge 109, 3) := dk_162 0 109 (dk_at dksX0_layFewest_1 18 rfl rfl)
theorem dX0_layFewest_45 : decode cX0_layFewest 45 = .ok (.iconst 0, 1) := dk_3 (dk_at dksX0_layFewest_1 21 rfl rfl)
theorem dX0_layFewest_46 : decode cX0_layFewest 46 = .ok (.istore_n 3, 1) := dk_62 (dk_at dksX0_layFewest_1 22 rfl rfl)
theorem dX0_layFewest_47 : decode cX0_layFewest 47 = .ok (.iload_n 3, 1) := dk_29 (dk_at dksX0_layFewest_1 23 rfl rfl)
theorem dX0_layFewest_48 : decode cX0_layFewest 48 = .ok (.aload_n 0, 1) := dk_42 (dk_at dksX0_layFewest_2 0 rfl rfl)
theorem dX0_layFewest_49 : decode cX0_layFewest 49 = .ok (.getfield 31, 3) := dk_180 0 31 (dk_at dksX0_layFewest_2 1 rfl rfl)
theorem dX0_layFewest_52 : decode cX0_layFewest 52 = .ok (.getfield 35, 3) := dk_180 0 35 (dk_at dksX0_layFewest_2 4 rfl rfl)
theorem dX0_layFewest_55 : decode cX0_layFewest 55 = .ok (.iload_n 2, 1) := dk_28 (dk_at dksX0_layFewest_2 7 rfl rfl)
theorem dX0_layFewest_56 : decode cX0_layFewest 56 = .ok (.invokevirtual 51, 3) := dk_182 0 51 (dk_at dksX0_layFewest_2 8 rfl rfl)
theorem dX0_layFewest_59 : decode cX0_layFewest 59 = .ok (.checkcast 55, 3) := dk_192 0 55 (dk_at dksX0_layFewest_2 11 rfl rfl)
theorem dX0_layFewest_62 : decode cX0_layFewest 62 = .ok (.getfield 57, 3) := dk_180 0 57 (dk_at dksX0_layFewest_2 14 rfl rfl)
theorem dX0_layFewest_65 : decode cX0_layFewest 65 = .ok (.invokevirtual 47, 3) := dk_182 0 47 (dk_at dksX0_layFewest_2 17 rfl rfl)
theorem dX0_layFewest_68 : decode cX0_layFewest 68 = .ok (.if_icmp .ge 77, 3) := dk_162 0 77 (dk_at dksX0_layFewest_2 20 rfl rfl)
theorem dX0_layFewest_71 : decode cX0_layFewest 71 = .ok (.aload_n 0, 1) := dk_42 (dk_at dksX0_layFewest_2 23 rfl rfl)
theorem dX0_layFewest_72 : decode cX0_layFewest 72 = .ok (.aload_n 0, 1) := dk_42 (dk_at dksX0_layFewest_3 0 rfl rfl)
theorem dX0_layFewest_73 : decode cX0_layFewest 73 = .ok (.getfield 31, 3) := dk_180 0 31 (dk_at dksX0_layFewest_3 1 rfl rfl)
theorem dX0_layFewest_76 : decode cX0_layFewest 76 = .ok (.getfield 35, 3) := dk_180 0 35 (dk_at dksX0_layFewest_3 4 rfl rfl)
theorem dX0_layFewest_79 : decode cX0_layFewest 79 = .ok (.iload_n 2, 1) := dk_28 (dk_at dksX0_layFewest_3 7 rfl rfl)
theorem dX0_layFewest_80 : decode cX0_layFewest 80 = .ok (.invokevirtual 51, 3) := dk_182 0 51 (dk_at dksX0_layFewest_3 8 rfl rfl)
theorem dX0_layFewest_83 : decode cX0_layFewest 83 = .ok (.checkcast 55, 3) := dk_192 0 55 (dk_at dksX0_layFewest_3 11 rfl rfl)
theorem dX0_layFewest_86 : decode cX0_layFewest 86 = .ok (.getfield 57, 3) := dk_180 0 57 (dk_at dksX0_layFewest_3 14 rfl rfl)
theorem dX0_layFewest_89 : decode cX0_layFewest 89 = .ok (.iload_n 3, 1) := dk_29 (dk_at dksX0_layFewest_3 17 rfl rfl)
theorem dX0_layFewest_90 : decode cX0_layFewest 90 = .ok (.invokevirtual 51, 3) := dk_182 0 51 (dk_at dksX0_layFewest_3 18 rfl rfl)
theorem dX0_layFewest_93 : decode cX0_layFewest 93 = .ok (.checkcast 60, 3) := dk_192 0 60 (dk_at dksX0_layFewest_3 21 rfl rfl)
theorem dX0_layFewest_96 : decode cX0_layFewest 96 = .ok (.invokevirtual 310, 3) := dk_182 1 54 (dk_at dksX0_layFewest_4 0 rfl rfl)
theorem dX0_layFewest_99 : decode cX0_layFewest 99 = .ok (.istore 4, 2) := dk_54 4 (dk_at dksX0_layFewest_4 3 rfl rfl)
theorem dX0_layFewest_101 : decode cX0_layFewest 101 = .ok (.iload 4, 2) := dk_21 4 (dk_at dksX0_layFewest_4 5 rfl rfl)
theorem dX0_layFewest_103 : decode cX0_layFewest 103 = .ok (.ifCond .eq 36, 3) := dk_153 0 36 (dk_at dksX0_layFewest_4 7 rfl rfl)
theorem dX0_layFewest_106 : decode cX0_layFewest 106 = .ok (.aload_n 0, 1) := dk_42 (dk_at dksX0_layFewest_4 10 rfl rfl)
theorem dX0_layFewest_107 : decode cX0_layFewest 107 = .ok (.getfield 181, 3) := dk_180 0 181 (dk_at dksX0_layFewest_4 11 rfl rfl)
theorem dX0_layFewest_110 : decode cX0_layFewest 110 = .ok (.iload_n 2, 1) := dk_28 (dk_at dksX0_layFewest_4 14 rfl rfl)
theorem dX0_layFewest_111 : decode cX0_layFewest 111 = .ok (.iaload, 1) := dk_46 (dk_at dksX0_layFewest_4 15 rfl rfl)
theorem dX0_layFewest_112 : decode cX0_layFewest 112 = .ok (.ifCond .le 17, 3) := dk_158 0 17 (dk_at dksX0_layFewest_4 16 rfl rfl)
theorem dX0_layFewest_115 : decode cX0_layFewest 115 = .ok (.iload 4, 2) := dk_21 4 (dk_at dksX0_layFewest_4 19 rfl rfl)
theorem dX0_layFewest_117 : decode cX0_layFewest 117 = .ok (.aload_n 0, 1) := dk_42 (dk_at dksX0_layFewest_4 21 rfl rfl)
theorem dX0_layFewest_118 : decode cX0_layFewest 118 = .ok (.getfield 181, 3) := dk_180 0 181 (dk_at dksX0_layFewest_5 0 rfl rfl)
theorem dX0_layFewest_121 : decode cX0_layFewest 121 = .ok (.iload_n 2, 1) := dk_28 (dk_at dksX0_layFewest_5 3 rfl rfl)
theorem dX0_layFewest_122 : decode cX0_layFewest 122 = .ok (.iaload, 1) := dk_46 (dk_at dksX0_layFewest_5 4 rfl rfl)
theorem dX0_layFewest_123 : decode cX0_layFewest 123 = .ok (.if_icmp .lt 6, 3) := dk_161 0 6 (dk_at dksX0_layFewest_5 5 rfl rfl)
theorem dX0_layFewest_126 : decode cX0_layFewest 126 = .ok (.goto 13, 3) := dk_167 0 13 (dk_at dksX0_layFewest_5 8 rfl rfl)
theorem dX0_layFewest_129 : decode cX0_layFewest 129 = .ok (.aload_n 0, 1) := dk_42 (dk_at dksX0_layFewest_5 11 rfl rfl)
theorem dX0_layFewest_130 : decode cX0_layFewest 130 = .ok (.getfield 181, 3) := dk_180 0 181 (dk_at dksX0_layFewest_5 12 rfl rfl)
theorem dX0_layFewest_133 : decode cX0_layFewest 133 = .ok (.iload_n 2, 1) := dk_28 (dk_at dksX0_layFewest_5 15 rfl rfl)
theorem dX0_layFewest_134 : decode cX0_layFewest 134 = .ok (.iload 4, 2) := dk_21 4 (dk_at dksX0_layFewest_5 16 rfl rfl)
theorem dX0_layFewest_136 : decode cX0_layFewest 136 = .ok (.iastore, 1) := dk_79 (dk_at dksX0_layFewest_5 18 rfl rfl)
theorem dX0_layFewest_137 : decode cX0_layFewest 137 = .ok (.iconst 1, 1) := dk_4 (dk_at dksX0_layFewest_5 19 rfl rfl)
theorem dX0_layFewest_138 : decode cX0_layFewest 138 = .ok (.istore_n 1, 1) := dk_60 (dk_at dksX0_layFewest_5 20 rfl rfl)
theorem dX0_layFewest_139 : decode cX0_layFewest 139 = .ok (.iinc 3 1, 3) := dk_132 3 1 (dk_at dksX0_layFewest_5 21 rfl rfl)
theorem dX0_layFewest_142 : decode cX0_layFewest 142 = .ok (.goto (-95), 3) := dk_167 255 161 (dk_at dksX0_layFewest_6 0 rfl rfl)
theorem dX0_layFewest_145 : decode cX0_layFewest 145 = .ok (.iinc 2 1, 3) := dk_132 2 1 (dk_at dksX0_layFewest_6 3 rfl rfl)
theorem dX0_layFewest_148 : decode cX0_layFewest 148 = .ok (.goto (-117), 3) := dk_167 255 139 (dk_at dksX0_layFewest_6 6 rfl rfl)
theorem dX0_layFewest_151 : decode cX0_layFewest 151 = .ok (.goto (-128), 3) := dk_167 255 128 (dk_at dksX0_layFewest_6 9 rfl rfl)
theorem dX0_layFewest_154 : decode cX0_layFewest 154 = .ok (.return_, 1) := dk_177 (dk_at dksX0_layFewest_6 12 rfl rfl)
abbrev cX0_fewestOf : ByteArray := prog_1_method_52_code
def yX0_fewestOf : MethodName := ⟨RX0, "fewestOf", "(LGuildCharter$Alt;)I"⟩
def dkwX0_fewestOf_2 : List UInt8 := [154, 0, 5, 3, 172, 28, 21, 4, 96, 61, 132, 3, 1, 167, 255, 201, 28, 172]
abbrev dktX0_fewestOf_2 : List UInt8 := dkwX0_fewestOf_2 ++ []
def dkwX0_fewestOf_1 : List UInt8 := [4, 167, 0, 17, 42, 180, 0, 181, 43, 180, 0, 62, 29, 46, 16, 8, 100, 46, 54, 4, 21, 4]
abbrev dktX0_fewestOf_1 : List UInt8 := dkwX0_fewestOf_1 ++ dktX0_fewestOf_2
def dkwX0_fewestOf_0 : List UInt8 := [3, 61, 3, 62, 29, 43, 180, 0, 62, 190, 162, 0, 52, 43, 180, 0, 62, 29, 46, 16, 8, 162, 0, 7]
abbrev dktX0_fewestOf_0 : List UInt8 := dkwX0_fewestOf_0 ++ dktX0_fewestOf_1
theorem dksX0_fewestOf_0 : cX0_fewestOf.data.toList.drop 0 = dktX0_fewestOf_0 := by decide +kernel
theorem dksX0_fewestOf_1 : cX0_fewestOf.data.toList.drop 24 = dktX0_fewestOf_1 := dk_seg dksX0_fewestOf_0 24 rfl rfl
theorem dksX0_fewestOf_2 : cX0_fewestOf.data.toList.drop 46 = dktX0_fewestOf_2 := dk_seg dksX0_fewestOf_1 22 rfl rfl
theorem dX0_fewestOf_0 : decode cX0_fewestOf 0 = .ok (.iconst 0, 1) := dk_3 (dk_at dksX0_fewestOf_0 0 rfl rfl)
theorem dX0_fewestOf_1 : decode cX0_fewestOf 1 = .ok (.istore_n 2, 1) := dk_61 (dk_at dksX0_fewestOf_0 1 rfl rfl)
theorem dX0_fewestOf_2 : decode cX0_fewestOf 2 = .ok (.iconst 0, 1) := dk_3 (dk_at dksX0_fewestOf_0 2 rfl rfl)
theorem dX0_fewestOf_3 : decode cX0_fewestOf 3 = .ok (.istore_n 3, 1) := dk_62 (dk_at dksX0_fewestOf_0 3 rfl rfl)
theorem dX0_fewestOf_4 : decode cX0_fewestOf 4 = .ok (.iload_n 3, 1) := dk_29 (dk_at dksX0_fewestOf_0 4 rfl rfl)
theorem dX0_fewestOf_5 : decode cX0_fewestOf 5 = .ok (.aload_n 1, 1) := dk_43 (dk_at dksX0_fewestOf_0 5 rfl rfl)
theorem dX0_fewestOf_6 : decode cX0_fewestOf 6 = .ok (.getfield 62, 3) := dk_180 0 62 (dk_at dksX0_fewestOf_0 6 rfl rfl)
theorem dX0_fewestOf_9 : decode cX0_fewestOf 9 = .ok (.arraylength, 1) := dk_190 (dk_at dksX0_fewestOf_0 9 rfl rfl)
theorem dX0_fewestOf_10 : decode cX0_fewestOf 10 = .ok (.if_icmp .ge 52, 3) := dk_162 0 52 (dk_at dksX0_fewestOf_0 10 rfl rfl)
theorem dX0_fewestOf_13 : decode cX0_fewestOf 13 = .ok (.aload_n 1, 1) := dk_43 (dk_at dksX0_fewestOf_0 13 rfl rfl)
theorem dX0_fewestOf_14 : decode cX0_fewestOf 14 = .ok (.getfield 62, 3) := dk_180 0 62 (dk_at dksX0_fewestOf_0 14 rfl rfl)
theorem dX0_fewestOf_17 : decode cX0_fewestOf 17 = .ok (.iload_n 3, 1) := dk_29 (dk_at dksX0_fewestOf_0 17 rfl rfl)
theorem dX0_fewestOf_18 : decode cX0_fewestOf 18 = .ok (.iaload, 1) := dk_46 (dk_at dksX0_fewestOf_0 18 rfl rfl)
theorem dX0_fewestOf_19 : decode cX0_fewestOf 19 = .ok (.bipush 8, 2) := dk_16 8 (dk_at dksX0_fewestOf_0 19 rfl rfl)
theorem dX0_fewestOf_21 : decode cX0_fewestOf 21 = .ok (.if_icmp .ge 7, 3) := dk_162 0 7 (dk_at dksX0_fewestOf_0 21 rfl rfl)
theorem dX0_fewestOf_24 : decode cX0_fewestOf 24 = .ok (.iconst 1, 1) := dk_4 (dk_at dksX0_fewestOf_1 0 rfl rfl)
theorem dX0_fewestOf_25 : decode cX0_fewestOf 25 = .ok (.goto 17, 3) := dk_167 0 17 (dk_at dksX0_fewestOf_1 1 rfl rfl)
theorem dX0_fewestOf_28 : decode cX0_fewestOf 28 = .ok (.aload_n 0, 1) := dk_42 (dk_at dksX0_fewestOf_1 4 rfl rfl)
theorem dX0_fewestOf_29 : decode cX0_fewestOf 29 = .ok (.getfield 181, 3) := dk_180 0 181 (dk_at dksX0_fewestOf_1 5 rfl rfl)
theorem dX0_fewestOf_32 : decode cX0_fewestOf 32 = .ok (.aload_n 1, 1) := dk_43 (dk_at dksX0_fewestOf_1 8 rfl rfl)
theorem dX0_fewestOf_33 : decode cX0_fewestOf 33 = .ok (.getfield 62, 3) := dk_180 0 62 (dk_at dksX0_fewestOf_1 9 rfl rfl)
theorem dX0_fewestOf_36 : decode cX0_fewestOf 36 = .ok (.iload_n 3, 1) := dk_29 (dk_at dksX0_fewestOf_1 12 rfl rfl)
theorem dX0_fewestOf_37 : decode cX0_fewestOf 37 = .ok (.iaload, 1) := dk_46 (dk_at dksX0_fewestOf_1 13 rfl rfl)
theorem dX0_fewestOf_38 : decode cX0_fewestOf 38 = .ok (.bipush 8, 2) := dk_16 8 (dk_at dksX0_fewestOf_1 14 rfl rfl)
theorem dX0_fewestOf_40 : decode cX0_fewestOf 40 = .ok (.isub, 1) := dk_100 (dk_at dksX0_fewestOf_1 16 rfl rfl)
theorem dX0_fewestOf_41 : decode cX0_fewestOf 41 = .ok (.iaload, 1) := dk_46 (dk_at dksX0_fewestOf_1 17 rfl rfl)
theorem dX0_fewestOf_42 : decode cX0_fewestOf 42 = .ok (.istore 4, 2) := dk_54 4 (dk_at dksX0_fewestOf_1 18 rfl rfl)
theorem dX0_fewestOf_44 : decode cX0_fewestOf 44 = .ok (.iload 4, 2) := dk_21 4 (dk_at dksX0_fewestOf_1 20 rfl rfl)
theorem dX0_fewestOf_46 : decode cX0_fewestOf 46 = .ok (.ifCond .ne 5, 3) := dk_154 0 5 (dk_at dksX0_fewestOf_2 0 rfl rfl)
theorem dX0_fewestOf_49 : decode cX0_fewestOf 49 = .ok (.iconst 0, 1) := dk_3 (dk_at dksX0_fewestOf_2 3 rfl rfl)
theorem dX0_fewestOf_50 : decode cX0_fewestOf 50 = .ok (.ireturn, 1) := dk_172 (dk_at dksX0_fewestOf_2 4 rfl rfl)
theorem dX0_fewestOf_51 : decode cX0_fewestOf 51 = .ok (.iload_n 2, 1) := dk_28 (dk_at dksX0_fewestOf_2 5 rfl rfl)
theorem dX0_fewestOf_52 : decode cX0_fewestOf 52 = .ok (.iload 4, 2) := dk_21 4 (dk_at dksX0_fewestOf_2 6 rfl rfl)
theorem dX0_fewestOf_54 : decode cX0_fewestOf 54 = .ok (.iadd, 1) := dk_96 (dk_at dksX0_fewestOf_2 8 rfl rfl)
theorem dX0_fewestOf_55 : decode cX0_fewestOf 55 = .ok (.istore_n 2, 1) := dk_61 (dk_at dksX0_fewestOf_2 9 rfl rfl)
theorem dX0_fewestOf_56 : decode cX0_fewestOf 56 = .ok (.iinc 3 1, 3) := dk_132 3 1 (dk_at dksX0_fewestOf_2 10 rfl rfl)
theorem dX0_fewestOf_59 : decode cX0_fewestOf 59 = .ok (.goto (-55), 3) := dk_167 255 201 (dk_at dksX0_fewestOf_2 13 rfl rfl)
theorem dX0_fewestOf_62 : decode cX0_fewestOf 62 = .ok (.iload_n 2, 1) := dk_28 (dk_at dksX0_fewestOf_2 16 rfl rfl)
theorem dX0_fewestOf_63 : decode cX0_fewestOf 63 = .ok (.ireturn, 1) := dk_172 (dk_at dksX0_fewestOf_2 17 rfl rfl)
abbrev cX0_used : ByteArray := prog_1_method_56_code
def yX0_used : MethodName := ⟨RX0, "used", "()I"⟩
def dkwX0_used_3 : List UInt8 := [167, 0, 4, 3, 128, 60, 132, 3, 1, 167, 255, 218, 167, 255, 206, 27, 172]
abbrev dktX0_used_3 : List UInt8 := dkwX0_used_3 ++ []
def dkwX0_used_2 : List UInt8 := [180, 0, 35, 182, 0, 47, 162, 0, 30, 27, 28, 29, 122, 4, 126, 4, 160, 0, 11, 42, 29, 182, 1, 61]
abbrev dktX0_used_2 : List UInt8 := dkwX0_used_2 ++ dktX0_used_3
def dkwX0_used_1 : List UInt8 := [154, 0, 5, 3, 172, 4, 60, 3, 61, 27, 28, 159, 0, 51, 27, 61, 3, 62, 29, 42, 180, 0, 31]
abbrev dktX0_used_1 : List UInt8 := dkwX0_used_1 ++ dktX0_used_2
def dkwX0_used_0 : List UInt8 := [42, 182, 1, 58, 42, 180, 0, 31, 180, 0, 35, 182, 0, 41, 154, 0, 12, 42, 180, 0, 181, 3, 46]
abbrev dktX0_used_0 : List UInt8 := dkwX0_used_0 ++ dktX0_used_1
theorem dksX0_used_0 : cX0_used.data.toList.drop 0 = dktX0_used_0 := by decide +kernel
theorem dksX0_used_1 : cX0_used.data.toList.drop 23 = dktX0_used_1 := dk_seg dksX0_used_0 23 rfl rfl
theorem dksX0_used_2 : cX0_used.data.toList.drop 46 = dktX0_used_2 := dk_seg dksX0_used_1 23 rfl rfl
theorem dksX0_used_3 : cX0_used.data.toList.drop 70 = dktX0_used_3 := dk_seg dksX0_used_2 24 rfl rfl
theorem dX0_used_0 : decode cX0_used 0 = .ok (.aload_n 0, 1) := dk_42 (dk_at dksX0_used_0 0 rfl rfl)
theorem dX0_used_1 : decode cX0_used 1 = .ok (.invokevirtual 314, 3) := dk_182 1 58 (dk_at dksX0_used_0 1 rfl rfl)
theorem dX0_used_4 : decode cX0_used 4 = .ok (.aload_n 0, 1) := dk_42 (dk_at dksX0_used_0 4 rfl rfl)
theorem dX0_used_5 : decode cX0_used 5 = .ok (.getfield 31, 3) := dk_180 0 31 (dk_at dksX0_used_0 5 rfl rfl)
theorem dX0_used_8 : decode cX0_used 8 = .ok (.getfield 35, 3) := dk_180 0 35 (dk_at dksX0_used_0 8 rfl rfl)
theorem dX0_used_11 : decode cX0_used 11 = .ok (.invokevirtual 41, 3) := dk_182 0 41 (dk_at dksX0_used_0 11 rfl rfl)
theorem dX0_used_14 : decode cX0_used 14 = .ok (.ifCond .ne 12, 3) := dk_154 0 12 (dk_at dksX0_used_0 14 rfl rfl)
theorem dX0_used_17 : decode cX0_used 17 = .ok (.aload_n 0, 1) := dk_42 (dk_at dksX0_used_0 17 rfl rfl)
theorem dX0_used_18 : decode cX0_used 18 = .ok (.getfield 181, 3) := dk_180 0 181 (dk_at dksX0_used_0 18 rfl rfl)
theorem dX0_used_21 : decode cX0_used 21 = .ok (.iconst 0, 1) := dk_3 (dk_at dksX0_used_0 21 rfl rfl)
theorem dX0_used_22 : decode cX0_used 22 = .ok (.iaload, 1) := dk_46 (dk_at dksX0_used_0 22 rfl rfl)
theorem dX0_used_23 : decode cX0_used 23 = .ok (.ifCond .ne 5, 3) := dk_154 0 5 (dk_at dksX0_used_1 0 rfl rfl)
theorem dX0_used_26 : decode cX0_used 26 = .ok (.iconst 0, 1) := dk_3 (dk_at dksX0_used_1 3 rfl rfl)
theorem dX0_used_27 : decode cX0_used 27 = .ok (.ireturn, 1) := dk_172 (dk_at dksX0_used_1 4 rfl rfl)
theorem dX0_used_28 : decode cX0_used 28 = .ok (.iconst 1, 1) := dk_4 (dk_at dksX0_used_1 5 rfl rfl)
theorem dX0_used_29 : decode cX0_used 29 = .ok (.istore_n 1, 1) := dk_60 (dk_at dksX0_used_1 6 rfl rfl)
theorem dX0_used_30 : decode cX0_used 30 = .ok (.iconst 0, 1) := dk_3 (dk_at dksX0_used_1 7 rfl rfl)
theorem dX0_used_31 : decode cX0_used 31 = .ok (.istore_n 2, 1) := dk_61 (dk_at dksX0_used_1 8 rfl rfl)
theorem dX0_used_32 : decode cX0_used 32 = .ok (.iload_n 1, 1) := dk_27 (dk_at dksX0_used_1 9 rfl rfl)
theorem dX0_used_33 : decode cX0_used 33 = .ok (.iload_n 2, 1) := dk_28 (dk_at dksX0_used_1 10 rfl rfl)
theorem dX0_used_34 : decode cX0_used 34 = .ok (.if_icmp .eq 51, 3) := dk_159 0 51 (dk_at dksX0_used_1 11 rfl rfl)
theorem dX0_used_37 : decode cX0_used 37 = .ok (.iload_n 1, 1) := dk_27 (dk_at dksX0_used_1 14 rfl rfl)
theorem dX0_used_38 : decode cX0_used 38 = .ok (.istore_n 2, 1) := dk_61 (dk_at dksX0_used_1 15 rfl rfl)
theorem dX0_used_39 : decode cX0_used 39 = .ok (.iconst 0, 1) := dk_3 (dk_at dksX0_used_1 16 rfl rfl)
theorem dX0_used_40 : decode cX0_used 40 = .ok (.istore_n 3, 1) := dk_62 (dk_at dksX0_used_1 17 rfl rfl)
theorem dX0_used_41 : decode cX0_used 41 = .ok (.iload_n 3, 1) := dk_29 (dk_at dksX0_used_1 18 rfl rfl)
theorem dX0_used_42 : decode cX0_used 42 = .ok (.aload_n 0, 1) := dk_42 (dk_at dksX0_used_1 19 rfl rfl)
theorem dX0_used_43 : decode cX0_used 43 = .ok (.getfield 31, 3) := dk_180 0 31 (dk_at dksX0_used_1 20 rfl rfl)
theorem dX0_used_46 : decode cX0_used 46 = .ok (.getfield 35, 3) := dk_180 0 35 (dk_at dksX0_used_2 0 rfl rfl)
theorem dX0_used_49 : decode cX0_used 49 = .ok (.invokevirtual 47, 3) := dk_182 0 47 (dk_at dksX0_used_2 3 rfl rfl)
theorem dX0_used_52 : decode cX0_used 52 = .ok (.if_icmp .ge 30, 3) := dk_162 0 30 (dk_at dksX0_used_2 6 rfl rfl)
theorem dX0_used_55 : decode cX0_used 55 = .ok (.iload_n 1, 1) := dk_27 (dk_at dksX0_used_2 9 rfl rfl)
theorem dX0_used_56 : decode cX0_used 56 = .ok (.iload_n 2, 1) := dk_28 (dk_at dksX0_used_2 10 rfl rfl)
theorem dX0_used_57 : decode cX0_used 57 = .ok (.iload_n 3, 1) := dk_29 (dk_at dksX0_used_2 11 rfl rfl)
theorem dX0_used_58 : decode cX0_used 58 = .ok (.ishr, 1) := dk_122 (dk_at dksX0_used_2 12 rfl rfl)
theorem dX0_used_59 : decode cX0_used 59 = .ok (.iconst 1, 1) := dk_4 (dk_at dksX0_used_2 13 rfl rfl)
theorem dX0_used_60 : decode cX0_used 60 = .ok (.iand, 1) := dk_126 (dk_at dksX0_used_2 14 rfl rfl)
theorem dX0_used_61 : decode cX0_used 61 = .ok (.iconst 1, 1) := dk_4 (dk_at dksX0_used_2 15 rfl rfl)
theorem dX0_used_62 : decode cX0_used 62 = .ok (.if_icmp .ne 11, 3) := dk_160 0 11 (dk_at dksX0_used_2 16 rfl rfl)
theorem dX0_used_65 : decode cX0_used 65 = .ok (.aload_n 0, 1) := dk_42 (dk_at dksX0_used_2 19 rfl rfl)
theorem dX0_used_66 : decode cX0_used 66 = .ok (.iload_n 3, 1) := dk_29 (dk_at dksX0_used_2 20 rfl rfl)
theorem dX0_used_67 : decode cX0_used 67 = .ok (.invokevirtual 317, 3) := dk_182 1 61 (dk_at dksX0_used_2 21 rfl rfl)
theorem dX0_used_70 : decode cX0_used 70 = .ok (.goto 4, 3) := dk_167 0 4 (dk_at dksX0_used_3 0 rfl rfl)
theorem dX0_used_73 : decode cX0_used 73 = .ok (.iconst 0, 1) := dk_3 (dk_at dksX0_used_3 3 rfl rfl)
theorem dX0_used_74 : decode cX0_used 74 = .ok (.ior, 1) := dk_128 (dk_at dksX0_used_3 4 rfl rfl)
theorem dX0_used_75 : decode cX0_used 75 = .ok (.istore_n 1, 1) := dk_60 (dk_at dksX0_used_3 5 rfl rfl)
theorem dX0_used_76 : decode cX0_used 76 = .ok (.iinc 3 1, 3) := dk_132 3 1 (dk_at dksX0_used_3 6 rfl rfl)
theorem dX0_used_79 : decode cX0_used 79 = .ok (.goto (-38), 3) := dk_167 255 218 (dk_at dksX0_used_3 9 rfl rfl)
theorem dX0_used_82 : decode cX0_used 82 = .ok (.goto (-50), 3) := dk_167 255 206 (dk_at dksX0_used_3 12 rfl rfl)
theorem dX0_used_85 : decode cX0_used 85 = .ok (.iload_n 1, 1) := dk_27 (dk_at dksX0_used_3 15 rfl rfl)
theorem dX0_used_86 : decode cX0_used 86 = .ok (.ireturn, 1) := dk_172 (dk_at dksX0_used_3 16 rfl rfl)
abbrev cX0_comesTo : ByteArray := prog_1_method_55_code
def yX0_comesTo : MethodName := ⟨RX0, "comesTo", "(I)I"⟩
def dkwX0_comesTo_4 : List UInt8 := [21, 6, 46, 16, 8, 100, 120, 128, 61, 132, 6, 1, 167, 255, 200, 132, 4, 1, 167, 255, 165, 28, 172]
abbrev dktX0_comesTo_4 : List UInt8 := dkwX0_comesTo_4 ++ []
def dkwX0_comesTo_3 : List UInt8 := [25, 5, 180, 0, 62, 21, 6, 46, 16, 8, 162, 0, 7, 3, 167, 0, 16, 4, 25, 5, 180, 0, 62]
abbrev dktX0_comesTo_3 : List UInt8 := dkwX0_comesTo_3 ++ dktX0_comesTo_4
def dkwX0_comesTo_2 : List UInt8 := [54, 6, 21, 6, 25, 5, 180, 0, 62, 190, 162, 0, 51, 42, 25, 5, 182, 1, 54, 158, 0, 42, 28]
abbrev dktX0_comesTo_2 : List UInt8 := dkwX0_comesTo_2 ++ dktX0_comesTo_3
def dkwX0_comesTo_1 : List UInt8 := [180, 0, 57, 182, 0, 47, 162, 0, 85, 45, 180, 0, 57, 21, 4, 182, 0, 51, 192, 0, 60, 58, 5, 3]
abbrev dktX0_comesTo_1 : List UInt8 := dkwX0_comesTo_1 ++ dktX0_comesTo_2
def dkwX0_comesTo_0 : List UInt8 := [3, 61, 42, 180, 0, 31, 180, 0, 35, 27, 182, 0, 51, 192, 0, 55, 78, 3, 54, 4, 21, 4, 45]
abbrev dktX0_comesTo_0 : List UInt8 := dkwX0_comesTo_0 ++ dktX0_comesTo_1
theorem dksX0_comesTo_0 : cX0_comesTo.data.toList.drop 0 = dktX0_comesTo_0 := by decide +kernel
theorem dksX0_comesTo_1 : cX0_comesTo.data.toList.drop 23 = dktX0_comesTo_1 := dk_seg dksX0_comesTo_0 23 rfl rfl
theorem dksX0_comesTo_2 : cX0_comesTo.data.toList.drop 47 = dktX0_comesTo_2 := dk_seg dksX0_comesTo_1 24 rfl rfl
theorem dksX0_comesTo_3 : cX0_comesTo.data.toList.drop 70 = dktX0_comesTo_3 := dk_seg dksX0_comesTo_2 23 rfl rfl
theorem dksX0_comesTo_4 : cX0_comesTo.data.toList.drop 93 = dktX0_comesTo_4 := dk_seg dksX0_comesTo_3 23 rfl rfl
theorem dX0_comesTo_0 : decode cX0_comesTo 0 = .ok (.iconst 0, 1) := dk_3 (dk_at dksX0_comesTo_0 0 rfl rfl)
theorem dX0_comesTo_1 : decode cX0_comesTo 1 = .ok (.istore_n 2, 1) := dk_61 (dk_at dksX0_comesTo_0 1 rfl rfl)
theorem dX0_comesTo_2 : decode cX0_comesTo 2 = .ok (.aload_n 0, 1) := dk_42 (dk_at dksX0_comesTo_0 2 rfl rfl)
theorem dX0_comesTo_3 : decode cX0_comesTo 3 = .ok (.getfield 31, 3) := dk_180 0 31 (dk_at dksX0_comesTo_0 3 rfl rfl)
theorem dX0_comesTo_6 : decode cX0_comesTo 6 = .ok (.getfield 35, 3) := dk_180 0 35 (dk_at dksX0_comesTo_0 6 rfl rfl)
theorem dX0_comesTo_9 : decode cX0_comesTo 9 = .ok (.iload_n 1, 1) := dk_27 (dk_at dksX0_comesTo_0 9 rfl rfl)
theorem dX0_comesTo_10 : decode cX0_comesTo 10 = .ok (.invokevirtual 51, 3) := dk_182 0 51 (dk_at dksX0_comesTo_0 10 rfl rfl)
theorem dX0_comesTo_13 : decode cX0_comesTo 13 = .ok (.checkcast 55, 3) := dk_192 0 55 (dk_at dksX0_comesTo_0 13 rfl rfl)
theorem dX0_comesTo_16 : decode cX0_comesTo 16 = .ok (.astore_n 3, 1) := dk_78 (dk_at dksX0_comesTo_0 16 rfl rfl)
theorem dX0_comesTo_17 : decode cX0_comesTo 17 = .ok (.iconst 0, 1) := dk_3 (dk_at dksX0_comesTo_0 17 rfl rfl)
theorem dX0_comesTo_18 : decode cX0_comesTo 18 = .ok (.istore 4, 2) := dk_54 4 (dk_at dksX0_comesTo_0 18 rfl rfl)
theorem dX0_comesTo_20 : decode cX0_comesTo 20 = .ok (.iload 4, 2) := dk_21 4 (dk_at dksX0_comesTo_0 20 rfl rfl)
theorem dX0_comesTo_22 : decode cX0_comesTo 22 = .ok (.aload_n 3, 1) := dk_45 (dk_at dksX0_comesTo_0 22 rfl rfl)
theorem dX0_comesTo_23 : decode cX0_comesTo 23 = .ok (.getfield 57, 3) := dk_180 0 57 (dk_at dksX0_comesTo_1 0 rfl rfl)
theorem dX0_comesTo_26 : decode cX0_comesTo 26 = .ok (.invokevirtual 47, 3) := dk_182 0 47 (dk_at dksX0_comesTo_1 3 rfl rfl)
theorem dX0_comesTo_29 : decode cX0_comesTo 29 = .ok (.if_icmp .ge 85, 3) := dk_162 0 85 (dk_at dksX0_comesTo_1 6 rfl rfl)
theorem dX0_comesTo_32 : decode cX0_comesTo 32 = .ok (.aload_n 3, 1) := dk_45 (dk_at dksX0_comesTo_1 9 rfl rfl)
theorem dX0_comesTo_33 : decode cX0_comesTo 33 = .ok (.getfield 57, 3) := dk_180 0 57 (dk_at dksX0_comesTo_1 10 rfl rfl)
theorem dX0_comesTo_36 : decode cX0_comesTo 36 = .ok (.iload 4, 2) := dk_21 4 (dk_at dksX0_comesTo_1 13 rfl rfl)
theorem dX0_comesTo_38 : decode cX0_comesTo 38 = .ok (.invokevirtual 51, 3) := dk_182 0 51 (dk_at dksX0_comesTo_1 15 rfl rfl)
theorem dX0_comesTo_41 : decode cX0_comesTo 41 = .ok (.checkcast 60, 3) := dk_192 0 60 (dk_at dksX0_comesTo_1 18 rfl rfl)
theorem dX0_comesTo_44 : decode cX0_comesTo 44 = .ok (.astore 5, 2) := dk_58 5 (dk_at dksX0_comesTo_1 21 rfl rfl)
theorem dX0_comesTo_46 : decode cX0_comesTo 46 = .ok (.iconst 0, 1) := dk_3 (dk_at dksX0_comesTo_1 23 rfl rfl)
theorem dX0_comesTo_47 : decode cX0_comesTo 47 = .ok (.istore 6, 2) := dk_54 6 (dk_at dksX0_comesTo_2 0 rfl rfl)
theorem dX0_comesTo_49 : decode cX0_comesTo 49 = .ok (.iload 6, 2) := dk_21 6 (dk_at dksX0_comesTo_2 2 rfl rfl)
theorem dX0_comesTo_51 : decode cX0_comesTo 51 = .ok (.aload 5, 2) := dk_25 5 (dk_at dksX0_comesTo_2 4 rfl rfl)
theorem dX0_comesTo_53 : decode cX0_comesTo 53 = .ok (.getfield 62, 3) := dk_180 0 62 (dk_at dksX0_comesTo_2 6 rfl rfl)
theorem dX0_comesTo_56 : decode cX0_comesTo 56 = .ok (.arraylength, 1) := dk_190 (dk_at dksX0_comesTo_2 9 rfl rfl)
theorem dX0_comesTo_57 : decode cX0_comesTo 57 = .ok (.if_icmp .ge 51, 3) := dk_162 0 51 (dk_at dksX0_comesTo_2 10 rfl rfl)
theorem dX0_comesTo_60 : decode cX0_comesTo 60 = .ok (.aload_n 0, 1) := dk_42 (dk_at dksX0_comesTo_2 13 rfl rfl)
theorem dX0_comesTo_61 : decode cX0_comesTo 61 = .ok (.aload 5, 2) := dk_25 5 (dk_at dksX0_comesTo_2 14 rfl rfl)
theorem dX0_comesTo_63 : decode cX0_comesTo 63 = .ok (.invokevirtual 310, 3) := dk_182 1 54 (dk_at dksX0_comesTo_2 16 rfl rfl)
theorem dX0_comesTo_66 : decode cX0_comesTo 66 = .ok (.ifCond .le 42, 3) := dk_158 0 42 (dk_at dksX0_comesTo_2 19 rfl rfl)
theorem dX0_comesTo_69 : decode cX0_comesTo 69 = .ok (.iload_n 2, 1) := dk_28 (dk_at dksX0_comesTo_2 22 rfl rfl)
theorem dX0_comesTo_70 : decode cX0_comesTo 70 = .ok (.aload 5, 2) := dk_25 5 (dk_at dksX0_comesTo_3 0 rfl rfl)
theorem dX0_comesTo_72 : decode cX0_comesTo 72 = .ok (.getfield 62, 3) := dk_180 0 62 (dk_at dksX0_comesTo_3 2 rfl rfl)
theorem dX0_comesTo_75 : decode cX0_comesTo 75 = .ok (.iload 6, 2) := dk_21 6 (dk_at dksX0_comesTo_3 5 rfl rfl)
theorem dX0_comesTo_77 : decode cX0_comesTo 77 = .ok (.iaload, 1) := dk_46 (dk_at dksX0_comesTo_3 7 rfl rfl)
theorem dX0_comesTo_78 : decode cX0_comesTo 78 = .ok (.bipush 8, 2) := dk_16 8 (dk_at dksX0_comesTo_3 8 rfl rfl)
theorem dX0_comesTo_80 : decode cX0_comesTo 80 = .ok (.if_icmp .ge 7, 3) := dk_162 0 7 (dk_at dksX0_comesTo_3 10 rfl rfl)
theorem dX0_comesTo_83 : decode cX0_comesTo 83 = .ok (.iconst 0, 1) := dk_3 (dk_at dksX0_comesTo_3 13 rfl rfl)
theorem dX0_comesTo_84 : decode cX0_comesTo 84 = .ok (.goto 16, 3) := dk_167 0 16 (dk_at dksX0_comesTo_3 14 rfl rfl)
theorem dX0_comesTo_87 : decode cX0_comesTo 87 = .ok (.iconst 1, 1) := dk_4 (dk_at dksX0_comesTo_3 17 rfl rfl)
theorem dX0_comesTo_88 : decode cX0_comesTo 88 = .ok (.aload 5, 2) := dk_25 5 (dk_at dksX0_comesTo_3 18 rfl rfl)
theorem dX0_comesTo_90 : decode cX0_comesTo 90 = .ok (.getfield 62, 3) := dk_180 0 62 (dk_at dksX0_comesTo_3 20 rfl rfl)
theorem dX0_comesTo_93 : decode cX0_comesTo 93 = .ok (.iload 6, 2) := dk_21 6 (dk_at dksX0_comesTo_4 0 rfl rfl)
theorem dX0_comesTo_95 : decode cX0_comesTo 95 = .ok (.iaload, 1) := dk_46 (dk_at dksX0_comesTo_4 2 rfl rfl)
theorem dX0_comesTo_96 : decode cX0_comesTo 96 = .ok (.bipush 8, 2) := dk_16 8 (dk_at dksX0_comesTo_4 3 rfl rfl)
theorem dX0_comesTo_98 : decode cX0_comesTo 98 = .ok (.isub, 1) := dk_100 (dk_at dksX0_comesTo_4 5 rfl rfl)
theorem dX0_comesTo_99 : decode cX0_comesTo 99 = .ok (.ishl, 1) := dk_120 (dk_at dksX0_comesTo_4 6 rfl rfl)
theorem dX0_comesTo_100 : decode cX0_comesTo 100 = .ok (.ior, 1) := dk_128 (dk_at dksX0_comesTo_4 7 rfl rfl)
theorem dX0_comesTo_101 : decode cX0_comesTo 101 = .ok (.istore_n 2, 1) := dk_61 (dk_at dksX0_comesTo_4 8 rfl rfl)
theorem dX0_comesTo_102 : decode cX0_comesTo 102 = .ok (.iinc 6 1, 3) := dk_132 6 1 (dk_at dksX0_comesTo_4 9 rfl rfl)
theorem dX0_comesTo_105 : decode cX0_comesTo 105 = .ok (.goto (-56), 3) := dk_167 255 200 (dk_at dksX0_comesTo_4 12 rfl rfl)
theorem dX0_comesTo_108 : decode cX0_comesTo 108 = .ok (.iinc 4 1, 3) := dk_132 4 1 (dk_at dksX0_comesTo_4 15 rfl rfl)
theorem dX0_comesTo_111 : decode cX0_comesTo 111 = .ok (.goto (-91), 3) := dk_167 255 165 (dk_at dksX0_comesTo_4 18 rfl rfl)
theorem dX0_comesTo_114 : decode cX0_comesTo 114 = .ok (.iload_n 2, 1) := dk_28 (dk_at dksX0_comesTo_4 21 rfl rfl)
theorem dX0_comesTo_115 : decode cX0_comesTo 115 = .ok (.ireturn, 1) := dk_172 (dk_at dksX0_comesTo_4 22 rfl rfl)
abbrev cX0_doubtful : ByteArray := prog_1_method_57_code
def yX0_doubtful : MethodName := ⟨RX0, "doubtful", "()I"⟩
def dkwX0_doubtful_4 : List UInt8 := [180, 0, 178, 3, 182, 1, 21, 28, 172, 132, 1, 1, 167, 255, 180, 3, 172]
abbrev dktX0_doubtful_4 : List UInt8 := dkwX0_doubtful_4 ++ []
def dkwX0_doubtful_3 : List UInt8 := [42, 42, 180, 0, 31, 182, 0, 65, 182, 0, 68, 136, 61, 28, 5, 162, 0, 6, 167, 0, 15, 42, 27, 42]
abbrev dktX0_doubtful_3 : List UInt8 := dkwX0_doubtful_3 ++ dktX0_doubtful_4
def dkwX0_doubtful_2 : List UInt8 := [167, 0, 57, 42, 42, 27, 42, 180, 0, 178, 3, 182, 0, 135, 42, 180, 0, 31, 182, 0, 65, 182, 0, 104]
abbrev dktX0_doubtful_2 : List UInt8 := dkwX0_doubtful_2 ++ dktX0_doubtful_3
def dkwX0_doubtful_1 : List UInt8 := [153, 0, 6, 16, 254, 172, 3, 60, 27, 42, 180, 0, 91, 162, 0, 74, 42, 27, 182, 0, 132, 154, 0, 6]
abbrev dktX0_doubtful_1 : List UInt8 := dkwX0_doubtful_1 ++ dktX0_doubtful_2
def dkwX0_doubtful_0 : List UInt8 := [42, 3, 181, 0, 218, 42, 42, 180, 0, 178, 3, 1, 182, 1, 13, 154, 0, 5, 3, 172, 42, 180, 0, 83]
abbrev dktX0_doubtful_0 : List UInt8 := dkwX0_doubtful_0 ++ dktX0_doubtful_1
theorem dksX0_doubtful_0 : cX0_doubtful.data.toList.drop 0 = dktX0_doubtful_0 := by decide +kernel
theorem dksX0_doubtful_1 : cX0_doubtful.data.toList.drop 24 = dktX0_doubtful_1 := dk_seg dksX0_doubtful_0 24 rfl rfl
theorem dksX0_doubtful_2 : cX0_doubtful.data.toList.drop 48 = dktX0_doubtful_2 := dk_seg dksX0_doubtful_1 24 rfl rfl
theorem dksX0_doubtful_3 : cX0_doubtful.data.toList.drop 72 = dktX0_doubtful_3 := dk_seg dksX0_doubtful_2 24 rfl rfl
theorem dksX0_doubtful_4 : cX0_doubtful.data.toList.drop 96 = dktX0_doubtful_4 := dk_seg dksX0_doubtful_3 24 rfl rfl
theorem dX0_doubtful_0 : decode cX0_doubtful 0 = .ok (.aload_n 0, 1) := dk_42 (dk_at dksX0_doubtful_0 0 rfl rfl)
theorem dX0_doubtful_1 : decode cX0_doubtful 1 = .ok (.iconst 0, 1) := dk_3 (dk_at dksX0_doubtful_0 1 rfl rfl)
theorem dX0_doubtful_2 : decode cX0_doubtful 2 = .ok (.putfield 218, 3) := dk_181 0 218 (dk_at dksX0_doubtful_0 2 rfl rfl)
theorem dX0_doubtful_5 : decode cX0_doubtful 5 = .ok (.aload_n 0, 1) := dk_42 (dk_at dksX0_doubtful_0 5 rfl rfl)
theorem dX0_doubtful_6 : decode cX0_doubtful 6 = .ok (.aload_n 0, 1) := dk_42 (dk_at dksX0_doubtful_0 6 rfl rfl)
theorem dX0_doubtful_7 : decode cX0_doubtful 7 = .ok (.getfield 178, 3) := dk_180 0 178 (dk_at dksX0_doubtful_0 7 rfl rfl)
theorem dX0_doubtful_10 : decode cX0_doubtful 10 = .ok (.iconst 0, 1) := dk_3 (dk_at dksX0_doubtful_0 10 rfl rfl)
theorem dX0_doubtful_11 : decode cX0_doubtful 11 = .ok (.aconst_null, 1) := dk_1 (dk_at dksX0_doubtful_0 11 rfl rfl)
theorem dX0_doubtful_12 : decode cX0_doubtful 12 = .ok (.invokevirtual 269, 3) := dk_182 1 13 (dk_at dksX0_doubtful_0 12 rfl rfl)
theorem dX0_doubtful_15 : decode cX0_doubtful 15 = .ok (.ifCond .ne 5, 3) := dk_154 0 5 (dk_at dksX0_doubtful_0 15 rfl rfl)
theorem dX0_doubtful_18 : decode cX0_doubtful 18 = .ok (.iconst 0, 1) := dk_3 (dk_at dksX0_doubtful_0 18 rfl rfl)
theorem dX0_doubtful_19 : decode cX0_doubtful 19 = .ok (.ireturn, 1) := dk_172 (dk_at dksX0_doubtful_0 19 rfl rfl)
theorem dX0_doubtful_20 : decode cX0_doubtful 20 = .ok (.aload_n 0, 1) := dk_42 (dk_at dksX0_doubtful_0 20 rfl rfl)
theorem dX0_doubtful_21 : decode cX0_doubtful 21 = .ok (.getfield 83, 3) := dk_180 0 83 (dk_at dksX0_doubtful_0 21 rfl rfl)
theorem dX0_doubtful_24 : decode cX0_doubtful 24 = .ok (.ifCond .eq 6, 3) := dk_153 0 6 (dk_at dksX0_doubtful_1 0 rfl rfl)
theorem dX0_doubtful_27 : decode cX0_doubtful 27 = .ok (.bipush (-2), 2) := dk_16 254 (dk_at dksX0_doubtful_1 3 rfl rfl)
theorem dX0_doubtful_29 : decode cX0_doubtful 29 = .ok (.ireturn, 1) := dk_172 (dk_at dksX0_doubtful_1 5 rfl rfl)
theorem dX0_doubtful_30 : decode cX0_doubtful 30 = .ok (.iconst 0, 1) := dk_3 (dk_at dksX0_doubtful_1 6 rfl rfl)
theorem dX0_doubtful_31 : decode cX0_doubtful 31 = .ok (.istore_n 1, 1) := dk_60 (dk_at dksX0_doubtful_1 7 rfl rfl)
theorem dX0_doubtful_32 : decode cX0_doubtful 32 = .ok (.iload_n 1, 1) := dk_27 (dk_at dksX0_doubtful_1 8 rfl rfl)
theorem dX0_doubtful_33 : decode cX0_doubtful 33 = .ok (.aload_n 0, 1) := dk_42 (dk_at dksX0_doubtful_1 9 rfl rfl)
theorem dX0_doubtful_34 : decode cX0_doubtful 34 = .ok (.getfield 91, 3) := dk_180 0 91 (dk_at dksX0_doubtful_1 10 rfl rfl)
theorem dX0_doubtful_37 : decode cX0_doubtful 37 = .ok (.if_icmp .ge 74, 3) := dk_162 0 74 (dk_at dksX0_doubtful_1 13 rfl rfl)
theorem dX0_doubtful_40 : decode cX0_doubtful 40 = .ok (.aload_n 0, 1) := dk_42 (dk_at dksX0_doubtful_1 16 rfl rfl)
theorem dX0_doubtful_41 : decode cX0_doubtful 41 = .ok (.iload_n 1, 1) := dk_27 (dk_at dksX0_doubtful_1 17 rfl rfl)
theorem dX0_doubtful_42 : decode cX0_doubtful 42 = .ok (.invokevirtual 132, 3) := dk_182 0 132 (dk_at dksX0_doubtful_1 18 rfl rfl)
theorem dX0_doubtful_45 : decode cX0_doubtful 45 = .ok (.ifCond .ne 6, 3) := dk_154 0 6 (dk_at dksX0_doubtful_1 21 rfl rfl)
theorem dX0_doubtful_48 : decode cX0_doubtful 48 = .ok (.goto 57, 3) := dk_167 0 57 (dk_at dksX0_doubtful_2 0 rfl rfl)
theorem dX0_doubtful_51 : decode cX0_doubtful 51 = .ok (.aload_n 0, 1) := dk_42 (dk_at dksX0_doubtful_2 3 rfl rfl)
theorem dX0_doubtful_52 : decode cX0_doubtful 52 = .ok (.aload_n 0, 1) := dk_42 (dk_at dksX0_doubtful_2 4 rfl rfl)
theorem dX0_doubtful_53 : decode cX0_doubtful 53 = .ok (.iload_n 1, 1) := dk_27 (dk_at dksX0_doubtful_2 5 rfl rfl)
theorem dX0_doubtful_54 : decode cX0_doubtful 54 = .ok (.aload_n 0, 1) := dk_42 (dk_at dksX0_doubtful_2 6 rfl rfl)
theorem dX0_doubtful_55 : decode cX0_doubtful 55 = .ok (.getfield 178, 3) := dk_180 0 178 (dk_at dksX0_doubtful_2 7 rfl rfl)
theorem dX0_doubtful_58 : decode cX0_doubtful 58 = .ok (.iconst 0, 1) := dk_3 (dk_at dksX0_doubtful_2 10 rfl rfl)
theorem dX0_doubtful_59 : decode cX0_doubtful 59 = .ok (.invokevirtual 135, 3) := dk_182 0 135 (dk_at dksX0_doubtful_2 11 rfl rfl)
theorem dX0_doubtful_62 : decode cX0_doubtful 62 = .ok (.aload_n 0, 1) := dk_42 (dk_at dksX0_doubtful_2 14 rfl rfl)
theorem dX0_doubtful_63 : decode cX0_doubtful 63 = .ok (.getfield 31, 3) := dk_180 0 31 (dk_at dksX0_doubtful_2 15 rfl rfl)
theorem dX0_doubtful_66 : decode cX0_doubtful 66 = .ok (.invokevirtual 65, 3) := dk_182 0 65 (dk_at dksX0_doubtful_2 18 rfl rfl)
theorem dX0_doubtful_69 : decode cX0_doubtful 69 = .ok (.invokevirtual 104, 3) := dk_182 0 104 (dk_at dksX0_doubtful_2 21 rfl rfl)
theorem dX0_doubtful_72 : decode cX0_doubtful 72 = .ok (.aload_n 0, 1) := dk_42 (dk_at dksX0_doubtful_3 0 rfl rfl)
theorem dX0_doubtful_73 : decode cX0_doubtful 73 = .ok (.aload_n 0, 1) := dk_42 (dk_at dksX0_doubtful_3 1 rfl rfl)
theorem dX0_doubtful_74 : decode cX0_doubtful 74 = .ok (.getfield 31, 3) := dk_180 0 31 (dk_at dksX0_doubtful_3 2 rfl rfl)
theorem dX0_doubtful_77 : decode cX0_doubtful 77 = .ok (.invokevirtual 65, 3) := dk_182 0 65 (dk_at dksX0_doubtful_3 5 rfl rfl)
theorem dX0_doubtful_80 : decode cX0_doubtful 80 = .ok (.invokevirtual 68, 3) := dk_182 0 68 (dk_at dksX0_doubtful_3 8 rfl rfl)
theorem dX0_doubtful_83 : decode cX0_doubtful 83 = .ok (.l2i, 1) := dk_136 (dk_at dksX0_doubtful_3 11 rfl rfl)
theorem dX0_doubtful_84 : decode cX0_doubtful 84 = .ok (.istore_n 2, 1) := dk_61 (dk_at dksX0_doubtful_3 12 rfl rfl)
theorem dX0_doubtful_85 : decode cX0_doubtful 85 = .ok (.iload_n 2, 1) := dk_28 (dk_at dksX0_doubtful_3 13 rfl rfl)
theorem dX0_doubtful_86 : decode cX0_doubtful 86 = .ok (.iconst 2, 1) := dk_5 (dk_at dksX0_doubtful_3 14 rfl rfl)
theorem dX0_doubtful_87 : decode cX0_doubtful 87 = .ok (.if_icmp .ge 6, 3) := dk_162 0 6 (dk_at dksX0_doubtful_3 15 rfl rfl)
theorem dX0_doubtful_90 : decode cX0_doubtful 90 = .ok (.goto 15, 3) := dk_167 0 15 (dk_at dksX0_doubtful_3 18 rfl rfl)
theorem dX0_doubtful_93 : decode cX0_doubtful 93 = .ok (.aload_n 0, 1) := dk_42 (dk_at dksX0_doubtful_3 21 rfl rfl)
theorem dX0_doubtful_94 : decode cX0_doubtful 94 = .ok (.iload_n 1, 1) := dk_27 (dk_at dksX0_doubtful_3 22 rfl rfl)
theorem dX0_doubtful_95 : decode cX0_doubtful 95 = .ok (.aload_n 0, 1) := dk_42 (dk_at dksX0_doubtful_3 23 rfl rfl)
theorem dX0_doubtful_96 : decode cX0_doubtful 96 = .ok (.getfield 178, 3) := dk_180 0 178 (dk_at dksX0_doubtful_4 0 rfl rfl)
theorem dX0_doubtful_99 : decode cX0_doubtful 99 = .ok (.iconst 0, 1) := dk_3 (dk_at dksX0_doubtful_4 3 rfl rfl)
theorem dX0_doubtful_100 : decode cX0_doubtful 100 = .ok (.invokevirtual 277, 3) := dk_182 1 21 (dk_at dksX0_doubtful_4 4 rfl rfl)
theorem dX0_doubtful_103 : decode cX0_doubtful 103 = .ok (.iload_n 2, 1) := dk_28 (dk_at dksX0_doubtful_4 7 rfl rfl)
theorem dX0_doubtful_104 : decode cX0_doubtful 104 = .ok (.ireturn, 1) := dk_172 (dk_at dksX0_doubtful_4 8 rfl rfl)
theorem dX0_doubtful_105 : decode cX0_doubtful 105 = .ok (.iinc 1 1, 3) := dk_132 1 1 (dk_at dksX0_doubtful_4 9 rfl rfl)
theorem dX0_doubtful_108 : decode cX0_doubtful 108 = .ok (.goto (-76), 3) := dk_167 255 180 (dk_at dksX0_doubtful_4 12 rfl rfl)
theorem dX0_doubtful_111 : decode cX0_doubtful 111 = .ok (.iconst 0, 1) := dk_3 (dk_at dksX0_doubtful_4 15 rfl rfl)
theorem dX0_doubtful_112 : decode cX0_doubtful 112 = .ok (.ireturn, 1) := dk_172 (dk_at dksX0_doubtful_4 16 rfl rfl)
abbrev cX0_lots : ByteArray := prog_1_method_60_code
def yX0_lots : MethodName := ⟨RX0, "lots", "(I)I"⟩
def dkwX0_lots_2 : List UInt8 := [180, 0, 178, 3, 27, 182, 0, 143, 96, 61, 132, 3, 1, 167, 255, 229, 28, 172]
abbrev dktX0_lots_2 : List UInt8 := dkwX0_lots_2 ++ []
def dkwX0_lots_1 : List UInt8 := [153, 0, 6, 18, 245, 172, 3, 61, 3, 62, 29, 16, 6, 162, 0, 27, 28, 42, 42, 29, 182, 1, 64, 42]
abbrev dktX0_lots_1 : List UInt8 := dkwX0_lots_1 ++ dktX0_lots_2
def dkwX0_lots_0 : List UInt8 := [27, 184, 0, 242, 153, 0, 23, 42, 42, 180, 0, 178, 3, 1, 182, 1, 13, 153, 0, 10, 42, 180, 0, 83]
abbrev dktX0_lots_0 : List UInt8 := dkwX0_lots_0 ++ dktX0_lots_1
theorem dksX0_lots_0 : cX0_lots.data.toList.drop 0 = dktX0_lots_0 := by decide +kernel
theorem dksX0_lots_1 : cX0_lots.data.toList.drop 24 = dktX0_lots_1 := dk_seg dksX0_lots_0 24 rfl rfl
theorem dksX0_lots_2 : cX0_lots.data.toList.drop 48 = dktX0_lots_2 := dk_seg dksX0_lots_1 24 rfl rfl
theorem dX0_lots_0 : decode cX0_lots 0 = .ok (.iload_n 1, 1) := dk_27 (dk_at dksX0_lots_0 0 rfl rfl)
theorem dX0_lots_1 : decode cX0_lots 1 = .ok (.invokestatic 242, 3) := dk_184 0 242 (dk_at dksX0_lots_0 1 rfl rfl)
theorem dX0_lots_4 : decode cX0_lots 4 = .ok (.ifCond .eq 23, 3) := dk_153 0 23 (dk_at dksX0_lots_0 4 rfl rfl)
theorem dX0_lots_7 : decode cX0_lots 7 = .ok (.aload_n 0, 1) := dk_42 (dk_at dksX0_lots_0 7 rfl rfl)
theorem dX0_lots_8 : decode cX0_lots 8 = .ok (.aload_n 0, 1) := dk_42 (dk_at dksX0_lots_0 8 rfl rfl)
theorem dX0_lots_9 : decode cX0_lots 9 = .ok (.getfield 178, 3) := dk_180 0 178 (dk_at dksX0_lots_0 9 rfl rfl)
theorem dX0_lots_12 : decode cX0_lots 12 = .ok (.iconst 0, 1) := dk_3 (dk_at dksX0_lots_0 12 rfl rfl)
theorem dX0_lots_13 : decode cX0_lots 13 = .ok (.aconst_null, 1) := dk_1 (dk_at dksX0_lots_0 13 rfl rfl)
theorem dX0_lots_14 : decode cX0_lots 14 = .ok (.invokevirtual 269, 3) := dk_182 1 13 (dk_at dksX0_lots_0 14 rfl rfl)
theorem dX0_lots_17 : decode cX0_lots 17 = .ok (.ifCond .eq 10, 3) := dk_153 0 10 (dk_at dksX0_lots_0 17 rfl rfl)
theorem dX0_lots_20 : decode cX0_lots 20 = .ok (.aload_n 0, 1) := dk_42 (dk_at dksX0_lots_0 20 rfl rfl)
theorem dX0_lots_21 : decode cX0_lots 21 = .ok (.getfield 83, 3) := dk_180 0 83 (dk_at dksX0_lots_0 21 rfl rfl)
theorem dX0_lots_24 : decode cX0_lots 24 = .ok (.ifCond .eq 6, 3) := dk_153 0 6 (dk_at dksX0_lots_1 0 rfl rfl)
theorem dX0_lots_27 : decode cX0_lots 27 = .ok (.ldc 245, 2) := dk_18 245 (dk_at dksX0_lots_1 3 rfl rfl)
theorem dX0_lots_29 : decode cX0_lots 29 = .ok (.ireturn, 1) := dk_172 (dk_at dksX0_lots_1 5 rfl rfl)
theorem dX0_lots_30 : decode cX0_lots 30 = .ok (.iconst 0, 1) := dk_3 (dk_at dksX0_lots_1 6 rfl rfl)
theorem dX0_lots_31 : decode cX0_lots 31 = .ok (.istore_n 2, 1) := dk_61 (dk_at dksX0_lots_1 7 rfl rfl)
theorem dX0_lots_32 : decode cX0_lots 32 = .ok (.iconst 0, 1) := dk_3 (dk_at dksX0_lots_1 8 rfl rfl)
theorem dX0_lots_33 : decode cX0_lots 33 = .ok (.istore_n 3, 1) := dk_62 (dk_at dksX0_lots_1 9 rfl rfl)
theorem dX0_lots_34 : decode cX0_lots 34 = .ok (.iload_n 3, 1) := dk_29 (dk_at dksX0_lots_1 10 rfl rfl)
theorem dX0_lots_35 : decode cX0_lots 35 = .ok (.bipush 6, 2) := dk_16 6 (dk_at dksX0_lots_1 11 rfl rfl)
theorem dX0_lots_37 : decode cX0_lots 37 = .ok (.if_icmp .ge 27, 3) := dk_162 0 27 (dk_at dksX0_lots_1 13 rfl rfl)
theorem dX0_lots_40 : decode cX0_lots 40 = .ok (.iload_n 2, 1) := dk_28 (dk_at dksX0_lots_1 16 rfl rfl)
theorem dX0_lots_41 : decode cX0_lots 41 = .ok (.aload_n 0, 1) := dk_42 (dk_at dksX0_lots_1 17 rfl rfl)
theorem dX0_lots_42 : decode cX0_lots 42 = .ok (.aload_n 0, 1) := dk_42 (dk_at dksX0_lots_1 18 rfl rfl)
theorem dX0_lots_43 : decode cX0_lots 43 = .ok (.iload_n 3, 1) := dk_29 (dk_at dksX0_lots_1 19 rfl rfl)
theorem dX0_lots_44 : decode cX0_lots 44 = .ok (.invokevirtual 320, 3) := dk_182 1 64 (dk_at dksX0_lots_1 20 rfl rfl)
theorem dX0_lots_47 : decode cX0_lots 47 = .ok (.aload_n 0, 1) := dk_42 (dk_at dksX0_lots_1 23 rfl rfl)
theorem dX0_lots_48 : decode cX0_lots 48 = .ok (.getfield 178, 3) := dk_180 0 178 (dk_at dksX0_lots_2 0 rfl rfl)
theorem dX0_lots_51 : decode cX0_lots 51 = .ok (.iconst 0, 1) := dk_3 (dk_at dksX0_lots_2 3 rfl rfl)
theorem dX0_lots_52 : decode cX0_lots 52 = .ok (.iload_n 1, 1) := dk_27 (dk_at dksX0_lots_2 4 rfl rfl)
theorem dX0_lots_53 : decode cX0_lots 53 = .ok (.invokevirtual 143, 3) := dk_182 0 143 (dk_at dksX0_lots_2 5 rfl rfl)
theorem dX0_lots_56 : decode cX0_lots 56 = .ok (.iadd, 1) := dk_96 (dk_at dksX0_lots_2 8 rfl rfl)
theorem dX0_lots_57 : decode cX0_lots 57 = .ok (.istore_n 2, 1) := dk_61 (dk_at dksX0_lots_2 9 rfl rfl)
theorem dX0_lots_58 : decode cX0_lots 58 = .ok (.iinc 3 1, 3) := dk_132 3 1 (dk_at dksX0_lots_2 10 rfl rfl)
theorem dX0_lots_61 : decode cX0_lots 61 = .ok (.goto (-27), 3) := dk_167 255 229 (dk_at dksX0_lots_2 13 rfl rfl)
theorem dX0_lots_64 : decode cX0_lots 64 = .ok (.iload_n 2, 1) := dk_28 (dk_at dksX0_lots_2 16 rfl rfl)
theorem dX0_lots_65 : decode cX0_lots 65 = .ok (.ireturn, 1) := dk_172 (dk_at dksX0_lots_2 17 rfl rfl)
abbrev cX0_writeBy : ByteArray := prog_1_method_59_code
def yX0_writeBy : MethodName := ⟨RX0, "writeBy", "(I)I"⟩
def dkwX0_writeBy_1 : List UInt8 := [167, 255, 236, 42, 42, 180, 0, 178, 3, 42, 180, 0, 172, 182, 1, 17, 172]
abbrev dktX0_writeBy_1 : List UInt8 := dkwX0_writeBy_1 ++ []
def dkwX0_writeBy_0 : List UInt8 := [3, 61, 28, 16, 6, 162, 0, 20, 42, 180, 0, 172, 28, 27, 28, 184, 1, 41, 79, 132, 2, 1]
abbrev dktX0_writeBy_0 : List UInt8 := dkwX0_writeBy_0 ++ dktX0_writeBy_1
theorem dksX0_writeBy_0 : cX0_writeBy.data.toList.drop 0 = dktX0_writeBy_0 := by decide +kernel
theorem dksX0_writeBy_1 : cX0_writeBy.data.toList.drop 22 = dktX0_writeBy_1 := dk_seg dksX0_writeBy_0 22 rfl rfl
theorem dX0_writeBy_0 : decode cX0_writeBy 0 = .ok (.iconst 0, 1) := dk_3 (dk_at dksX0_writeBy_0 0 rfl rfl)
theorem dX0_writeBy_1 : decode cX0_writeBy 1 = .ok (.istore_n 2, 1) := dk_61 (dk_at dksX0_writeBy_0 1 rfl rfl)
theorem dX0_writeBy_2 : decode cX0_writeBy 2 = .ok (.iload_n 2, 1) := dk_28 (dk_at dksX0_writeBy_0 2 rfl rfl)
theorem dX0_writeBy_3 : decode cX0_writeBy 3 = .ok (.bipush 6, 2) := dk_16 6 (dk_at dksX0_writeBy_0 3 rfl rfl)
theorem dX0_writeBy_5 : decode cX0_writeBy 5 = .ok (.if_icmp .ge 20, 3) := dk_162 0 20 (dk_at dksX0_writeBy_0 5 rfl rfl)
theorem dX0_writeBy_8 : decode cX0_writeBy 8 = .ok (.aload_n 0, 1) := dk_42 (dk_at dksX0_writeBy_0 8 rfl rfl)
theorem dX0_writeBy_9 : decode cX0_writeBy 9 = .ok (.getfield 172, 3) := dk_180 0 172 (dk_at dksX0_writeBy_0 9 rfl rfl)
theorem dX0_writeBy_12 : decode cX0_writeBy 12 = .ok (.iload_n 2, 1) := dk_28 (dk_at dksX0_writeBy_0 12 rfl rfl)
theorem dX0_writeBy_13 : decode cX0_writeBy 13 = .ok (.iload_n 1, 1) := dk_27 (dk_at dksX0_writeBy_0 13 rfl rfl)
theorem dX0_writeBy_14 : decode cX0_writeBy 14 = .ok (.iload_n 2, 1) := dk_28 (dk_at dksX0_writeBy_0 14 rfl rfl)
theorem dX0_writeBy_15 : decode cX0_writeBy 15 = .ok (.invokestatic 297, 3) := dk_184 1 41 (dk_at dksX0_writeBy_0 15 rfl rfl)
theorem dX0_writeBy_18 : decode cX0_writeBy 18 = .ok (.iastore, 1) := dk_79 (dk_at dksX0_writeBy_0 18 rfl rfl)
theorem dX0_writeBy_19 : decode cX0_writeBy 19 = .ok (.iinc 2 1, 3) := dk_132 2 1 (dk_at dksX0_writeBy_0 19 rfl rfl)
theorem dX0_writeBy_22 : decode cX0_writeBy 22 = .ok (.goto (-20), 3) := dk_167 255 236 (dk_at dksX0_writeBy_1 0 rfl rfl)
theorem dX0_writeBy_25 : decode cX0_writeBy 25 = .ok (.aload_n 0, 1) := dk_42 (dk_at dksX0_writeBy_1 3 rfl rfl)
theorem dX0_writeBy_26 : decode cX0_writeBy 26 = .ok (.aload_n 0, 1) := dk_42 (dk_at dksX0_writeBy_1 4 rfl rfl)
theorem dX0_writeBy_27 : decode cX0_writeBy 27 = .ok (.getfield 178, 3) := dk_180 0 178 (dk_at dksX0_writeBy_1 5 rfl rfl)
theorem dX0_writeBy_30 : decode cX0_writeBy 30 = .ok (.iconst 0, 1) := dk_3 (dk_at dksX0_writeBy_1 8 rfl rfl)
theorem dX0_writeBy_31 : decode cX0_writeBy 31 = .ok (.aload_n 0, 1) := dk_42 (dk_at dksX0_writeBy_1 9 rfl rfl)
theorem dX0_writeBy_32 : decode cX0_writeBy 32 = .ok (.getfield 172, 3) := dk_180 0 172 (dk_at dksX0_writeBy_1 10 rfl rfl)
theorem dX0_writeBy_35 : decode cX0_writeBy 35 = .ok (.invokevirtual 273, 3) := dk_182 1 17 (dk_at dksX0_writeBy_1 13 rfl rfl)
theorem dX0_writeBy_38 : decode cX0_writeBy 38 = .ok (.ireturn, 1) := dk_172 (dk_at dksX0_writeBy_1 16 rfl rfl)
abbrev cX0_hole : ByteArray := prog_1_method_61_code
def yX0_hole : MethodName := ⟨RX0, "hole", "(II)Z"⟩
def dkwX0_hole_1 : List UInt8 := [180, 0, 184, 27, 28, 79, 4, 172]
abbrev dktX0_hole_1 : List UInt8 := dkwX0_hole_1 ++ []
def dkwX0_hole_0 : List UInt8 := [42, 27, 182, 1, 4, 153, 0, 16, 28, 2, 159, 0, 13, 42, 28, 182, 0, 239, 154, 0, 5, 3, 172, 42]
abbrev dktX0_hole_0 : List UInt8 := dkwX0_hole_0 ++ dktX0_hole_1
theorem dksX0_hole_0 : cX0_hole.data.toList.drop 0 = dktX0_hole_0 := by decide +kernel
theorem dksX0_hole_1 : cX0_hole.data.toList.drop 24 = dktX0_hole_1 := dk_seg dksX0_hole_0 24 rfl rfl
theorem dX0_hole_0 : decode cX0_hole 0 = .ok (.aload_n 0, 1) := dk_42 (dk_at dksX0_hole_0 0 rfl rfl)
theorem dX0_hole_1 : decode cX0_hole 1 = .ok (.iload_n 1, 1) := dk_27 (dk_at dksX0_hole_0 1 rfl rfl)
theorem dX0_hole_2 : decode cX0_hole 2 = .ok (.invokevirtual 260, 3) := dk_182 1 4 (dk_at dksX0_hole_0 2 rfl rfl)
theorem dX0_hole_5 : decode cX0_hole 5 = .ok (.ifCond .eq 16, 3) := dk_153 0 16 (dk_at dksX0_hole_0 5 rfl rfl)
theorem dX0_hole_8 : decode cX0_hole 8 = .ok (.iload_n 2, 1) := dk_28 (dk_at dksX0_hole_0 8 rfl rfl)
theorem dX0_hole_9 : decode cX0_hole 9 = .ok (.iconst (-1), 1) := dk_2 (dk_at dksX0_hole_0 9 rfl rfl)
theorem dX0_hole_10 : decode cX0_hole 10 = .ok (.if_icmp .eq 13, 3) := dk_159 0 13 (dk_at dksX0_hole_0 10 rfl rfl)
theorem dX0_hole_13 : decode cX0_hole 13 = .ok (.aload_n 0, 1) := dk_42 (dk_at dksX0_hole_0 13 rfl rfl)
theorem dX0_hole_14 : decode cX0_hole 14 = .ok (.iload_n 2, 1) := dk_28 (dk_at dksX0_hole_0 14 rfl rfl)
theorem dX0_hole_15 : decode cX0_hole 15 = .ok (.invokevirtual 239, 3) := dk_182 0 239 (dk_at dksX0_hole_0 15 rfl rfl)
theorem dX0_hole_18 : decode cX0_hole 18 = .ok (.ifCond .ne 5, 3) := dk_154 0 5 (dk_at dksX0_hole_0 18 rfl rfl)
theorem dX0_hole_21 : decode cX0_hole 21 = .ok (.iconst 0, 1) := dk_3 (dk_at dksX0_hole_0 21 rfl rfl)
theorem dX0_hole_22 : decode cX0_hole 22 = .ok (.ireturn, 1) := dk_172 (dk_at dksX0_hole_0 22 rfl rfl)
theorem dX0_hole_23 : decode cX0_hole 23 = .ok (.aload_n 0, 1) := dk_42 (dk_at dksX0_hole_0 23 rfl rfl)
theorem dX0_hole_24 : decode cX0_hole 24 = .ok (.getfield 184, 3) := dk_180 0 184 (dk_at dksX0_hole_1 0 rfl rfl)
theorem dX0_hole_27 : decode cX0_hole 27 = .ok (.iload_n 1, 1) := dk_27 (dk_at dksX0_hole_1 3 rfl rfl)
theorem dX0_hole_28 : decode cX0_hole 28 = .ok (.iload_n 2, 1) := dk_28 (dk_at dksX0_hole_1 4 rfl rfl)
theorem dX0_hole_29 : decode cX0_hole 29 = .ok (.iastore, 1) := dk_79 (dk_at dksX0_hole_1 5 rfl rfl)
theorem dX0_hole_30 : decode cX0_hole 30 = .ok (.iconst 1, 1) := dk_4 (dk_at dksX0_hole_1 6 rfl rfl)
theorem dX0_hole_31 : decode cX0_hole 31 = .ok (.ireturn, 1) := dk_172 (dk_at dksX0_hole_1 7 rfl rfl)
abbrev cX0_fit : ByteArray := prog_1_method_62_code
def yX0_fit : MethodName := ⟨RX0, "fit", "()I"⟩
def dkwX0_fit_2 : List UInt8 := [153, 0, 7, 4, 167, 0, 4, 3, 96, 60, 132, 2, 1, 167, 255, 229, 27, 172]
abbrev dktX0_fit_2 : List UInt8 := dkwX0_fit_2 ++ []
def dkwX0_fit_1 : List UInt8 := [153, 0, 6, 16, 254, 172, 3, 60, 3, 61, 28, 42, 180, 0, 91, 162, 0, 25, 27, 42, 28, 182, 0, 132]
abbrev dktX0_fit_1 : List UInt8 := dkwX0_fit_1 ++ dktX0_fit_2
def dkwX0_fit_0 : List UInt8 := [42, 42, 180, 0, 178, 3, 42, 180, 0, 184, 182, 1, 13, 154, 0, 5, 3, 172, 42, 180, 0, 83]
abbrev dktX0_fit_0 : List UInt8 := dkwX0_fit_0 ++ dktX0_fit_1
theorem dksX0_fit_0 : cX0_fit.data.toList.drop 0 = dktX0_fit_0 := by decide +kernel
theorem dksX0_fit_1 : cX0_fit.data.toList.drop 22 = dktX0_fit_1 := dk_seg dksX0_fit_0 22 rfl rfl
theorem dksX0_fit_2 : cX0_fit.data.toList.drop 46 = dktX0_fit_2 := dk_seg dksX0_fit_1 24 rfl rfl
theorem dX0_fit_0 : decode cX0_fit 0 = .ok (.aload_n 0, 1) := dk_42 (dk_at dksX0_fit_0 0 rfl rfl)
theorem dX0_fit_1 : decode cX0_fit 1 = .ok (.aload_n 0, 1) := dk_42 (dk_at dksX0_fit_0 1 rfl rfl)
theorem dX0_fit_2 : decode cX0_fit 2 = .ok (.getfield 178, 3) := dk_180 0 178 (dk_at dksX0_fit_0 2 rfl rfl)
theorem dX0_fit_5 : decode cX0_fit 5 = .ok (.iconst 0, 1) := dk_3 (dk_at dksX0_fit_0 5 rfl rfl)
theorem dX0_fit_6 : decode cX0_fit 6 = .ok (.aload_n 0, 1) := dk_42 (dk_at dksX0_fit_0 6 rfl rfl)
theorem dX0_fit_7 : decode cX0_fit 7 = .ok (.getfield 184, 3) := dk_180 0 184 (dk_at dksX0_fit_0 7 rfl rfl)
theorem dX0_fit_10 : decode cX0_fit 10 = .ok (.invokevirtual 269, 3) := dk_182 1 13 (dk_at dksX0_fit_0 10 rfl rfl)
theorem dX0_fit_13 : decode cX0_fit 13 = .ok (.ifCond .ne 5, 3) := dk_154 0 5 (dk_at dksX0_fit_0 13 rfl rfl)
theorem dX0_fit_16 : decode cX0_fit 16 = .ok (.iconst 0, 1) := dk_3 (dk_at dksX0_fit_0 16 rfl rfl)
theorem dX0_fit_17 : decode cX0_fit 17 = .ok (.ireturn, 1) := dk_172 (dk_at dksX0_fit_0 17 rfl rfl)
theorem dX0_fit_18 : decode cX0_fit 18 = .ok (.aload_n 0, 1) := dk_42 (dk_at dksX0_fit_0 18 rfl rfl)
theorem dX0_fit_19 : decode cX0_fit 19 = .ok (.getfield 83, 3) := dk_180 0 83 (dk_at dksX0_fit_0 19 rfl rfl)
theorem dX0_fit_22 : decode cX0_fit 22 = .ok (.ifCond .eq 6, 3) := dk_153 0 6 (dk_at dksX0_fit_1 0 rfl rfl)
theorem dX0_fit_25 : decode cX0_fit 25 = .ok (.bipush (-2), 2) := dk_16 254 (dk_at dksX0_fit_1 3 rfl rfl)
theorem dX0_fit_27 : decode cX0_fit 27 = .ok (.ireturn, 1) := dk_172 (dk_at dksX0_fit_1 5 rfl rfl)
theorem dX0_fit_28 : decode cX0_fit 28 = .ok (.iconst 0, 1) := dk_3 (dk_at dksX0_fit_1 6 rfl rfl)
theorem dX0_fit_29 : decode cX0_fit 29 = .ok (.istore_n 1, 1) := dk_60 (dk_at dksX0_fit_1 7 rfl rfl)
theorem dX0_fit_30 : decode cX0_fit 30 = .ok (.iconst 0, 1) := dk_3 (dk_at dksX0_fit_1 8 rfl rfl)
theorem dX0_fit_31 : decode cX0_fit 31 = .ok (.istore_n 2, 1) := dk_61 (dk_at dksX0_fit_1 9 rfl rfl)
theorem dX0_fit_32 : decode cX0_fit 32 = .ok (.iload_n 2, 1) := dk_28 (dk_at dksX0_fit_1 10 rfl rfl)
theorem dX0_fit_33 : decode cX0_fit 33 = .ok (.aload_n 0, 1) := dk_42 (dk_at dksX0_fit_1 11 rfl rfl)
theorem dX0_fit_34 : decode cX0_fit 34 = .ok (.getfield 91, 3) := dk_180 0 91 (dk_at dksX0_fit_1 12 rfl rfl)
theorem dX0_fit_37 : decode cX0_fit 37 = .ok (.if_icmp .ge 25, 3) := dk_162 0 25 (dk_at dksX0_fit_1 15 rfl rfl)
theorem dX0_fit_40 : decode cX0_fit 40 = .ok (.iload_n 1, 1) := dk_27 (dk_at dksX0_fit_1 18 rfl rfl)
theorem dX0_fit_41 : decode cX0_fit 41 = .ok (.aload_n 0, 1) := dk_42 (dk_at dksX0_fit_1 19 rfl rfl)
theorem dX0_fit_42 : decode cX0_fit 42 = .ok (.iload_n 2, 1) := dk_28 (dk_at dksX0_fit_1 20 rfl rfl)
theorem dX0_fit_43 : decode cX0_fit 43 = .ok (.invokevirtual 132, 3) := dk_182 0 132 (dk_at dksX0_fit_1 21 rfl rfl)
theorem dX0_fit_46 : decode cX0_fit 46 = .ok (.ifCond .eq 7, 3) := dk_153 0 7 (dk_at dksX0_fit_2 0 rfl rfl)
theorem dX0_fit_49 : decode cX0_fit 49 = .ok (.iconst 1, 1) := dk_4 (dk_at dksX0_fit_2 3 rfl rfl)
theorem dX0_fit_50 : decode cX0_fit 50 = .ok (.goto 4, 3) := dk_167 0 4 (dk_at dksX0_fit_2 4 rfl rfl)
theorem dX0_fit_53 : decode cX0_fit 53 = .ok (.iconst 0, 1) := dk_3 (dk_at dksX0_fit_2 7 rfl rfl)
theorem dX0_fit_54 : decode cX0_fit 54 = .ok (.iadd, 1) := dk_96 (dk_at dksX0_fit_2 8 rfl rfl)
theorem dX0_fit_55 : decode cX0_fit 55 = .ok (.istore_n 1, 1) := dk_60 (dk_at dksX0_fit_2 9 rfl rfl)
theorem dX0_fit_56 : decode cX0_fit 56 = .ok (.iinc 2 1, 3) := dk_132 2 1 (dk_at dksX0_fit_2 10 rfl rfl)
theorem dX0_fit_59 : decode cX0_fit 59 = .ok (.goto (-27), 3) := dk_167 255 229 (dk_at dksX0_fit_2 13 rfl rfl)
theorem dX0_fit_62 : decode cX0_fit 62 = .ok (.iload_n 1, 1) := dk_27 (dk_at dksX0_fit_2 16 rfl rfl)
theorem dX0_fit_63 : decode cX0_fit 63 = .ok (.ireturn, 1) := dk_172 (dk_at dksX0_fit_2 17 rfl rfl)
abbrev cX0_best : ByteArray := prog_1_method_63_code
def yX0_best : MethodName := ⟨RX0, "best", "(I)I"⟩
def dkwX0_best_4 : List UInt8 := [3, 27, 182, 0, 143, 172]
abbrev dktX0_best_4 : List UInt8 := dkwX0_best_4 ++ []
def dkwX0_best_3 : List UInt8 := [29, 61, 132, 3, 1, 167, 255, 206, 42, 28, 42, 180, 0, 178, 3, 182, 1, 21, 42, 28, 42, 180, 0, 178]
abbrev dktX0_best_3 : List UInt8 := dkwX0_best_3 ++ dktX0_best_4
def dkwX0_best_2 : List UInt8 := [29, 42, 180, 0, 178, 3, 27, 182, 0, 143, 42, 28, 42, 180, 0, 178, 3, 27, 182, 0, 143, 164, 0, 5]
abbrev dktX0_best_2 : List UInt8 := dkwX0_best_2 ++ dktX0_best_3
def dkwX0_best_1 : List UInt8 := [61, 3, 62, 29, 42, 180, 0, 91, 162, 0, 48, 42, 29, 182, 0, 132, 153, 0, 34, 28, 155, 0, 28, 42]
abbrev dktX0_best_1 : List UInt8 := dkwX0_best_1 ++ dktX0_best_2
def dkwX0_best_0 : List UInt8 := [42, 3, 181, 0, 218, 27, 184, 0, 242, 153, 0, 11, 42, 182, 1, 67, 4, 162, 0, 6, 18, 245, 172, 2]
abbrev dktX0_best_0 : List UInt8 := dkwX0_best_0 ++ dktX0_best_1
theorem dksX0_best_0 : cX0_best.data.toList.drop 0 = dktX0_best_0 := by decide +kernel
theorem dksX0_best_1 : cX0_best.data.toList.drop 24 = dktX0_best_1 := dk_seg dksX0_best_0 24 rfl rfl
theorem dksX0_best_2 : cX0_best.data.toList.drop 48 = dktX0_best_2 := dk_seg dksX0_best_1 24 rfl rfl
theorem dksX0_best_3 : cX0_best.data.toList.drop 72 = dktX0_best_3 := dk_seg dksX0_best_2 24 rfl rfl
theorem dksX0_best_4 : cX0_best.data.toList.drop 96 = dktX0_best_4 := dk_seg dksX0_best_3 24 rfl rfl
theorem dX0_best_0 : decode cX0_best 0 = .ok (.aload_n 0, 1) := dk_42 (dk_at dksX0_best_0 0 rfl rfl)
theorem dX0_best_1 : decode cX0_best 1 = .ok (.iconst 0, 1) := dk_3 (dk_at dksX0_best_0 1 rfl rfl)
theorem dX0_best_2 : decode cX0_best 2 = .ok (.putfield 218, 3) := dk_181 0 218 (dk_at dksX0_best_0 2 rfl rfl)
theorem dX0_best_5 : decode cX0_best 5 = .ok (.iload_n 1, 1) := dk_27 (dk_at dksX0_best_0 5 rfl rfl)
theorem dX0_best_6 : decode cX0_best 6 = .ok (.invokestatic 242, 3) := dk_184 0 242 (dk_at dksX0_best_0 6 rfl rfl)
theorem dX0_best_9 : decode cX0_best 9 = .ok (.ifCond .eq 11, 3) := dk_153 0 11 (dk_at dksX0_best_0 9 rfl rfl)
theorem dX0_best_12 : decode cX0_best 12 = .ok (.aload_n 0, 1) := dk_42 (dk_at dksX0_best_0 12 rfl rfl)
theorem dX0_best_13 : decode cX0_best 13 = .ok (.invokevirtual 323, 3) := dk_182 1 67 (dk_at dksX0_best_0 13 rfl rfl)
theorem dX0_best_16 : decode cX0_best 16 = .ok (.iconst 1, 1) := dk_4 (dk_at dksX0_best_0 16 rfl rfl)
theorem dX0_best_17 : decode cX0_best 17 = .ok (.if_icmp .ge 6, 3) := dk_162 0 6 (dk_at dksX0_best_0 17 rfl rfl)
theorem dX0_best_20 : decode cX0_best 20 = .ok (.ldc 245, 2) := dk_18 245 (dk_at dksX0_best_0 20 rfl rfl)
theorem dX0_best_22 : decode cX0_best 22 = .ok (.ireturn, 1) := dk_172 (dk_at dksX0_best_0 22 rfl rfl)
theorem dX0_best_23 : decode cX0_best 23 = .ok (.iconst (-1), 1) := dk_2 (dk_at dksX0_best_0 23 rfl rfl)
theorem dX0_best_24 : decode cX0_best 24 = .ok (.istore_n 2, 1) := dk_61 (dk_at dksX0_best_1 0 rfl rfl)
theorem dX0_best_25 : decode cX0_best 25 = .ok (.iconst 0, 1) := dk_3 (dk_at dksX0_best_1 1 rfl rfl)
theorem dX0_best_26 : decode cX0_best 26 = .ok (.istore_n 3, 1) := dk_62 (dk_at dksX0_best_1 2 rfl rfl)
theorem dX0_best_27 : decode cX0_best 27 = .ok (.iload_n 3, 1) := dk_29 (dk_at dksX0_best_1 3 rfl rfl)
theorem dX0_best_28 : decode cX0_best 28 = .ok (.aload_n 0, 1) := dk_42 (dk_at dksX0_best_1 4 rfl rfl)
theorem dX0_best_29 : decode cX0_best 29 = .ok (.getfield 91, 3) := dk_180 0 91 (dk_at dksX0_best_1 5 rfl rfl)
theorem dX0_best_32 : decode cX0_best 32 = .ok (.if_icmp .ge 48, 3) := dk_162 0 48 (dk_at dksX0_best_1 8 rfl rfl)
theorem dX0_best_35 : decode cX0_best 35 = .ok (.aload_n 0, 1) := dk_42 (dk_at dksX0_best_1 11 rfl rfl)
theorem dX0_best_36 : decode cX0_best 36 = .ok (.iload_n 3, 1) := dk_29 (dk_at dksX0_best_1 12 rfl rfl)
theorem dX0_best_37 : decode cX0_best 37 = .ok (.invokevirtual 132, 3) := dk_182 0 132 (dk_at dksX0_best_1 13 rfl rfl)
theorem dX0_best_40 : decode cX0_best 40 = .ok (.ifCond .eq 34, 3) := dk_153 0 34 (dk_at dksX0_best_1 16 rfl rfl)
theorem dX0_best_43 : decode cX0_best 43 = .ok (.iload_n 2, 1) := dk_28 (dk_at dksX0_best_1 19 rfl rfl)
theorem dX0_best_44 : decode cX0_best 44 = .ok (.ifCond .lt 28, 3) := dk_155 0 28 (dk_at dksX0_best_1 20 rfl rfl)
theorem dX0_best_47 : decode cX0_best 47 = .ok (.aload_n 0, 1) := dk_42 (dk_at dksX0_best_1 23 rfl rfl)
theorem dX0_best_48 : decode cX0_best 48 = .ok (.iload_n 3, 1) := dk_29 (dk_at dksX0_best_2 0 rfl rfl)
theorem dX0_best_49 : decode cX0_best 49 = .ok (.aload_n 0, 1) := dk_42 (dk_at dksX0_best_2 1 rfl rfl)
theorem dX0_best_50 : decode cX0_best 50 = .ok (.getfield 178, 3) := dk_180 0 178 (dk_at dksX0_best_2 2 rfl rfl)
theorem dX0_best_53 : decode cX0_best 53 = .ok (.iconst 0, 1) := dk_3 (dk_at dksX0_best_2 5 rfl rfl)
theorem dX0_best_54 : decode cX0_best 54 = .ok (.iload_n 1, 1) := dk_27 (dk_at dksX0_best_2 6 rfl rfl)
theorem dX0_best_55 : decode cX0_best 55 = .ok (.invokevirtual 143, 3) := dk_182 0 143 (dk_at dksX0_best_2 7 rfl rfl)
theorem dX0_best_58 : decode cX0_best 58 = .ok (.aload_n 0, 1) := dk_42 (dk_at dksX0_best_2 10 rfl rfl)
theorem dX0_best_59 : decode cX0_best 59 = .ok (.iload_n 2, 1) := dk_28 (dk_at dksX0_best_2 11 rfl rfl)
theorem dX0_best_60 : decode cX0_best 60 = .ok (.aload_n 0, 1) := dk_42 (dk_at dksX0_best_2 12 rfl rfl)
theorem dX0_best_61 : decode cX0_best 61 = .ok (.getfield 178, 3) := dk_180 0 178 (dk_at dksX0_best_2 13 rfl rfl)
theorem dX0_best_64 : decode cX0_best 64 = .ok (.iconst 0, 1) := dk_3 (dk_at dksX0_best_2 16 rfl rfl)
theorem dX0_best_65 : decode cX0_best 65 = .ok (.iload_n 1, 1) := dk_27 (dk_at dksX0_best_2 17 rfl rfl)
theorem dX0_best_66 : decode cX0_best 66 = .ok (.invokevirtual 143, 3) := dk_182 0 143 (dk_at dksX0_best_2 18 rfl rfl)
theorem dX0_best_69 : decode cX0_best 69 = .ok (.if_icmp .le 5, 3) := dk_164 0 5 (dk_at dksX0_best_2 21 rfl rfl)
theorem dX0_best_72 : decode cX0_best 72 = .ok (.iload_n 3, 1) := dk_29 (dk_at dksX0_best_3 0 rfl rfl)
theorem dX0_best_73 : decode cX0_best 73 = .ok (.istore_n 2, 1) := dk_61 (dk_at dksX0_best_3 1 rfl rfl)
theorem dX0_best_74 : decode cX0_best 74 = .ok (.iinc 3 1, 3) := dk_132 3 1 (dk_at dksX0_best_3 2 rfl rfl)
theorem dX0_best_77 : decode cX0_best 77 = .ok (.goto (-50), 3) := dk_167 255 206 (dk_at dksX0_best_3 5 rfl rfl)
theorem dX0_best_80 : decode cX0_best 80 = .ok (.aload_n 0, 1) := dk_42 (dk_at dksX0_best_3 8 rfl rfl)
theorem dX0_best_81 : decode cX0_best 81 = .ok (.iload_n 2, 1) := dk_28 (dk_at dksX0_best_3 9 rfl rfl)
theorem dX0_best_82 : decode cX0_best 82 = .ok (.aload_n 0, 1) := dk_42 (dk_at dksX0_best_3 10 rfl rfl)
theorem dX0_best_83 : decode cX0_best 83 = .ok (.getfield 178, 3) := dk_180 0 178 (dk_at dksX0_best_3 11 rfl rfl)
theorem dX0_best_86 : decode cX0_best 86 = .ok (.iconst 0, 1) := dk_3 (dk_at dksX0_best_3 14 rfl rfl)
theorem dX0_best_87 : decode cX0_best 87 = .ok (.invokevirtual 277, 3) := dk_182 1 21 (dk_at dksX0_best_3 15 rfl rfl)
theorem dX0_best_90 : decode cX0_best 90 = .ok (.aload_n 0, 1) := dk_42 (dk_at dksX0_best_3 18 rfl rfl)
theorem dX0_best_91 : decode cX0_best 91 = .ok (.iload_n 2, 1) := dk_28 (dk_at dksX0_best_3 19 rfl rfl)
theorem dX0_best_92 : decode cX0_best 92 = .ok (.aload_n 0, 1) := dk_42 (dk_at dksX0_best_3 20 rfl rfl)
theorem dX0_best_93 : decode cX0_best 93 = .ok (.getfield 178, 3) := dk_180 0 178 (dk_at dksX0_best_3 21 rfl rfl)
theorem dX0_best_96 : decode cX0_best 96 = .ok (.iconst 0, 1) := dk_3 (dk_at dksX0_best_4 0 rfl rfl)
theorem dX0_best_97 : decode cX0_best 97 = .ok (.iload_n 1, 1) := dk_27 (dk_at dksX0_best_4 1 rfl rfl)
theorem dX0_best_98 : decode cX0_best 98 = .ok (.invokevirtual 143, 3) := dk_182 0 143 (dk_at dksX0_best_4 2 rfl rfl)
theorem dX0_best_101 : decode cX0_best 101 = .ok (.ireturn, 1) := dk_172 (dk_at dksX0_best_4 5 rfl rfl)
abbrev cX0_struck : ByteArray := prog_1_method_65_code
def yX0_struck : MethodName := ⟨RX0, "struck", "(I)I"⟩
def dkwX0_struck_3 : List UInt8 := [21, 4, 163, 0, 6, 167, 0, 10, 21, 5, 62, 21, 6, 54, 4, 132, 5, 1, 167, 255, 199, 29, 172]
abbrev dktX0_struck_3 : List UInt8 := dkwX0_struck_3 ++ []
def dkwX0_struck_2 : List UInt8 := [167, 0, 38, 42, 42, 180, 0, 187, 28, 4, 100, 27, 182, 0, 139, 54, 6, 29, 155, 0, 13, 21, 6]
abbrev dktX0_struck_2 : List UInt8 := dkwX0_struck_2 ++ dktX0_struck_3
def dkwX0_struck_1 : List UInt8 := [2, 62, 3, 54, 4, 3, 54, 5, 21, 5, 28, 162, 0, 57, 42, 21, 5, 28, 182, 1, 72, 154, 0, 6]
abbrev dktX0_struck_1 : List UInt8 := dkwX0_struck_1 ++ dktX0_struck_2
def dkwX0_struck_0 : List UInt8 := [27, 184, 0, 242, 153, 0, 10, 42, 182, 1, 70, 154, 0, 5, 2, 172, 42, 180, 0, 164, 16, 12, 46, 61]
abbrev dktX0_struck_0 : List UInt8 := dkwX0_struck_0 ++ dktX0_struck_1
theorem dksX0_struck_0 : cX0_struck.data.toList.drop 0 = dktX0_struck_0 := by decide +kernel
theorem dksX0_struck_1 : cX0_struck.data.toList.drop 24 = dktX0_struck_1 := dk_seg dksX0_struck_0 24 rfl rfl
theorem dksX0_struck_2 : cX0_struck.data.toList.drop 48 = dktX0_struck_2 := dk_seg dksX0_struck_1 24 rfl rfl
theorem dksX0_struck_3 : cX0_struck.data.toList.drop 71 = dktX0_struck_3 := dk_seg dksX0_struck_2 23 rfl rfl
theorem dX0_struck_0 : decode cX0_struck 0 = .ok (.iload_n 1, 1) := dk_27 (dk_at dksX0_struck_0 0 rfl rfl)
theorem dX0_struck_1 : decode cX0_struck 1 = .ok (.invokestatic 242, 3) := dk_184 0 242 (dk_at dksX0_struck_0 1 rfl rfl)
theorem dX0_struck_4 : decode cX0_struck 4 = .ok (.ifCond .eq 10, 3) := dk_153 0 10 (dk_at dksX0_struck_0 4 rfl rfl)
theorem dX0_struck_7 : decode cX0_struck 7 = .ok (.aload_n 0, 1) := dk_42 (dk_at dksX0_struck_0 7 rfl rfl)
theorem dX0_struck_8 : decode cX0_struck 8 = .ok (.invokevirtual 326, 3) := dk_182 1 70 (dk_at dksX0_struck_0 8 rfl rfl)
theorem dX0_struck_11 : decode cX0_struck 11 = .ok (.ifCond .ne 5, 3) := dk_154 0 5 (dk_at dksX0_struck_0 11 rfl rfl)
theorem dX0_struck_14 : decode cX0_struck 14 = .ok (.iconst (-1), 1) := dk_2 (dk_at dksX0_struck_0 14 rfl rfl)
theorem dX0_struck_15 : decode cX0_struck 15 = .ok (.ireturn, 1) := dk_172 (dk_at dksX0_struck_0 15 rfl rfl)
theorem dX0_struck_16 : decode cX0_struck 16 = .ok (.aload_n 0, 1) := dk_42 (dk_at dksX0_struck_0 16 rfl rfl)
theorem dX0_struck_17 : decode cX0_struck 17 = .ok (.getfield 164, 3) := dk_180 0 164 (dk_at dksX0_struck_0 17 rfl rfl)
theorem dX0_struck_20 : decode cX0_struck 20 = .ok (.bipush 12, 2) := dk_16 12 (dk_at dksX0_struck_0 20 rfl rfl)
theorem dX0_struck_22 : decode cX0_struck 22 = .ok (.iaload, 1) := dk_46 (dk_at dksX0_struck_0 22 rfl rfl)
theorem dX0_struck_23 : decode cX0_struck 23 = .ok (.istore_n 2, 1) := dk_61 (dk_at dksX0_struck_0 23 rfl rfl)
theorem dX0_struck_24 : decode cX0_struck 24 = .ok (.iconst (-1), 1) := dk_2 (dk_at dksX0_struck_1 0 rfl rfl)
theorem dX0_struck_25 : decode cX0_struck 25 = .ok (.istore_n 3, 1) := dk_62 (dk_at dksX0_struck_1 1 rfl rfl)
theorem dX0_struck_26 : decode cX0_struck 26 = .ok (.iconst 0, 1) := dk_3 (dk_at dksX0_struck_1 2 rfl rfl)
theorem dX0_struck_27 : decode cX0_struck 27 = .ok (.istore 4, 2) := dk_54 4 (dk_at dksX0_struck_1 3 rfl rfl)
theorem dX0_struck_29 : decode cX0_struck 29 = .ok (.iconst 0, 1) := dk_3 (dk_at dksX0_struck_1 5 rfl rfl)
theorem dX0_struck_30 : decode cX0_struck 30 = .ok (.istore 5, 2) := dk_54 5 (dk_at dksX0_struck_1 6 rfl rfl)
theorem dX0_struck_32 : decode cX0_struck 32 = .ok (.iload 5, 2) := dk_21 5 (dk_at dksX0_struck_1 8 rfl rfl)
theorem dX0_struck_34 : decode cX0_struck 34 = .ok (.iload_n 2, 1) := dk_28 (dk_at dksX0_struck_1 10 rfl rfl)
theorem dX0_struck_35 : decode cX0_struck 35 = .ok (.if_icmp .ge 57, 3) := dk_162 0 57 (dk_at dksX0_struck_1 11 rfl rfl)
theorem dX0_struck_38 : decode cX0_struck 38 = .ok (.aload_n 0, 1) := dk_42 (dk_at dksX0_struck_1 14 rfl rfl)
theorem dX0_struck_39 : decode cX0_struck 39 = .ok (.iload 5, 2) := dk_21 5 (dk_at dksX0_struck_1 15 rfl rfl)
theorem dX0_struck_41 : decode cX0_struck 41 = .ok (.iload_n 2, 1) := dk_28 (dk_at dksX0_struck_1 17 rfl rfl)
theorem dX0_struck_42 : decode cX0_struck 42 = .ok (.invokevirtual 328, 3) := dk_182 1 72 (dk_at dksX0_struck_1 18 rfl rfl)
theorem dX0_struck_45 : decode cX0_struck 45 = .ok (.ifCond .ne 6, 3) := dk_154 0 6 (dk_at dksX0_struck_1 21 rfl rfl)
theorem dX0_struck_48 : decode cX0_struck 48 = .ok (.goto 38, 3) := dk_167 0 38 (dk_at dksX0_struck_2 0 rfl rfl)
theorem dX0_struck_51 : decode cX0_struck 51 = .ok (.aload_n 0, 1) := dk_42 (dk_at dksX0_struck_2 3 rfl rfl)
theorem dX0_struck_52 : decode cX0_struck 52 = .ok (.aload_n 0, 1) := dk_42 (dk_at dksX0_struck_2 4 rfl rfl)
theorem dX0_struck_53 : decode cX0_struck 53 = .ok (.getfield 187, 3) := dk_180 0 187 (dk_at dksX0_struck_2 5 rfl rfl)
theorem dX0_struck_56 : decode cX0_struck 56 = .ok (.iload_n 2, 1) := dk_28 (dk_at dksX0_struck_2 8 rfl rfl)
theorem dX0_struck_57 : decode cX0_struck 57 = .ok (.iconst 1, 1) := dk_4 (dk_at dksX0_struck_2 9 rfl rfl)
theorem dX0_struck_58 : decode cX0_struck 58 = .ok (.isub, 1) := dk_100 (dk_at dksX0_struck_2 10 rfl rfl)
theorem dX0_struck_59 : decode cX0_struck 59 = .ok (.iload_n 1, 1) := dk_27 (dk_at dksX0_struck_2 11 rfl rfl)
theorem dX0_struck_60 : decode cX0_struck 60 = .ok (.invokevirtual 139, 3) := dk_182 0 139 (dk_at dksX0_struck_2 12 rfl rfl)
theorem dX0_struck_63 : decode cX0_struck 63 = .ok (.istore 6, 2) := dk_54 6 (dk_at dksX0_struck_2 15 rfl rfl)
theorem dX0_struck_65 : decode cX0_struck 65 = .ok (.iload_n 3, 1) := dk_29 (dk_at dksX0_struck_2 17 rfl rfl)
theorem dX0_struck_66 : decode cX0_struck 66 = .ok (.ifCond .lt 13, 3) := dk_155 0 13 (dk_at dksX0_struck_2 18 rfl rfl)
theorem dX0_struck_69 : decode cX0_struck 69 = .ok (.iload 6, 2) := dk_21 6 (dk_at dksX0_struck_2 21 rfl rfl)
theorem dX0_struck_71 : decode cX0_struck 71 = .ok (.iload 4, 2) := dk_21 4 (dk_at dksX0_struck_3 0 rfl rfl)
theorem dX0_struck_73 : decode cX0_struck 73 = .ok (.if_icmp .gt 6, 3) := dk_163 0 6 (dk_at dksX0_struck_3 2 rfl rfl)
theorem dX0_struck_76 : decode cX0_struck 76 = .ok (.goto 10, 3) := dk_167 0 10 (dk_at dksX0_struck_3 5 rfl rfl)
theorem dX0_struck_79 : decode cX0_struck 79 = .ok (.iload 5, 2) := dk_21 5 (dk_at dksX0_struck_3 8 rfl rfl)
theorem dX0_struck_81 : decode cX0_struck 81 = .ok (.istore_n 3, 1) := dk_62 (dk_at dksX0_struck_3 10 rfl rfl)
theorem dX0_struck_82 : decode cX0_struck 82 = .ok (.iload 6, 2) := dk_21 6 (dk_at dksX0_struck_3 11 rfl rfl)
theorem dX0_struck_84 : decode cX0_struck 84 = .ok (.istore 4, 2) := dk_54 4 (dk_at dksX0_struck_3 13 rfl rfl)
theorem dX0_struck_86 : decode cX0_struck 86 = .ok (.iinc 5 1, 3) := dk_132 5 1 (dk_at dksX0_struck_3 15 rfl rfl)
theorem dX0_struck_89 : decode cX0_struck 89 = .ok (.goto (-57), 3) := dk_167 255 199 (dk_at dksX0_struck_3 18 rfl rfl)
theorem dX0_struck_92 : decode cX0_struck 92 = .ok (.iload_n 3, 1) := dk_29 (dk_at dksX0_struck_3 21 rfl rfl)
theorem dX0_struck_93 : decode cX0_struck 93 = .ok (.ireturn, 1) := dk_172 (dk_at dksX0_struck_3 22 rfl rfl)
abbrev cX0_canStrike : ByteArray := prog_1_method_64_code
def yX0_canStrike : MethodName := ⟨RX0, "canStrike", "(II)Z"⟩
def dkwX0_canStrike_2 : List UInt8 := [182, 0, 104, 42, 28, 4, 100, 182, 0, 68, 9, 148, 158, 0, 7, 4, 167, 0, 4, 3, 172]
abbrev dktX0_canStrike_2 : List UInt8 := dkwX0_canStrike_2 ++ []
def dkwX0_canStrike_1 : List UInt8 := [167, 0, 6, 29, 4, 96, 46, 79, 132, 3, 1, 167, 255, 223, 42, 42, 180, 0, 187, 28, 4, 100]
abbrev dktX0_canStrike_1 : List UInt8 := dkwX0_canStrike_1 ++ dktX0_canStrike_2
def dkwX0_canStrike_0 : List UInt8 := [3, 62, 29, 28, 4, 100, 162, 0, 32, 42, 180, 0, 187, 29, 42, 180, 0, 164, 29, 27, 162, 0, 7, 29]
abbrev dktX0_canStrike_0 : List UInt8 := dkwX0_canStrike_0 ++ dktX0_canStrike_1
theorem dksX0_canStrike_0 : cX0_canStrike.data.toList.drop 0 = dktX0_canStrike_0 := by decide +kernel
theorem dksX0_canStrike_1 : cX0_canStrike.data.toList.drop 24 = dktX0_canStrike_1 := dk_seg dksX0_canStrike_0 24 rfl rfl
theorem dksX0_canStrike_2 : cX0_canStrike.data.toList.drop 46 = dktX0_canStrike_2 := dk_seg dksX0_canStrike_1 22 rfl rfl
theorem dX0_canStrike_0 : decode cX0_canStrike 0 = .ok (.iconst 0, 1) := dk_3 (dk_at dksX0_canStrike_0 0 rfl rfl)
theorem dX0_canStrike_1 : decode cX0_canStrike 1 = .ok (.istore_n 3, 1) := dk_62 (dk_at dksX0_canStrike_0 1 rfl rfl)
theorem dX0_canStrike_2 : decode cX0_canStrike 2 = .ok (.iload_n 3, 1) := dk_29 (dk_at dksX0_canStrike_0 2 rfl rfl)
theorem dX0_canStrike_3 : decode cX0_canStrike 3 = .ok (.iload_n 2, 1) := dk_28 (dk_at dksX0_canStrike_0 3 rfl rfl)
theorem dX0_canStrike_4 : decode cX0_canStrike 4 = .ok (.iconst 1, 1) := dk_4 (dk_at dksX0_canStrike_0 4 rfl rfl)
theorem dX0_canStrike_5 : decode cX0_canStrike 5 = .ok (.isub, 1) := dk_100 (dk_at dksX0_canStrike_0 5 rfl rfl)
theorem dX0_canStrike_6 : decode cX0_canStrike 6 = .ok (.if_icmp .ge 32, 3) := dk_162 0 32 (dk_at dksX0_canStrike_0 6 rfl rfl)
theorem dX0_canStrike_9 : decode cX0_canStrike 9 = .ok (.aload_n 0, 1) := dk_42 (dk_at dksX0_canStrike_0 9 rfl rfl)
theorem dX0_canStrike_10 : decode cX0_canStrike 10 = .ok (.getfield 187, 3) := dk_180 0 187 (dk_at dksX0_canStrike_0 10 rfl rfl)
theorem dX0_canStrike_13 : decode cX0_canStrike 13 = .ok (.iload_n 3, 1) := dk_29 (dk_at dksX0_canStrike_0 13 rfl rfl)
theorem dX0_canStrike_14 : decode cX0_canStrike 14 = .ok (.aload_n 0, 1) := dk_42 (dk_at dksX0_canStrike_0 14 rfl rfl)
theorem dX0_canStrike_15 : decode cX0_canStrike 15 = .ok (.getfield 164, 3) := dk_180 0 164 (dk_at dksX0_canStrike_0 15 rfl rfl)
theorem dX0_canStrike_18 : decode cX0_canStrike 18 = .ok (.iload_n 3, 1) := dk_29 (dk_at dksX0_canStrike_0 18 rfl rfl)
theorem dX0_canStrike_19 : decode cX0_canStrike 19 = .ok (.iload_n 1, 1) := dk_27 (dk_at dksX0_canStrike_0 19 rfl rfl)
theorem dX0_canStrike_20 : decode cX0_canStrike 20 = .ok (.if_icmp .ge 7, 3) := dk_162 0 7 (dk_at dksX0_canStrike_0 20 rfl rfl)
theorem dX0_canStrike_23 : decode cX0_canStrike 23 = .ok (.iload_n 3, 1) := dk_29 (dk_at dksX0_canStrike_0 23 rfl rfl)
theorem dX0_canStrike_24 : decode cX0_canStrike 24 = .ok (.goto 6, 3) := dk_167 0 6 (dk_at dksX0_canStrike_1 0 rfl rfl)
theorem dX0_canStrike_27 : decode cX0_canStrike 27 = .ok (.iload_n 3, 1) := dk_29 (dk_at dksX0_canStrike_1 3 rfl rfl)
theorem dX0_canStrike_28 : decode cX0_canStrike 28 = .ok (.iconst 1, 1) := dk_4 (dk_at dksX0_canStrike_1 4 rfl rfl)
theorem dX0_canStrike_29 : decode cX0_canStrike 29 = .ok (.iadd, 1) := dk_96 (dk_at dksX0_canStrike_1 5 rfl rfl)
theorem dX0_canStrike_30 : decode cX0_canStrike 30 = .ok (.iaload, 1) := dk_46 (dk_at dksX0_canStrike_1 6 rfl rfl)
theorem dX0_canStrike_31 : decode cX0_canStrike 31 = .ok (.iastore, 1) := dk_79 (dk_at dksX0_canStrike_1 7 rfl rfl)
theorem dX0_canStrike_32 : decode cX0_canStrike 32 = .ok (.iinc 3 1, 3) := dk_132 3 1 (dk_at dksX0_canStrike_1 8 rfl rfl)
theorem dX0_canStrike_35 : decode cX0_canStrike 35 = .ok (.goto (-33), 3) := dk_167 255 223 (dk_at dksX0_canStrike_1 11 rfl rfl)
theorem dX0_canStrike_38 : decode cX0_canStrike 38 = .ok (.aload_n 0, 1) := dk_42 (dk_at dksX0_canStrike_1 14 rfl rfl)
theorem dX0_canStrike_39 : decode cX0_canStrike 39 = .ok (.aload_n 0, 1) := dk_42 (dk_at dksX0_canStrike_1 15 rfl rfl)
theorem dX0_canStrike_40 : decode cX0_canStrike 40 = .ok (.getfield 187, 3) := dk_180 0 187 (dk_at dksX0_canStrike_1 16 rfl rfl)
theorem dX0_canStrike_43 : decode cX0_canStrike 43 = .ok (.iload_n 2, 1) := dk_28 (dk_at dksX0_canStrike_1 19 rfl rfl)
theorem dX0_canStrike_44 : decode cX0_canStrike 44 = .ok (.iconst 1, 1) := dk_4 (dk_at dksX0_canStrike_1 20 rfl rfl)
theorem dX0_canStrike_45 : decode cX0_canStrike 45 = .ok (.isub, 1) := dk_100 (dk_at dksX0_canStrike_1 21 rfl rfl)
theorem dX0_canStrike_46 : decode cX0_canStrike 46 = .ok (.invokevirtual 104, 3) := dk_182 0 104 (dk_at dksX0_canStrike_2 0 rfl rfl)
theorem dX0_canStrike_49 : decode cX0_canStrike 49 = .ok (.aload_n 0, 1) := dk_42 (dk_at dksX0_canStrike_2 3 rfl rfl)
theorem dX0_canStrike_50 : decode cX0_canStrike 50 = .ok (.iload_n 2, 1) := dk_28 (dk_at dksX0_canStrike_2 4 rfl rfl)
theorem dX0_canStrike_51 : decode cX0_canStrike 51 = .ok (.iconst 1, 1) := dk_4 (dk_at dksX0_canStrike_2 5 rfl rfl)
theorem dX0_canStrike_52 : decode cX0_canStrike 52 = .ok (.isub, 1) := dk_100 (dk_at dksX0_canStrike_2 6 rfl rfl)
theorem dX0_canStrike_53 : decode cX0_canStrike 53 = .ok (.invokevirtual 68, 3) := dk_182 0 68 (dk_at dksX0_canStrike_2 7 rfl rfl)
theorem dX0_canStrike_56 : decode cX0_canStrike 56 = .ok (.lconst 0, 1) := dk_9 (dk_at dksX0_canStrike_2 10 rfl rfl)
theorem dX0_canStrike_57 : decode cX0_canStrike 57 = .ok (.lcmp, 1) := dk_148 (dk_at dksX0_canStrike_2 11 rfl rfl)
theorem dX0_canStrike_58 : decode cX0_canStrike 58 = .ok (.ifCond .le 7, 3) := dk_158 0 7 (dk_at dksX0_canStrike_2 12 rfl rfl)
theorem dX0_canStrike_61 : decode cX0_canStrike 61 = .ok (.iconst 1, 1) := dk_4 (dk_at dksX0_canStrike_2 15 rfl rfl)
theorem dX0_canStrike_62 : decode cX0_canStrike 62 = .ok (.goto 4, 3) := dk_167 0 4 (dk_at dksX0_canStrike_2 16 rfl rfl)
theorem dX0_canStrike_65 : decode cX0_canStrike 65 = .ok (.iconst 0, 1) := dk_3 (dk_at dksX0_canStrike_2 19 rfl rfl)
theorem dX0_canStrike_66 : decode cX0_canStrike 66 = .ok (.ireturn, 1) := dk_172 (dk_at dksX0_canStrike_2 20 rfl rfl)
abbrev cX0_lies : ByteArray := prog_1_method_66_code
def yX0_lies : MethodName := ⟨RX0, "lies", "(I)I"⟩
def dkwX0_lies_1 : List UInt8 := [172]
abbrev dktX0_lies_1 : List UInt8 := dkwX0_lies_1 ++ []
def dkwX0_lies_0 : List UInt8 := [27, 3, 42, 180, 0, 218, 4, 100, 184, 0, 235, 153, 0, 12, 42, 180, 0, 175, 27, 46, 167, 0, 4, 2]
abbrev dktX0_lies_0 : List UInt8 := dkwX0_lies_0 ++ dktX0_lies_1
theorem dksX0_lies_0 : cX0_lies.data.toList.drop 0 = dktX0_lies_0 := by decide +kernel
theorem dksX0_lies_1 : cX0_lies.data.toList.drop 24 = dktX0_lies_1 := dk_seg dksX0_lies_0 24 rfl rfl
theorem dX0_lies_0 : decode cX0_lies 0 = .ok (.iload_n 1, 1) := dk_27 (dk_at dksX0_lies_0 0 rfl rfl)
theorem dX0_lies_1 : decode cX0_lies 1 = .ok (.iconst 0, 1) := dk_3 (dk_at dksX0_lies_0 1 rfl rfl)
theorem dX0_lies_2 : decode cX0_lies 2 = .ok (.aload_n 0, 1) := dk_42 (dk_at dksX0_lies_0 2 rfl rfl)
theorem dX0_lies_3 : decode cX0_lies 3 = .ok (.getfield 218, 3) := dk_180 0 218 (dk_at dksX0_lies_0 3 rfl rfl)
theorem dX0_lies_6 : decode cX0_lies 6 = .ok (.iconst 1, 1) := dk_4 (dk_at dksX0_lies_0 6 rfl rfl)
theorem dX0_lies_7 : decode cX0_lies 7 = .ok (.isub, 1) := dk_100 (dk_at dksX0_lies_0 7 rfl rfl)
theorem dX0_lies_8 : decode cX0_lies 8 = .ok (.invokestatic 235, 3) := dk_184 0 235 (dk_at dksX0_lies_0 8 rfl rfl)
theorem dX0_lies_11 : decode cX0_lies 11 = .ok (.ifCond .eq 12, 3) := dk_153 0 12 (dk_at dksX0_lies_0 11 rfl rfl)
theorem dX0_lies_14 : decode cX0_lies 14 = .ok (.aload_n 0, 1) := dk_42 (dk_at dksX0_lies_0 14 rfl rfl)
theorem dX0_lies_15 : decode cX0_lies 15 = .ok (.getfield 175, 3) := dk_180 0 175 (dk_at dksX0_lies_0 15 rfl rfl)
theorem dX0_lies_18 : decode cX0_lies 18 = .ok (.iload_n 1, 1) := dk_27 (dk_at dksX0_lies_0 18 rfl rfl)
theorem dX0_lies_19 : decode cX0_lies 19 = .ok (.iaload, 1) := dk_46 (dk_at dksX0_lies_0 19 rfl rfl)
theorem dX0_lies_20 : decode cX0_lies 20 = .ok (.goto 4, 3) := dk_167 0 4 (dk_at dksX0_lies_0 20 rfl rfl)
theorem dX0_lies_23 : decode cX0_lies 23 = .ok (.iconst (-1), 1) := dk_2 (dk_at dksX0_lies_0 23 rfl rfl)
theorem dX0_lies_24 : decode cX0_lies 24 = .ok (.ireturn, 1) := dk_172 (dk_at dksX0_lies_1 0 rfl rfl)
abbrev cX0_seen : ByteArray := prog_1_method_67_code
def yX0_seen : MethodName := ⟨RX0, "seen", "(IIZ)I"⟩
def dkwX0_seen_2 : List UInt8 := [183, 1, 80, 182, 1, 83, 87, 42, 180, 0, 193, 182, 0, 47, 4, 100, 172]
abbrev dktX0_seen_2 : List UInt8 := dkwX0_seen_2 ++ []
def dkwX0_seen_1 : List UInt8 := [16, 30, 160, 0, 5, 2, 172, 42, 180, 0, 193, 187, 1, 75, 89, 27, 28, 29, 42, 180, 1, 77]
abbrev dktX0_seen_1 : List UInt8 := dkwX0_seen_1 ++ dktX0_seen_2
def dkwX0_seen_0 : List UInt8 := [42, 27, 182, 1, 4, 153, 0, 23, 42, 28, 182, 0, 239, 153, 0, 15, 42, 180, 0, 193, 182, 0, 47]
abbrev dktX0_seen_0 : List UInt8 := dkwX0_seen_0 ++ dktX0_seen_1
theorem dksX0_seen_0 : cX0_seen.data.toList.drop 0 = dktX0_seen_0 := by decide +kernel
theorem dksX0_seen_1 : cX0_seen.data.toList.drop 23 = dktX0_seen_1 := dk_seg dksX0_seen_0 23 rfl rfl
theorem dksX0_seen_2 : cX0_seen.data.toList.drop 45 = dktX0_seen_2 := dk_seg dksX0_seen_1 22 rfl rfl
theorem dX0_seen_0 : decode cX0_seen 0 = .ok (.aload_n 0, 1) := dk_42 (dk_at dksX0_seen_0 0 rfl rfl)
theorem dX0_seen_1 : decode cX0_seen 1 = .ok (.iload_n 1, 1) := dk_27 (dk_at dksX0_seen_0 1 rfl rfl)
theorem dX0_seen_2 : decode cX0_seen 2 = .ok (.invokevirtual 260, 3) := dk_182 1 4 (dk_at dksX0_seen_0 2 rfl rfl)
theorem dX0_seen_5 : decode cX0_seen 5 = .ok (.ifCond .eq 23, 3) := dk_153 0 23 (dk_at dksX0_seen_0 5 rfl rfl)
theorem dX0_seen_8 : decode cX0_seen 8 = .ok (.aload_n 0, 1) := dk_42 (dk_at dksX0_seen_0 8 rfl rfl)
theorem dX0_seen_9 : decode cX0_seen 9 = .ok (.iload_n 2, 1) := dk_28 (dk_at dksX0_seen_0 9 rfl rfl)
theorem dX0_seen_10 : decode cX0_seen 10 = .ok (.invokevirtual 239, 3) := dk_182 0 239 (dk_at dksX0_seen_0 10 rfl rfl)
theorem dX0_seen_13 : decode cX0_seen 13 = .ok (.ifCond .eq 15, 3) := dk_153 0 15 (dk_at dksX0_seen_0 13 rfl rfl)
theorem dX0_seen_16 : decode cX0_seen 16 = .ok (.aload_n 0, 1) := dk_42 (dk_at dksX0_seen_0 16 rfl rfl)
theorem dX0_seen_17 : decode cX0_seen 17 = .ok (.getfield 193, 3) := dk_180 0 193 (dk_at dksX0_seen_0 17 rfl rfl)
theorem dX0_seen_20 : decode cX0_seen 20 = .ok (.invokevirtual 47, 3) := dk_182 0 47 (dk_at dksX0_seen_0 20 rfl rfl)
theorem dX0_seen_23 : decode cX0_seen 23 = .ok (.bipush 30, 2) := dk_16 30 (dk_at dksX0_seen_1 0 rfl rfl)
theorem dX0_seen_25 : decode cX0_seen 25 = .ok (.if_icmp .ne 5, 3) := dk_160 0 5 (dk_at dksX0_seen_1 2 rfl rfl)
theorem dX0_seen_28 : decode cX0_seen 28 = .ok (.iconst (-1), 1) := dk_2 (dk_at dksX0_seen_1 5 rfl rfl)
theorem dX0_seen_29 : decode cX0_seen 29 = .ok (.ireturn, 1) := dk_172 (dk_at dksX0_seen_1 6 rfl rfl)
theorem dX0_seen_30 : decode cX0_seen 30 = .ok (.aload_n 0, 1) := dk_42 (dk_at dksX0_seen_1 7 rfl rfl)
theorem dX0_seen_31 : decode cX0_seen 31 = .ok (.getfield 193, 3) := dk_180 0 193 (dk_at dksX0_seen_1 8 rfl rfl)
theorem dX0_seen_34 : decode cX0_seen 34 = .ok (.new 331, 3) := dk_187 1 75 (dk_at dksX0_seen_1 11 rfl rfl)
theorem dX0_seen_37 : decode cX0_seen 37 = .ok (.dup, 1) := dk_89 (dk_at dksX0_seen_1 14 rfl rfl)
theorem dX0_seen_38 : decode cX0_seen 38 = .ok (.iload_n 1, 1) := dk_27 (dk_at dksX0_seen_1 15 rfl rfl)
theorem dX0_seen_39 : decode cX0_seen 39 = .ok (.iload_n 2, 1) := dk_28 (dk_at dksX0_seen_1 16 rfl rfl)
theorem dX0_seen_40 : decode cX0_seen 40 = .ok (.iload_n 3, 1) := dk_29 (dk_at dksX0_seen_1 17 rfl rfl)
theorem dX0_seen_41 : decode cX0_seen 41 = .ok (.aload_n 0, 1) := dk_42 (dk_at dksX0_seen_1 18 rfl rfl)
theorem dX0_seen_42 : decode cX0_seen 42 = .ok (.getfield 333, 3) := dk_180 1 77 (dk_at dksX0_seen_1 19 rfl rfl)
theorem dX0_seen_45 : decode cX0_seen 45 = .ok (.invokespecial 336, 3) := dk_183 1 80 (dk_at dksX0_seen_2 0 rfl rfl)
theorem dX0_seen_48 : decode cX0_seen 48 = .ok (.invokevirtual 339, 3) := dk_182 1 83 (dk_at dksX0_seen_2 3 rfl rfl)
theorem dX0_seen_51 : decode cX0_seen 51 = .ok (.pop, 1) := dk_87 (dk_at dksX0_seen_2 6 rfl rfl)
theorem dX0_seen_52 : decode cX0_seen 52 = .ok (.aload_n 0, 1) := dk_42 (dk_at dksX0_seen_2 7 rfl rfl)
theorem dX0_seen_53 : decode cX0_seen 53 = .ok (.getfield 193, 3) := dk_180 0 193 (dk_at dksX0_seen_2 8 rfl rfl)
theorem dX0_seen_56 : decode cX0_seen 56 = .ok (.invokevirtual 47, 3) := dk_182 0 47 (dk_at dksX0_seen_2 11 rfl rfl)
theorem dX0_seen_59 : decode cX0_seen 59 = .ok (.iconst 1, 1) := dk_4 (dk_at dksX0_seen_2 14 rfl rfl)
theorem dX0_seen_60 : decode cX0_seen 60 = .ok (.isub, 1) := dk_100 (dk_at dksX0_seen_2 15 rfl rfl)
theorem dX0_seen_61 : decode cX0_seen 61 = .ok (.ireturn, 1) := dk_172 (dk_at dksX0_seen_2 16 rfl rfl)
abbrev cX0_untell : ByteArray := prog_1_method_68_code
def yX0_untell : MethodName := ⟨RX0, "untell", "(I)Z"⟩
def dkwX0_untell_1 : List UInt8 := [182, 0, 51, 192, 1, 75, 42, 180, 1, 77, 182, 1, 87, 153, 0, 7, 4, 167, 0, 4, 3, 172]
abbrev dktX0_untell_1 : List UInt8 := dkwX0_untell_1 ++ []
def dkwX0_untell_0 : List UInt8 := [27, 3, 42, 180, 0, 193, 182, 0, 47, 4, 100, 184, 0, 235, 153, 0, 28, 42, 180, 0, 193, 27]
abbrev dktX0_untell_0 : List UInt8 := dkwX0_untell_0 ++ dktX0_untell_1
theorem dksX0_untell_0 : cX0_untell.data.toList.drop 0 = dktX0_untell_0 := by decide +kernel
theorem dksX0_untell_1 : cX0_untell.data.toList.drop 22 = dktX0_untell_1 := dk_seg dksX0_untell_0 22 rfl rfl
theorem dX0_untell_0 : decode cX0_untell 0 = .ok (.iload_n 1, 1) := dk_27 (dk_at dksX0_untell_0 0 rfl rfl)
theorem dX0_untell_1 : decode cX0_untell 1 = .ok (.iconst 0, 1) := dk_3 (dk_at dksX0_untell_0 1 rfl rfl)
theorem dX0_untell_2 : decode cX0_untell 2 = .ok (.aload_n 0, 1) := dk_42 (dk_at dksX0_untell_0 2 rfl rfl)
theorem dX0_untell_3 : decode cX0_untell 3 = .ok (.getfield 193, 3) := dk_180 0 193 (dk_at dksX0_untell_0 3 rfl rfl)
theorem dX0_untell_6 : decode cX0_untell 6 = .ok (.invokevirtual 47, 3) := dk_182 0 47 (dk_at dksX0_untell_0 6 rfl rfl)
theorem dX0_untell_9 : decode cX0_untell 9 = .ok (.iconst 1, 1) := dk_4 (dk_at dksX0_untell_0 9 rfl rfl)
theorem dX0_untell_10 : decode cX0_untell 10 = .ok (.isub, 1) := dk_100 (dk_at dksX0_untell_0 10 rfl rfl)
theorem dX0_untell_11 : decode cX0_untell 11 = .ok (.invokestatic 235, 3) := dk_184 0 235 (dk_at dksX0_untell_0 11 rfl rfl)
theorem dX0_untell_14 : decode cX0_untell 14 = .ok (.ifCond .eq 28, 3) := dk_153 0 28 (dk_at dksX0_untell_0 14 rfl rfl)
theorem dX0_untell_17 : decode cX0_untell 17 = .ok (.aload_n 0, 1) := dk_42 (dk_at dksX0_untell_0 17 rfl rfl)
theorem dX0_untell_18 : decode cX0_untell 18 = .ok (.getfield 193, 3) := dk_180 0 193 (dk_at dksX0_untell_0 18 rfl rfl)
theorem dX0_untell_21 : decode cX0_untell 21 = .ok (.iload_n 1, 1) := dk_27 (dk_at dksX0_untell_0 21 rfl rfl)
theorem dX0_untell_22 : decode cX0_untell 22 = .ok (.invokevirtual 51, 3) := dk_182 0 51 (dk_at dksX0_untell_1 0 rfl rfl)
theorem dX0_untell_25 : decode cX0_untell 25 = .ok (.checkcast 331, 3) := dk_192 1 75 (dk_at dksX0_untell_1 3 rfl rfl)
theorem dX0_untell_28 : decode cX0_untell 28 = .ok (.aload_n 0, 1) := dk_42 (dk_at dksX0_untell_1 6 rfl rfl)
theorem dX0_untell_29 : decode cX0_untell 29 = .ok (.getfield 333, 3) := dk_180 1 77 (dk_at dksX0_untell_1 7 rfl rfl)
theorem dX0_untell_32 : decode cX0_untell 32 = .ok (.invokevirtual 343, 3) := dk_182 1 87 (dk_at dksX0_untell_1 10 rfl rfl)
theorem dX0_untell_35 : decode cX0_untell 35 = .ok (.ifCond .eq 7, 3) := dk_153 0 7 (dk_at dksX0_untell_1 13 rfl rfl)
theorem dX0_untell_38 : decode cX0_untell 38 = .ok (.iconst 1, 1) := dk_4 (dk_at dksX0_untell_1 16 rfl rfl)
theorem dX0_untell_39 : decode cX0_untell 39 = .ok (.goto 4, 3) := dk_167 0 4 (dk_at dksX0_untell_1 17 rfl rfl)
theorem dX0_untell_42 : decode cX0_untell 42 = .ok (.iconst 0, 1) := dk_3 (dk_at dksX0_untell_1 20 rfl rfl)
theorem dX0_untell_43 : decode cX0_untell 43 = .ok (.ireturn, 1) := dk_172 (dk_at dksX0_untell_1 21 rfl rfl)
abbrev cX0_later : ByteArray := prog_1_method_69_code
def yX0_later : MethodName := ⟨RX0, "later", "(I)I"⟩
def dkwX0_later_1 : List UInt8 := [172, 42, 89, 180, 1, 77, 27, 96, 181, 1, 77, 42, 180, 1, 77, 172]
abbrev dktX0_later_1 : List UInt8 := dkwX0_later_1 ++ []
def dkwX0_later_0 : List UInt8 := [27, 155, 0, 22, 27, 17, 3, 232, 163, 0, 15, 42, 180, 1, 77, 27, 96, 19, 1, 90, 164, 0, 5, 2]
abbrev dktX0_later_0 : List UInt8 := dkwX0_later_0 ++ dktX0_later_1
theorem dksX0_later_0 : cX0_later.data.toList.drop 0 = dktX0_later_0 := by decide +kernel
theorem dksX0_later_1 : cX0_later.data.toList.drop 24 = dktX0_later_1 := dk_seg dksX0_later_0 24 rfl rfl
theorem dX0_later_0 : decode cX0_later 0 = .ok (.iload_n 1, 1) := dk_27 (dk_at dksX0_later_0 0 rfl rfl)
theorem dX0_later_1 : decode cX0_later 1 = .ok (.ifCond .lt 22, 3) := dk_155 0 22 (dk_at dksX0_later_0 1 rfl rfl)
theorem dX0_later_4 : decode cX0_later 4 = .ok (.iload_n 1, 1) := dk_27 (dk_at dksX0_later_0 4 rfl rfl)
theorem dX0_later_5 : decode cX0_later 5 = .ok (.sipush 1000, 3) := dk_17 3 232 (dk_at dksX0_later_0 5 rfl rfl)
theorem dX0_later_8 : decode cX0_later 8 = .ok (.if_icmp .gt 15, 3) := dk_163 0 15 (dk_at dksX0_later_0 8 rfl rfl)
theorem dX0_later_11 : decode cX0_later 11 = .ok (.aload_n 0, 1) := dk_42 (dk_at dksX0_later_0 11 rfl rfl)
theorem dX0_later_12 : decode cX0_later 12 = .ok (.getfield 333, 3) := dk_180 1 77 (dk_at dksX0_later_0 12 rfl rfl)
theorem dX0_later_15 : decode cX0_later 15 = .ok (.iload_n 1, 1) := dk_27 (dk_at dksX0_later_0 15 rfl rfl)
theorem dX0_later_16 : decode cX0_later 16 = .ok (.iadd, 1) := dk_96 (dk_at dksX0_later_0 16 rfl rfl)
theorem dX0_later_17 : decode cX0_later 17 = .ok (.ldc_w 346, 3) := dk_19 1 90 (dk_at dksX0_later_0 17 rfl rfl)
theorem dX0_later_20 : decode cX0_later 20 = .ok (.if_icmp .le 5, 3) := dk_164 0 5 (dk_at dksX0_later_0 20 rfl rfl)
theorem dX0_later_23 : decode cX0_later 23 = .ok (.iconst (-1), 1) := dk_2 (dk_at dksX0_later_0 23 rfl rfl)
theorem dX0_later_24 : decode cX0_later 24 = .ok (.ireturn, 1) := dk_172 (dk_at dksX0_later_1 0 rfl rfl)
theorem dX0_later_25 : decode cX0_later 25 = .ok (.aload_n 0, 1) := dk_42 (dk_at dksX0_later_1 1 rfl rfl)
theorem dX0_later_26 : decode cX0_later 26 = .ok (.dup, 1) := dk_89 (dk_at dksX0_later_1 2 rfl rfl)
theorem dX0_later_27 : decode cX0_later 27 = .ok (.getfield 333, 3) := dk_180 1 77 (dk_at dksX0_later_1 3 rfl rfl)
theorem dX0_later_30 : decode cX0_later 30 = .ok (.iload_n 1, 1) := dk_27 (dk_at dksX0_later_1 6 rfl rfl)
theorem dX0_later_31 : decode cX0_later 31 = .ok (.iadd, 1) := dk_96 (dk_at dksX0_later_1 7 rfl rfl)
theorem dX0_later_32 : decode cX0_later 32 = .ok (.putfield 333, 3) := dk_181 1 77 (dk_at dksX0_later_1 8 rfl rfl)
theorem dX0_later_35 : decode cX0_later 35 = .ok (.aload_n 0, 1) := dk_42 (dk_at dksX0_later_1 11 rfl rfl)
theorem dX0_later_36 : decode cX0_later 36 = .ok (.getfield 333, 3) := dk_180 1 77 (dk_at dksX0_later_1 12 rfl rfl)
theorem dX0_later_39 : decode cX0_later 39 = .ok (.ireturn, 1) := dk_172 (dk_at dksX0_later_1 15 rfl rfl)
abbrev cX0_orders : ByteArray := prog_1_method_71_code
def yX0_orders : MethodName := ⟨RX0, "orders", "(I)I"⟩
def dkwX0_orders_3 : List UInt8 := [167, 255, 215, 28, 172]
abbrev dktX0_orders_3 : List UInt8 := dkwX0_orders_3 ++ []
def dkwX0_orders_2 : List UInt8 := [182, 0, 135, 27, 182, 1, 101, 153, 0, 9, 4, 29, 120, 167, 0, 4, 3, 128, 61, 132, 3, 1]
abbrev dktX0_orders_2 : List UInt8 := dkwX0_orders_2 ++ dktX0_orders_3
def dkwX0_orders_1 : List UInt8 := [172, 3, 61, 3, 62, 29, 16, 6, 162, 0, 41, 28, 42, 42, 42, 29, 182, 1, 64, 42, 180, 0, 178, 3]
abbrev dktX0_orders_1 : List UInt8 := dkwX0_orders_1 ++ dktX0_orders_2
def dkwX0_orders_0 : List UInt8 := [42, 42, 180, 0, 178, 3, 1, 182, 1, 13, 154, 0, 5, 3, 172, 42, 180, 0, 83, 153, 0, 6, 16, 254]
abbrev dktX0_orders_0 : List UInt8 := dkwX0_orders_0 ++ dktX0_orders_1
theorem dksX0_orders_0 : cX0_orders.data.toList.drop 0 = dktX0_orders_0 := by decide +kernel
theorem dksX0_orders_1 : cX0_orders.data.toList.drop 24 = dktX0_orders_1 := dk_seg dksX0_orders_0 24 rfl rfl
theorem dksX0_orders_2 : cX0_orders.data.toList.drop 48 = dktX0_orders_2 := dk_seg dksX0_orders_1 24 rfl rfl
theorem dksX0_orders_3 : cX0_orders.data.toList.drop 70 = dktX0_orders_3 := dk_seg dksX0_orders_2 22 rfl rfl
theorem dX0_orders_0 : decode cX0_orders 0 = .ok (.aload_n 0, 1) := dk_42 (dk_at dksX0_orders_0 0 rfl rfl)
theorem dX0_orders_1 : decode cX0_orders 1 = .ok (.aload_n 0, 1) := dk_42 (dk_at dksX0_orders_0 1 rfl rfl)
theorem dX0_orders_2 : decode cX0_orders 2 = .ok (.getfield 178, 3) := dk_180 0 178 (dk_at dksX0_orders_0 2 rfl rfl)
theorem dX0_orders_5 : decode cX0_orders 5 = .ok (.iconst 0, 1) := dk_3 (dk_at dksX0_orders_0 5 rfl rfl)
theorem dX0_orders_6 : decode cX0_orders 6 = .ok (.aconst_null, 1) := dk_1 (dk_at dksX0_orders_0 6 rfl rfl)
theorem dX0_orders_7 : decode cX0_orders 7 = .ok (.invokevirtual 269, 3) := dk_182 1 13 (dk_at dksX0_orders_0 7 rfl rfl)
theorem dX0_orders_10 : decode cX0_orders 10 = .ok (.ifCond .ne 5, 3) := dk_154 0 5 (dk_at dksX0_orders_0 10 rfl rfl)
theorem dX0_orders_13 : decode cX0_orders 13 = .ok (.iconst 0, 1) := dk_3 (dk_at dksX0_orders_0 13 rfl rfl)
theorem dX0_orders_14 : decode cX0_orders 14 = .ok (.ireturn, 1) := dk_172 (dk_at dksX0_orders_0 14 rfl rfl)
theorem dX0_orders_15 : decode cX0_orders 15 = .ok (.aload_n 0, 1) := dk_42 (dk_at dksX0_orders_0 15 rfl rfl)
theorem dX0_orders_16 : decode cX0_orders 16 = .ok (.getfield 83, 3) := dk_180 0 83 (dk_at dksX0_orders_0 16 rfl rfl)
theorem dX0_orders_19 : decode cX0_orders 19 = .ok (.ifCond .eq 6, 3) := dk_153 0 6 (dk_at dksX0_orders_0 19 rfl rfl)
theorem dX0_orders_22 : decode cX0_orders 22 = .ok (.bipush (-2), 2) := dk_16 254 (dk_at dksX0_orders_0 22 rfl rfl)
theorem dX0_orders_24 : decode cX0_orders 24 = .ok (.ireturn, 1) := dk_172 (dk_at dksX0_orders_1 0 rfl rfl)
theorem dX0_orders_25 : decode cX0_orders 25 = .ok (.iconst 0, 1) := dk_3 (dk_at dksX0_orders_1 1 rfl rfl)
theorem dX0_orders_26 : decode cX0_orders 26 = .ok (.istore_n 2, 1) := dk_61 (dk_at dksX0_orders_1 2 rfl rfl)
theorem dX0_orders_27 : decode cX0_orders 27 = .ok (.iconst 0, 1) := dk_3 (dk_at dksX0_orders_1 3 rfl rfl)
theorem dX0_orders_28 : decode cX0_orders 28 = .ok (.istore_n 3, 1) := dk_62 (dk_at dksX0_orders_1 4 rfl rfl)
theorem dX0_orders_29 : decode cX0_orders 29 = .ok (.iload_n 3, 1) := dk_29 (dk_at dksX0_orders_1 5 rfl rfl)
theorem dX0_orders_30 : decode cX0_orders 30 = .ok (.bipush 6, 2) := dk_16 6 (dk_at dksX0_orders_1 6 rfl rfl)
theorem dX0_orders_32 : decode cX0_orders 32 = .ok (.if_icmp .ge 41, 3) := dk_162 0 41 (dk_at dksX0_orders_1 8 rfl rfl)
theorem dX0_orders_35 : decode cX0_orders 35 = .ok (.iload_n 2, 1) := dk_28 (dk_at dksX0_orders_1 11 rfl rfl)
theorem dX0_orders_36 : decode cX0_orders 36 = .ok (.aload_n 0, 1) := dk_42 (dk_at dksX0_orders_1 12 rfl rfl)
theorem dX0_orders_37 : decode cX0_orders 37 = .ok (.aload_n 0, 1) := dk_42 (dk_at dksX0_orders_1 13 rfl rfl)
theorem dX0_orders_38 : decode cX0_orders 38 = .ok (.aload_n 0, 1) := dk_42 (dk_at dksX0_orders_1 14 rfl rfl)
theorem dX0_orders_39 : decode cX0_orders 39 = .ok (.iload_n 3, 1) := dk_29 (dk_at dksX0_orders_1 15 rfl rfl)
theorem dX0_orders_40 : decode cX0_orders 40 = .ok (.invokevirtual 320, 3) := dk_182 1 64 (dk_at dksX0_orders_1 16 rfl rfl)
theorem dX0_orders_43 : decode cX0_orders 43 = .ok (.aload_n 0, 1) := dk_42 (dk_at dksX0_orders_1 19 rfl rfl)
theorem dX0_orders_44 : decode cX0_orders 44 = .ok (.getfield 178, 3) := dk_180 0 178 (dk_at dksX0_orders_1 20 rfl rfl)
theorem dX0_orders_47 : decode cX0_orders 47 = .ok (.iconst 0, 1) := dk_3 (dk_at dksX0_orders_1 23 rfl rfl)
theorem dX0_orders_48 : decode cX0_orders 48 = .ok (.invokevirtual 135, 3) := dk_182 0 135 (dk_at dksX0_orders_2 0 rfl rfl)
theorem dX0_orders_51 : decode cX0_orders 51 = .ok (.iload_n 1, 1) := dk_27 (dk_at dksX0_orders_2 3 rfl rfl)
theorem dX0_orders_52 : decode cX0_orders 52 = .ok (.invokevirtual 357, 3) := dk_182 1 101 (dk_at dksX0_orders_2 4 rfl rfl)
theorem dX0_orders_55 : decode cX0_orders 55 = .ok (.ifCond .eq 9, 3) := dk_153 0 9 (dk_at dksX0_orders_2 7 rfl rfl)
theorem dX0_orders_58 : decode cX0_orders 58 = .ok (.iconst 1, 1) := dk_4 (dk_at dksX0_orders_2 10 rfl rfl)
theorem dX0_orders_59 : decode cX0_orders 59 = .ok (.iload_n 3, 1) := dk_29 (dk_at dksX0_orders_2 11 rfl rfl)
theorem dX0_orders_60 : decode cX0_orders 60 = .ok (.ishl, 1) := dk_120 (dk_at dksX0_orders_2 12 rfl rfl)
theorem dX0_orders_61 : decode cX0_orders 61 = .ok (.goto 4, 3) := dk_167 0 4 (dk_at dksX0_orders_2 13 rfl rfl)
theorem dX0_orders_64 : decode cX0_orders 64 = .ok (.iconst 0, 1) := dk_3 (dk_at dksX0_orders_2 16 rfl rfl)
theorem dX0_orders_65 : decode cX0_orders 65 = .ok (.ior, 1) := dk_128 (dk_at dksX0_orders_2 17 rfl rfl)
theorem dX0_orders_66 : decode cX0_orders 66 = .ok (.istore_n 2, 1) := dk_61 (dk_at dksX0_orders_2 18 rfl rfl)
theorem dX0_orders_67 : decode cX0_orders 67 = .ok (.iinc 3 1, 3) := dk_132 3 1 (dk_at dksX0_orders_2 19 rfl rfl)
theorem dX0_orders_70 : decode cX0_orders 70 = .ok (.goto (-41), 3) := dk_167 255 215 (dk_at dksX0_orders_3 0 rfl rfl)
theorem dX0_orders_73 : decode cX0_orders 73 = .ok (.iload_n 2, 1) := dk_28 (dk_at dksX0_orders_3 3 rfl rfl)
theorem dX0_orders_74 : decode cX0_orders 74 = .ok (.ireturn, 1) := dk_172 (dk_at dksX0_orders_3 4 rfl rfl)
abbrev cX0_areSo : ByteArray := prog_1_method_70_code
def yX0_areSo : MethodName := ⟨RX0, "areSo", "([II)Z"⟩
def dkwX0_areSo_3 : List UInt8 := [160, 0, 7, 4, 167, 0, 4, 3, 62, 132, 4, 1, 167, 255, 180, 29, 172]
abbrev dktX0_areSo_3 : List UInt8 := dkwX0_areSo_3 ++ []
def dkwX0_areSo_2 : List UInt8 := [180, 1, 94, 46, 25, 5, 180, 1, 95, 160, 0, 7, 4, 167, 0, 4, 3, 25, 5, 180, 1, 98]
abbrev dktX0_areSo_2 : List UInt8 := dkwX0_areSo_2 ++ dktX0_areSo_3
def dkwX0_areSo_1 : List UInt8 := [182, 0, 51, 192, 1, 75, 58, 5, 29, 153, 0, 44, 25, 5, 28, 182, 1, 91, 153, 0, 31, 43, 25, 5]
abbrev dktX0_areSo_1 : List UInt8 := dkwX0_areSo_1 ++ dktX0_areSo_2
def dkwX0_areSo_0 : List UInt8 := [4, 62, 3, 54, 4, 21, 4, 42, 180, 0, 193, 182, 0, 47, 162, 0, 70, 42, 180, 0, 193, 21, 4]
abbrev dktX0_areSo_0 : List UInt8 := dkwX0_areSo_0 ++ dktX0_areSo_1
theorem dksX0_areSo_0 : cX0_areSo.data.toList.drop 0 = dktX0_areSo_0 := by decide +kernel
theorem dksX0_areSo_1 : cX0_areSo.data.toList.drop 23 = dktX0_areSo_1 := dk_seg dksX0_areSo_0 23 rfl rfl
theorem dksX0_areSo_2 : cX0_areSo.data.toList.drop 47 = dktX0_areSo_2 := dk_seg dksX0_areSo_1 24 rfl rfl
theorem dksX0_areSo_3 : cX0_areSo.data.toList.drop 69 = dktX0_areSo_3 := dk_seg dksX0_areSo_2 22 rfl rfl
theorem dX0_areSo_0 : decode cX0_areSo 0 = .ok (.iconst 1, 1) := dk_4 (dk_at dksX0_areSo_0 0 rfl rfl)
theorem dX0_areSo_1 : decode cX0_areSo 1 = .ok (.istore_n 3, 1) := dk_62 (dk_at dksX0_areSo_0 1 rfl rfl)
theorem dX0_areSo_2 : decode cX0_areSo 2 = .ok (.iconst 0, 1) := dk_3 (dk_at dksX0_areSo_0 2 rfl rfl)
theorem dX0_areSo_3 : decode cX0_areSo 3 = .ok (.istore 4, 2) := dk_54 4 (dk_at dksX0_areSo_0 3 rfl rfl)
theorem dX0_areSo_5 : decode cX0_areSo 5 = .ok (.iload 4, 2) := dk_21 4 (dk_at dksX0_areSo_0 5 rfl rfl)
theorem dX0_areSo_7 : decode cX0_areSo 7 = .ok (.aload_n 0, 1) := dk_42 (dk_at dksX0_areSo_0 7 rfl rfl)
theorem dX0_areSo_8 : decode cX0_areSo 8 = .ok (.getfield 193, 3) := dk_180 0 193 (dk_at dksX0_areSo_0 8 rfl rfl)
theorem dX0_areSo_11 : decode cX0_areSo 11 = .ok (.invokevirtual 47, 3) := dk_182 0 47 (dk_at dksX0_areSo_0 11 rfl rfl)
theorem dX0_areSo_14 : decode cX0_areSo 14 = .ok (.if_icmp .ge 70, 3) := dk_162 0 70 (dk_at dksX0_areSo_0 14 rfl rfl)
theorem dX0_areSo_17 : decode cX0_areSo 17 = .ok (.aload_n 0, 1) := dk_42 (dk_at dksX0_areSo_0 17 rfl rfl)
theorem dX0_areSo_18 : decode cX0_areSo 18 = .ok (.getfield 193, 3) := dk_180 0 193 (dk_at dksX0_areSo_0 18 rfl rfl)
theorem dX0_areSo_21 : decode cX0_areSo 21 = .ok (.iload 4, 2) := dk_21 4 (dk_at dksX0_areSo_0 21 rfl rfl)
theorem dX0_areSo_23 : decode cX0_areSo 23 = .ok (.invokevirtual 51, 3) := dk_182 0 51 (dk_at dksX0_areSo_1 0 rfl rfl)
theorem dX0_areSo_26 : decode cX0_areSo 26 = .ok (.checkcast 331, 3) := dk_192 1 75 (dk_at dksX0_areSo_1 3 rfl rfl)
theorem dX0_areSo_29 : decode cX0_areSo 29 = .ok (.astore 5, 2) := dk_58 5 (dk_at dksX0_areSo_1 6 rfl rfl)
theorem dX0_areSo_31 : decode cX0_areSo 31 = .ok (.iload_n 3, 1) := dk_29 (dk_at dksX0_areSo_1 8 rfl rfl)
theorem dX0_areSo_32 : decode cX0_areSo 32 = .ok (.ifCond .eq 44, 3) := dk_153 0 44 (dk_at dksX0_areSo_1 9 rfl rfl)
theorem dX0_areSo_35 : decode cX0_areSo 35 = .ok (.aload 5, 2) := dk_25 5 (dk_at dksX0_areSo_1 12 rfl rfl)
theorem dX0_areSo_37 : decode cX0_areSo 37 = .ok (.iload_n 2, 1) := dk_28 (dk_at dksX0_areSo_1 14 rfl rfl)
theorem dX0_areSo_38 : decode cX0_areSo 38 = .ok (.invokevirtual 347, 3) := dk_182 1 91 (dk_at dksX0_areSo_1 15 rfl rfl)
theorem dX0_areSo_41 : decode cX0_areSo 41 = .ok (.ifCond .eq 31, 3) := dk_153 0 31 (dk_at dksX0_areSo_1 18 rfl rfl)
theorem dX0_areSo_44 : decode cX0_areSo 44 = .ok (.aload_n 1, 1) := dk_43 (dk_at dksX0_areSo_1 21 rfl rfl)
theorem dX0_areSo_45 : decode cX0_areSo 45 = .ok (.aload 5, 2) := dk_25 5 (dk_at dksX0_areSo_1 22 rfl rfl)
theorem dX0_areSo_47 : decode cX0_areSo 47 = .ok (.getfield 350, 3) := dk_180 1 94 (dk_at dksX0_areSo_2 0 rfl rfl)
theorem dX0_areSo_50 : decode cX0_areSo 50 = .ok (.iaload, 1) := dk_46 (dk_at dksX0_areSo_2 3 rfl rfl)
theorem dX0_areSo_51 : decode cX0_areSo 51 = .ok (.aload 5, 2) := dk_25 5 (dk_at dksX0_areSo_2 4 rfl rfl)
theorem dX0_areSo_53 : decode cX0_areSo 53 = .ok (.getfield 351, 3) := dk_180 1 95 (dk_at dksX0_areSo_2 6 rfl rfl)
theorem dX0_areSo_56 : decode cX0_areSo 56 = .ok (.if_icmp .ne 7, 3) := dk_160 0 7 (dk_at dksX0_areSo_2 9 rfl rfl)
theorem dX0_areSo_59 : decode cX0_areSo 59 = .ok (.iconst 1, 1) := dk_4 (dk_at dksX0_areSo_2 12 rfl rfl)
theorem dX0_areSo_60 : decode cX0_areSo 60 = .ok (.goto 4, 3) := dk_167 0 4 (dk_at dksX0_areSo_2 13 rfl rfl)
theorem dX0_areSo_63 : decode cX0_areSo 63 = .ok (.iconst 0, 1) := dk_3 (dk_at dksX0_areSo_2 16 rfl rfl)
theorem dX0_areSo_64 : decode cX0_areSo 64 = .ok (.aload 5, 2) := dk_25 5 (dk_at dksX0_areSo_2 17 rfl rfl)
theorem dX0_areSo_66 : decode cX0_areSo 66 = .ok (.getfield 354, 3) := dk_180 1 98 (dk_at dksX0_areSo_2 19 rfl rfl)
theorem dX0_areSo_69 : decode cX0_areSo 69 = .ok (.if_icmp .ne 7, 3) := dk_160 0 7 (dk_at dksX0_areSo_3 0 rfl rfl)
theorem dX0_areSo_72 : decode cX0_areSo 72 = .ok (.iconst 1, 1) := dk_4 (dk_at dksX0_areSo_3 3 rfl rfl)
theorem dX0_areSo_73 : decode cX0_areSo 73 = .ok (.goto 4, 3) := dk_167 0 4 (dk_at dksX0_areSo_3 4 rfl rfl)
theorem dX0_areSo_76 : decode cX0_areSo 76 = .ok (.iconst 0, 1) := dk_3 (dk_at dksX0_areSo_3 7 rfl rfl)
theorem dX0_areSo_77 : decode cX0_areSo 77 = .ok (.istore_n 3, 1) := dk_62 (dk_at dksX0_areSo_3 8 rfl rfl)
theorem dX0_areSo_78 : decode cX0_areSo 78 = .ok (.iinc 4 1, 3) := dk_132 4 1 (dk_at dksX0_areSo_3 9 rfl rfl)
theorem dX0_areSo_81 : decode cX0_areSo 81 = .ok (.goto (-76), 3) := dk_167 255 180 (dk_at dksX0_areSo_3 12 rfl rfl)
theorem dX0_areSo_84 : decode cX0_areSo 84 = .ok (.iload_n 3, 1) := dk_29 (dk_at dksX0_areSo_3 15 rfl rfl)
theorem dX0_areSo_85 : decode cX0_areSo 85 = .ok (.ireturn, 1) := dk_172 (dk_at dksX0_areSo_3 16 rfl rfl)
abbrev cX0_image : ByteArray := prog_1_method_73_code
def yX0_image : MethodName := ⟨RX0, "image", "(I)I"⟩
def dkwX0_image_1 : List UInt8 := [184, 0, 72, 42, 180, 0, 199, 27, 4, 84, 42, 180, 0, 164, 16, 12, 46, 172]
abbrev dktX0_image_1 : List UInt8 := dkwX0_image_1 ++ []
def dkwX0_image_0 : List UInt8 := [27, 184, 1, 105, 154, 0, 5, 2, 172, 42, 180, 0, 164, 3, 42, 180, 0, 196, 27, 50, 3, 16, 13]
abbrev dktX0_image_0 : List UInt8 := dkwX0_image_0 ++ dktX0_image_1
theorem dksX0_image_0 : cX0_image.data.toList.drop 0 = dktX0_image_0 := by decide +kernel
theorem dksX0_image_1 : cX0_image.data.toList.drop 23 = dktX0_image_1 := dk_seg dksX0_image_0 23 rfl rfl
theorem dX0_image_0 : decode cX0_image 0 = .ok (.iload_n 1, 1) := dk_27 (dk_at dksX0_image_0 0 rfl rfl)
theorem dX0_image_1 : decode cX0_image 1 = .ok (.invokestatic 361, 3) := dk_184 1 105 (dk_at dksX0_image_0 1 rfl rfl)
theorem dX0_image_4 : decode cX0_image 4 = .ok (.ifCond .ne 5, 3) := dk_154 0 5 (dk_at dksX0_image_0 4 rfl rfl)
theorem dX0_image_7 : decode cX0_image 7 = .ok (.iconst (-1), 1) := dk_2 (dk_at dksX0_image_0 7 rfl rfl)
theorem dX0_image_8 : decode cX0_image 8 = .ok (.ireturn, 1) := dk_172 (dk_at dksX0_image_0 8 rfl rfl)
theorem dX0_image_9 : decode cX0_image 9 = .ok (.aload_n 0, 1) := dk_42 (dk_at dksX0_image_0 9 rfl rfl)
theorem dX0_image_10 : decode cX0_image 10 = .ok (.getfield 164, 3) := dk_180 0 164 (dk_at dksX0_image_0 10 rfl rfl)
theorem dX0_image_13 : decode cX0_image 13 = .ok (.iconst 0, 1) := dk_3 (dk_at dksX0_image_0 13 rfl rfl)
theorem dX0_image_14 : decode cX0_image 14 = .ok (.aload_n 0, 1) := dk_42 (dk_at dksX0_image_0 14 rfl rfl)
theorem dX0_image_15 : decode cX0_image 15 = .ok (.getfield 196, 3) := dk_180 0 196 (dk_at dksX0_image_0 15 rfl rfl)
theorem dX0_image_18 : decode cX0_image 18 = .ok (.iload_n 1, 1) := dk_27 (dk_at dksX0_image_0 18 rfl rfl)
theorem dX0_image_19 : decode cX0_image 19 = .ok (.aaload, 1) := dk_50 (dk_at dksX0_image_0 19 rfl rfl)
theorem dX0_image_20 : decode cX0_image 20 = .ok (.iconst 0, 1) := dk_3 (dk_at dksX0_image_0 20 rfl rfl)
theorem dX0_image_21 : decode cX0_image 21 = .ok (.bipush 13, 2) := dk_16 13 (dk_at dksX0_image_0 21 rfl rfl)
theorem dX0_image_23 : decode cX0_image 23 = .ok (.invokestatic 72, 3) := dk_184 0 72 (dk_at dksX0_image_1 0 rfl rfl)
theorem dX0_image_26 : decode cX0_image 26 = .ok (.aload_n 0, 1) := dk_42 (dk_at dksX0_image_1 3 rfl rfl)
theorem dX0_image_27 : decode cX0_image 27 = .ok (.getfield 199, 3) := dk_180 0 199 (dk_at dksX0_image_1 4 rfl rfl)
theorem dX0_image_30 : decode cX0_image 30 = .ok (.iload_n 1, 1) := dk_27 (dk_at dksX0_image_1 7 rfl rfl)
theorem dX0_image_31 : decode cX0_image 31 = .ok (.iconst 1, 1) := dk_4 (dk_at dksX0_image_1 8 rfl rfl)
theorem dX0_image_32 : decode cX0_image 32 = .ok (.bastore, 1) := dk_84 (dk_at dksX0_image_1 9 rfl rfl)
theorem dX0_image_33 : decode cX0_image 33 = .ok (.aload_n 0, 1) := dk_42 (dk_at dksX0_image_1 10 rfl rfl)
theorem dX0_image_34 : decode cX0_image 34 = .ok (.getfield 164, 3) := dk_180 0 164 (dk_at dksX0_image_1 11 rfl rfl)
theorem dX0_image_37 : decode cX0_image 37 = .ok (.bipush 12, 2) := dk_16 12 (dk_at dksX0_image_1 14 rfl rfl)
theorem dX0_image_39 : decode cX0_image 39 = .ok (.iaload, 1) := dk_46 (dk_at dksX0_image_1 16 rfl rfl)
theorem dX0_image_40 : decode cX0_image 40 = .ok (.ireturn, 1) := dk_172 (dk_at dksX0_image_1 17 rfl rfl)
abbrev cX0_isBox : ByteArray := prog_1_method_72_code
def yX0_isBox : MethodName := ⟨RX0, "isBox", "(I)Z"⟩
def dkwX0_isBox_0 : List UInt8 := [26, 3, 5, 184, 0, 235, 172]
abbrev dktX0_isBox_0 : List UInt8 := dkwX0_isBox_0 ++ []
theorem dksX0_isBox_0 : cX0_isBox.data.toList.drop 0 = dktX0_isBox_0 := by decide +kernel
theorem dX0_isBox_0 : decode cX0_isBox 0 = .ok (.iload_n 0, 1) := dk_26 (dk_at dksX0_isBox_0 0 rfl rfl)
theorem dX0_isBox_1 : decode cX0_isBox 1 = .ok (.iconst 0, 1) := dk_3 (dk_at dksX0_isBox_0 1 rfl rfl)
theorem dX0_isBox_2 : decode cX0_isBox 2 = .ok (.iconst 2, 1) := dk_5 (dk_at dksX0_isBox_0 2 rfl rfl)
theorem dX0_isBox_3 : decode cX0_isBox 3 = .ok (.invokestatic 235, 3) := dk_184 0 235 (dk_at dksX0_isBox_0 3 rfl rfl)
theorem dX0_isBox_6 : decode cX0_isBox 6 = .ok (.ireturn, 1) := dk_172 (dk_at dksX0_isBox_0 6 rfl rfl)
abbrev cX0_back : ByteArray := prog_1_method_74_code
def yX0_back : MethodName := ⟨RX0, "back", "(I)I"⟩
def dkwX0_back_2 : List UInt8 := [180, 0, 164, 16, 12, 46, 172]
abbrev dktX0_back_2 : List UInt8 := dkwX0_back_2 ++ []
def dkwX0_back_1 : List UInt8 := [3, 42, 180, 0, 164, 3, 16, 13, 184, 0, 72, 42, 3, 181, 0, 250, 42, 3, 181, 0, 253, 42]
abbrev dktX0_back_1 : List UInt8 := dkwX0_back_1 ++ dktX0_back_2
def dkwX0_back_0 : List UInt8 := [27, 184, 1, 105, 153, 0, 12, 42, 180, 0, 199, 27, 51, 154, 0, 5, 2, 172, 42, 180, 0, 196, 27, 50]
abbrev dktX0_back_0 : List UInt8 := dkwX0_back_0 ++ dktX0_back_1
theorem dksX0_back_0 : cX0_back.data.toList.drop 0 = dktX0_back_0 := by decide +kernel
theorem dksX0_back_1 : cX0_back.data.toList.drop 24 = dktX0_back_1 := dk_seg dksX0_back_0 24 rfl rfl
theorem dksX0_back_2 : cX0_back.data.toList.drop 46 = dktX0_back_2 := dk_seg dksX0_back_1 22 rfl rfl
theorem dX0_back_0 : decode cX0_back 0 = .ok (.iload_n 1, 1) := dk_27 (dk_at dksX0_back_0 0 rfl rfl)
theorem dX0_back_1 : decode cX0_back 1 = .ok (.invokestatic 361, 3) := dk_184 1 105 (dk_at dksX0_back_0 1 rfl rfl)
theorem dX0_back_4 : decode cX0_back 4 = .ok (.ifCond .eq 12, 3) := dk_153 0 12 (dk_at dksX0_back_0 4 rfl rfl)
theorem dX0_back_7 : decode cX0_back 7 = .ok (.aload_n 0, 1) := dk_42 (dk_at dksX0_back_0 7 rfl rfl)
theorem dX0_back_8 : decode cX0_back 8 = .ok (.getfield 199, 3) := dk_180 0 199 (dk_at dksX0_back_0 8 rfl rfl)
theorem dX0_back_11 : decode cX0_back 11 = .ok (.iload_n 1, 1) := dk_27 (dk_at dksX0_back_0 11 rfl rfl)
theorem dX0_back_12 : decode cX0_back 12 = .ok (.baload, 1) := dk_51 (dk_at dksX0_back_0 12 rfl rfl)
theorem dX0_back_13 : decode cX0_back 13 = .ok (.ifCond .ne 5, 3) := dk_154 0 5 (dk_at dksX0_back_0 13 rfl rfl)
theorem dX0_back_16 : decode cX0_back 16 = .ok (.iconst (-1), 1) := dk_2 (dk_at dksX0_back_0 16 rfl rfl)
theorem dX0_back_17 : decode cX0_back 17 = .ok (.ireturn, 1) := dk_172 (dk_at dksX0_back_0 17 rfl rfl)
theorem dX0_back_18 : decode cX0_back 18 = .ok (.aload_n 0, 1) := dk_42 (dk_at dksX0_back_0 18 rfl rfl)
theorem dX0_back_19 : decode cX0_back 19 = .ok (.getfield 196, 3) := dk_180 0 196 (dk_at dksX0_back_0 19 rfl rfl)
theorem dX0_back_22 : decode cX0_back 22 = .ok (.iload_n 1, 1) := dk_27 (dk_at dksX0_back_0 22 rfl rfl)
theorem dX0_back_23 : decode cX0_back 23 = .ok (.aaload, 1) := dk_50 (dk_at dksX0_back_0 23 rfl rfl)
theorem dX0_back_24 : decode cX0_back 24 = .ok (.iconst 0, 1) := dk_3 (dk_at dksX0_back_1 0 rfl rfl)
theorem dX0_back_25 : decode cX0_back 25 = .ok (.aload_n 0, 1) := dk_42 (dk_at dksX0_back_1 1 rfl rfl)
theorem dX0_back_26 : decode cX0_back 26 = .ok (.getfield 164, 3) := dk_180 0 164 (dk_at dksX0_back_1 2 rfl rfl)
theorem dX0_back_29 : decode cX0_back 29 = .ok (.iconst 0, 1) := dk_3 (dk_at dksX0_back_1 5 rfl rfl)
theorem dX0_back_30 : decode cX0_back 30 = .ok (.bipush 13, 2) := dk_16 13 (dk_at dksX0_back_1 6 rfl rfl)
theorem dX0_back_32 : decode cX0_back 32 = .ok (.invokestatic 72, 3) := dk_184 0 72 (dk_at dksX0_back_1 8 rfl rfl)
theorem dX0_back_35 : decode cX0_back 35 = .ok (.aload_n 0, 1) := dk_42 (dk_at dksX0_back_1 11 rfl rfl)
theorem dX0_back_36 : decode cX0_back 36 = .ok (.iconst 0, 1) := dk_3 (dk_at dksX0_back_1 12 rfl rfl)
theorem dX0_back_37 : decode cX0_back 37 = .ok (.putfield 250, 3) := dk_181 0 250 (dk_at dksX0_back_1 13 rfl rfl)
theorem dX0_back_40 : decode cX0_back 40 = .ok (.aload_n 0, 1) := dk_42 (dk_at dksX0_back_1 16 rfl rfl)
theorem dX0_back_41 : decode cX0_back 41 = .ok (.iconst 0, 1) := dk_3 (dk_at dksX0_back_1 17 rfl rfl)
theorem dX0_back_42 : decode cX0_back 42 = .ok (.putfield 253, 3) := dk_181 0 253 (dk_at dksX0_back_1 18 rfl rfl)
theorem dX0_back_45 : decode cX0_back 45 = .ok (.aload_n 0, 1) := dk_42 (dk_at dksX0_back_1 21 rfl rfl)
theorem dX0_back_46 : decode cX0_back 46 = .ok (.getfield 164, 3) := dk_180 0 164 (dk_at dksX0_back_2 0 rfl rfl)
theorem dX0_back_49 : decode cX0_back 49 = .ok (.bipush 12, 2) := dk_16 12 (dk_at dksX0_back_2 3 rfl rfl)
theorem dX0_back_51 : decode cX0_back 51 = .ok (.iaload, 1) := dk_46 (dk_at dksX0_back_2 5 rfl rfl)
theorem dX0_back_52 : decode cX0_back 52 = .ok (.ireturn, 1) := dk_172 (dk_at dksX0_back_2 6 rfl rfl)
abbrev cX0_about : ByteArray := prog_1_method_75_code
def yX0_about : MethodName := ⟨RX0, "about", "(I)I"⟩
def dkwX0_about_5 : List UInt8 := [172, 42, 180, 1, 77, 172, 42, 180, 0, 206, 172, 42, 180, 0, 218, 172, 2, 172]
abbrev dktX0_about_5 : List UInt8 := dkwX0_about_5 ++ []
def dkwX0_about_4 : List UInt8 := [180, 0, 164, 16, 12, 46, 172, 42, 180, 0, 250, 172, 42, 180, 0, 253, 172, 42, 180, 0, 193, 182, 0, 47]
abbrev dktX0_about_4 : List UInt8 := dkwX0_about_4 ++ dktX0_about_5
def dkwX0_about_3 : List UInt8 := [180, 0, 35, 182, 0, 47, 172, 42, 180, 0, 31, 180, 1, 111, 172, 42, 180, 0, 31, 182, 0, 65, 172, 42]
abbrev dktX0_about_3 : List UInt8 := dkwX0_about_3 ++ dktX0_about_4
def dkwX0_about_2 : List UInt8 := [42, 180, 0, 31, 180, 0, 80, 182, 0, 47, 172, 42, 180, 0, 31, 180, 1, 108, 172, 42, 180, 0, 31]
abbrev dktX0_about_2 : List UInt8 := dkwX0_about_2 ++ dktX0_about_3
def dkwX0_about_1 : List UInt8 := [170, 0, 0, 0, 0, 0, 150, 0, 0, 0, 0, 0, 0, 0, 11, 0, 0, 0, 63, 0, 0, 0, 74, 0, 0, 0, 82, 0, 0, 0, 93, 0, 0, 0, 101, 0, 0, 0, 109, 0, 0, 0, 117, 0, 0, 0, 122, 0, 0, 0, 127, 0, 0, 0, 135, 0, 0, 0, 140, 0, 0, 0, 145]
abbrev dktX0_about_1 : List UInt8 := dkwX0_about_1 ++ dktX0_about_2
def dkwX0_about_0 : List UInt8 := [27]
abbrev dktX0_about_0 : List UInt8 := dkwX0_about_0 ++ dktX0_about_1
theorem dksX0_about_0 : cX0_about.data.toList.drop 0 = dktX0_about_0 := by decide +kernel
theorem dksX0_about_1 : cX0_about.data.toList.drop 1 = dktX0_about_1 := dk_seg dksX0_about_0 1 rfl rfl
theorem dksX0_about_2 : cX0_about.data.toList.drop 64 = dktX0_about_2 := dk_seg dksX0_about_1 63 rfl rfl
theorem dksX0_about_3 : cX0_about.data.toList.drop 87 = dktX0_about_3 := dk_seg dksX0_about_2 23 rfl rfl
theorem dksX0_about_4 : cX0_about.data.toList.drop 111 = dktX0_about_4 := dk_seg dksX0_about_3 24 rfl rfl
theorem dksX0_about_5 : cX0_about.data.toList.drop 135 = dktX0_about_5 := dk_seg dksX0_about_4 24 rfl rfl
theorem dX0_about_0 : decode cX0_about 0 = .ok (.iload_n 1, 1) := dk_27 (dk_at dksX0_about_0 0 rfl rfl)
theorem dX0_about_1 : decode cX0_about 1 = .ok (.tableswitch 150 0 11 #[63, 74, 82, 93, 101, 109, 117, 122, 127, 135, 140, 145], 63) := by decide +kernel
theorem dX0_about_64 : decode cX0_about 64 = .ok (.aload_n 0, 1) := dk_42 (dk_at dksX0_about_2 0 rfl rfl)
theorem dX0_about_65 : decode cX0_about 65 = .ok (.getfield 31, 3) := dk_180 0 31 (dk_at dksX0_about_2 1 rfl rfl)
theorem dX0_about_68 : decode cX0_about 68 = .ok (.getfield 80, 3) := dk_180 0 80 (dk_at dksX0_about_2 4 rfl rfl)
theorem dX0_about_71 : decode cX0_about 71 = .ok (.invokevirtual 47, 3) := dk_182 0 47 (dk_at dksX0_about_2 7 rfl rfl)
theorem dX0_about_74 : decode cX0_about 74 = .ok (.ireturn, 1) := dk_172 (dk_at dksX0_about_2 10 rfl rfl)
theorem dX0_about_75 : decode cX0_about 75 = .ok (.aload_n 0, 1) := dk_42 (dk_at dksX0_about_2 11 rfl rfl)
theorem dX0_about_76 : decode cX0_about 76 = .ok (.getfield 31, 3) := dk_180 0 31 (dk_at dksX0_about_2 12 rfl rfl)
theorem dX0_about_79 : decode cX0_about 79 = .ok (.getfield 364, 3) := dk_180 1 108 (dk_at dksX0_about_2 15 rfl rfl)
theorem dX0_about_82 : decode cX0_about 82 = .ok (.ireturn, 1) := dk_172 (dk_at dksX0_about_2 18 rfl rfl)
theorem dX0_about_83 : decode cX0_about 83 = .ok (.aload_n 0, 1) := dk_42 (dk_at dksX0_about_2 19 rfl rfl)
theorem dX0_about_84 : decode cX0_about 84 = .ok (.getfield 31, 3) := dk_180 0 31 (dk_at dksX0_about_2 20 rfl rfl)
theorem dX0_about_87 : decode cX0_about 87 = .ok (.getfield 35, 3) := dk_180 0 35 (dk_at dksX0_about_3 0 rfl rfl)
theorem dX0_about_90 : decode cX0_about 90 = .ok (.invokevirtual 47, 3) := dk_182 0 47 (dk_at dksX0_about_3 3 rfl rfl)
theorem dX0_about_93 : decode cX0_about 93 = .ok (.ireturn, 1) := dk_172 (dk_at dksX0_about_3 6 rfl rfl)
theorem dX0_about_94 : decode cX0_about 94 = .ok (.aload_n 0, 1) := dk_42 (dk_at dksX0_about_3 7 rfl rfl)
theorem dX0_about_95 : decode cX0_about 95 = .ok (.getfield 31, 3) := dk_180 0 31 (dk_at dksX0_about_3 8 rfl rfl)
theorem dX0_about_98 : decode cX0_about 98 = .ok (.getfield 367, 3) := dk_180 1 111 (dk_at dksX0_about_3 11 rfl rfl)
theorem dX0_about_101 : decode cX0_about 101 = .ok (.ireturn, 1) := dk_172 (dk_at dksX0_about_3 14 rfl rfl)
theorem dX0_about_102 : decode cX0_about 102 = .ok (.aload_n 0, 1) := dk_42 (dk_at dksX0_about_3 15 rfl rfl)
theorem dX0_about_103 : decode cX0_about 103 = .ok (.getfield 31, 3) := dk_180 0 31 (dk_at dksX0_about_3 16 rfl rfl)
theorem dX0_about_106 : decode cX0_about 106 = .ok (.invokevirtual 65, 3) := dk_182 0 65 (dk_at dksX0_about_3 19 rfl rfl)
theorem dX0_about_109 : decode cX0_about 109 = .ok (.ireturn, 1) := dk_172 (dk_at dksX0_about_3 22 rfl rfl)
theorem dX0_about_110 : decode cX0_about 110 = .ok (.aload_n 0, 1) := dk_42 (dk_at dksX0_about_3 23 rfl rfl)
theorem dX0_about_111 : decode cX0_about 111 = .ok (.getfield 164, 3) := dk_180 0 164 (dk_at dksX0_about_4 0 rfl rfl)
theorem dX0_about_114 : decode cX0_about 114 = .ok (.bipush 12, 2) := dk_16 12 (dk_at dksX0_about_4 3 rfl rfl)
theorem dX0_about_116 : decode cX0_about 116 = .ok (.iaload, 1) := dk_46 (dk_at dksX0_about_4 5 rfl rfl)
theorem dX0_about_117 : decode cX0_about 117 = .ok (.ireturn, 1) := dk_172 (dk_at dksX0_about_4 6 rfl rfl)
theorem dX0_about_118 : decode cX0_about 118 = .ok (.aload_n 0, 1) := dk_42 (dk_at dksX0_about_4 7 rfl rfl)
theorem dX0_about_119 : decode cX0_about 119 = .ok (.getfield 250, 3) := dk_180 0 250 (dk_at dksX0_about_4 8 rfl rfl)
theorem dX0_about_122 : decode cX0_about 122 = .ok (.ireturn, 1) := dk_172 (dk_at dksX0_about_4 11 rfl rfl)
theorem dX0_about_123 : decode cX0_about 123 = .ok (.aload_n 0, 1) := dk_42 (dk_at dksX0_about_4 12 rfl rfl)
theorem dX0_about_124 : decode cX0_about 124 = .ok (.getfield 253, 3) := dk_180 0 253 (dk_at dksX0_about_4 13 rfl rfl)
theorem dX0_about_127 : decode cX0_about 127 = .ok (.ireturn, 1) := dk_172 (dk_at dksX0_about_4 16 rfl rfl)
theorem dX0_about_128 : decode cX0_about 128 = .ok (.aload_n 0, 1) := dk_42 (dk_at dksX0_about_4 17 rfl rfl)
theorem dX0_about_129 : decode cX0_about 129 = .ok (.getfield 193, 3) := dk_180 0 193 (dk_at dksX0_about_4 18 rfl rfl)
theorem dX0_about_132 : decode cX0_about 132 = .ok (.invokevirtual 47, 3) := dk_182 0 47 (dk_at dksX0_about_4 21 rfl rfl)
theorem dX0_about_135 : decode cX0_about 135 = .ok (.ireturn, 1) := dk_172 (dk_at dksX0_about_5 0 rfl rfl)
theorem dX0_about_136 : decode cX0_about 136 = .ok (.aload_n 0, 1) := dk_42 (dk_at dksX0_about_5 1 rfl rfl)
theorem dX0_about_137 : decode cX0_about 137 = .ok (.getfield 333, 3) := dk_180 1 77 (dk_at dksX0_about_5 2 rfl rfl)
theorem dX0_about_140 : decode cX0_about 140 = .ok (.ireturn, 1) := dk_172 (dk_at dksX0_about_5 5 rfl rfl)
theorem dX0_about_141 : decode cX0_about 141 = .ok (.aload_n 0, 1) := dk_42 (dk_at dksX0_about_5 6 rfl rfl)
theorem dX0_about_142 : decode cX0_about 142 = .ok (.getfield 206, 3) := dk_180 0 206 (dk_at dksX0_about_5 7 rfl rfl)
theorem dX0_about_145 : decode cX0_about 145 = .ok (.ireturn, 1) := dk_172 (dk_at dksX0_about_5 10 rfl rfl)
theorem dX0_about_146 : decode cX0_about 146 = .ok (.aload_n 0, 1) := dk_42 (dk_at dksX0_about_5 11 rfl rfl)
theorem dX0_about_147 : decode cX0_about 147 = .ok (.getfield 218, 3) := dk_180 0 218 (dk_at dksX0_about_5 12 rfl rfl)
theorem dX0_about_150 : decode cX0_about 150 = .ok (.ireturn, 1) := dk_172 (dk_at dksX0_about_5 15 rfl rfl)
theorem dX0_about_151 : decode cX0_about 151 = .ok (.iconst (-1), 1) := dk_2 (dk_at dksX0_about_5 16 rfl rfl)
theorem dX0_about_152 : decode cX0_about 152 = .ok (.ireturn, 1) := dk_172 (dk_at dksX0_about_5 17 rfl rfl)
theorem q115 : (Jvm.Cond.initialized "GuildCharter") ∈ lw_all := lw_g (lw_at lw_m1 1 rfl) rfl
theorem q140 : (Jvm.Cond.instantiable "GuildCharter" (34 : Nat)) ∈ lw_all := lw_g (lw_at lw_m1 26 rfl) rfl
theorem q142 : (Jvm.Cond.instanceMethod ({ cls := "GuildCharter", name := "<init>", desc := "()V" } : Jvm.MethodName)) ∈ lw_all := lw_g (lw_at lw_m1 28 rfl) rfl
theorem q143 : (Jvm.Cond.code ({ cls := "GuildCharter", name := "<init>", desc := "()V" } : Jvm.MethodName) prog_1_method_14_code (2 : Nat) (Option.none : Option Jvm.ClassFile.FieldType)) ∈ lw_all := lw_g (lw_at lw_m1 29 rfl) rfl
theorem q144 : (Jvm.Cond.methodLink "GuildCharter" (147 : Nat) ({ cls := "java/lang/Object", name := "<init>", desc := "()V" } : Jvm.MethodName)) ∈ lw_all := lw_g (lw_at lw_m1 30 rfl) rfl
theorem q147 : (Jvm.Cond.classLink "GuildCharter" (36 : Nat) "GuildCharter$Port") ∈ lw_all := lw_g (lw_at lw_m1 33 rfl) rfl
theorem q149 : (Jvm.Cond.methodLinkNest "GuildCharter" (163 : Nat) ({ cls := "GuildCharter$Port", name := "<init>", desc := "()V" } : Jvm.MethodName) "GuildCharter") ∈ lw_tbl := lw_at lw_m1 35 rfl
theorem q185 : (Jvm.Cond.fieldLink "GuildCharter" (80 : Nat) "GuildCharter$Port" "words" "Ljava/util/ArrayList;") ∈ lw_all := lw_g (lw_at lw_m1 71 rfl) rfl
theorem q188 : (Jvm.Cond.fieldLink "GuildCharter" (35 : Nat) "GuildCharter$Port" "rules" "Ljava/util/ArrayList;") ∈ lw_all := lw_g (lw_at lw_m1 74 rfl) rfl
theorem q191 : (Jvm.Cond.fieldLink "GuildCharter" (111 : Nat) "GuildCharter$Port" "worth" "[I") ∈ lw_all := lw_g (lw_at lw_m1 77 rfl) rfl
theorem q194 : (Jvm.Cond.fieldLink "GuildCharter" (114 : Nat) "GuildCharter$Port" "behind" "[I") ∈ lw_all := lw_g (lw_at lw_m1 80 rfl) rfl
theorem q201 : (Jvm.Cond.fieldLink "GuildCharter" (364 : Nat) "GuildCharter$Port" "pairs" "I") ∈ lw_all := lw_g (lw_at lw_m1 87 rfl) rfl
theorem q203 : (Jvm.Cond.fieldLink "GuildCharter" (367 : Nat) "GuildCharter$Port" "alts" "I") ∈ lw_all := lw_g (lw_at lw_m1 89 rfl) rfl
theorem q230 : (Jvm.Cond.classLink "GuildCharter" (167 : Nat) "[[I") ∈ lw_all := lw_g (lw_at lw_m1 116 rfl) rfl
theorem q232 : (Jvm.Cond.classLink "GuildCharter" (42 : Nat) "java/util/ArrayList") ∈ lw_all := lw_g (lw_at lw_m1 118 rfl) rfl
theorem q233 : (Jvm.Cond.methodLink "GuildCharter" (190 : Nat) ({ cls := "java/util/ArrayList", name := "<init>", desc := "(I)V" } : Jvm.MethodName)) ∈ lw_all := lw_g (lw_at lw_m1 119 rfl) rfl
theorem q234 : (Jvm.Cond.methodLink "GuildCharter" (203 : Nat) ({ cls := "GuildCharter", name := "begin", desc := "()V" } : Jvm.MethodName)) ∈ lw_all := lw_g (lw_at lw_m1 120 rfl) rfl
theorem q235 : (Jvm.Cond.privateMethod ({ cls := "GuildCharter", name := "begin", desc := "()V" } : Jvm.MethodName)) ∈ lw_tbl := lw_at lw_m1 121 rfl
theorem q236 : (Jvm.Cond.instanceMethod ({ cls := "GuildCharter", name := "begin", desc := "()V" } : Jvm.MethodName)) ∈ lw_all := lw_g (lw_at lw_m1 122 rfl) rfl
theorem q237 : (Jvm.Cond.code ({ cls := "GuildCharter", name := "begin", desc := "()V" } : Jvm.MethodName) prog_1_method_25_code (2 : Nat) (Option.none : Option Jvm.ClassFile.FieldType)) ∈ lw_all := lw_g (lw_at lw_m1 123 rfl) rfl
theorem q238 : (Jvm.Cond.methodLink "GuildCharter" (246 : Nat) ({ cls := "GuildCharter$Port", name := "turn", desc := "(I)I" } : Jvm.MethodName)) ∈ lw_all := lw_g (lw_at lw_m1 124 rfl) rfl
theorem q242 : (Jvm.Cond.fieldLink "GuildCharter" (11 : Nat) "GuildCharter" "row" "[I") ∈ lw_all := lw_g (lw_at lw_m1 128 rfl) rfl
theorem q243 : (Jvm.Cond.fieldLink "GuildCharter" (3 : Nat) "GuildCharter" "ways" "[J") ∈ lw_all := lw_g (lw_at lw_m1 129 rfl) rfl
theorem q244 : (Jvm.Cond.fieldLink "GuildCharter" (95 : Nat) "GuildCharter" "parent" "[I") ∈ lw_all := lw_g (lw_at lw_m1 130 rfl) rfl
theorem q245 : (Jvm.Cond.fieldLink "GuildCharter" (98 : Nat) "GuildCharter" "words" "[I") ∈ lw_all := lw_g (lw_at lw_m1 131 rfl) rfl
theorem q246 : (Jvm.Cond.fieldLink "GuildCharter" (78 : Nat) "GuildCharter" "size" "[I") ∈ lw_all := lw_g (lw_at lw_m1 132 rfl) rfl
theorem q247 : (Jvm.Cond.fieldLink "GuildCharter" (129 : Nat) "GuildCharter" "best" "[I") ∈ lw_all := lw_g (lw_at lw_m1 133 rfl) rfl
theorem q248 : (Jvm.Cond.fieldLink "GuildCharter" (153 : Nat) "GuildCharter" "sums" "[I") ∈ lw_all := lw_g (lw_at lw_m1 134 rfl) rfl
theorem q249 : (Jvm.Cond.fieldLink "GuildCharter" (91 : Nat) "GuildCharter" "nodes" "I") ∈ lw_all := lw_g (lw_at lw_m1 135 rfl) rfl
theorem q250 : (Jvm.Cond.fieldLink "GuildCharter" (83 : Nat) "GuildCharter" "isSpent" "Z") ∈ lw_all := lw_g (lw_at lw_m1 136 rfl) rfl
theorem q251 : (Jvm.Cond.fieldLink "GuildCharter" (108 : Nat) "GuildCharter" "path" "[I") ∈ lw_all := lw_g (lw_at lw_m1 137 rfl) rfl
theorem q253 : (Jvm.Cond.fieldLink "GuildCharter" (156 : Nat) "GuildCharter" "tape" "[B") ∈ lw_all := lw_g (lw_at lw_m1 139 rfl) rfl
theorem q255 : (Jvm.Cond.fieldLink "GuildCharter" (206 : Nat) "GuildCharter" "taped" "I") ∈ lw_all := lw_g (lw_at lw_m1 141 rfl) rfl
theorem q256 : (Jvm.Cond.fieldLink "GuildCharter" (229 : Nat) "GuildCharter" "faultKind" "I") ∈ lw_all := lw_g (lw_at lw_m1 142 rfl) rfl
theorem q257 : (Jvm.Cond.fieldLink "GuildCharter" (160 : Nat) "GuildCharter" "faultPlace" "I") ∈ lw_all := lw_g (lw_at lw_m1 143 rfl) rfl
theorem q258 : (Jvm.Cond.fieldLink "GuildCharter" (31 : Nat) "GuildCharter" "port" "LGuildCharter$Port;") ∈ lw_all := lw_g (lw_at lw_m1 144 rfl) rfl
theorem q259 : (Jvm.Cond.fieldLink "GuildCharter" (333 : Nat) "GuildCharter" "time" "I") ∈ lw_all := lw_g (lw_at lw_m1 145 rfl) rfl
theorem q260 : (Jvm.Cond.fieldLink "GuildCharter" (164 : Nat) "GuildCharter" "now" "[I") ∈ lw_all := lw_g (lw_at lw_m1 146 rfl) rfl
theorem q261 : (Jvm.Cond.fieldLink "GuildCharter" (169 : Nat) "GuildCharter" "were" "[[I") ∈ lw_all := lw_g (lw_at lw_m1 147 rfl) rfl
theorem q262 : (Jvm.Cond.fieldLink "GuildCharter" (250 : Nat) "GuildCharter" "acts" "I") ∈ lw_all := lw_g (lw_at lw_m1 148 rfl) rfl
theorem q263 : (Jvm.Cond.fieldLink "GuildCharter" (253 : Nat) "GuildCharter" "undone" "I") ∈ lw_all := lw_g (lw_at lw_m1 149 rfl) rfl
theorem q264 : (Jvm.Cond.fieldLink "GuildCharter" (172 : Nat) "GuildCharter" "whose" "[I") ∈ lw_all := lw_g (lw_at lw_m1 150 rfl) rfl
theorem q265 : (Jvm.Cond.fieldLink "GuildCharter" (175 : Nat) "GuildCharter" "lies" "[I") ∈ lw_all := lw_g (lw_at lw_m1 151 rfl) rfl
theorem q266 : (Jvm.Cond.fieldLink "GuildCharter" (178 : Nat) "GuildCharter" "none" "[I") ∈ lw_all := lw_g (lw_at lw_m1 152 rfl) rfl
theorem q267 : (Jvm.Cond.fieldLink "GuildCharter" (218 : Nat) "GuildCharter" "lain" "I") ∈ lw_all := lw_g (lw_at lw_m1 153 rfl) rfl
theorem q268 : (Jvm.Cond.fieldLink "GuildCharter" (117 : Nat) "GuildCharter" "bribed" "I") ∈ lw_all := lw_g (lw_at lw_m1 154 rfl) rfl
theorem q269 : (Jvm.Cond.fieldLink "GuildCharter" (120 : Nat) "GuildCharter" "bribePlace" "I") ∈ lw_all := lw_g (lw_at lw_m1 155 rfl) rfl
theorem q270 : (Jvm.Cond.fieldLink "GuildCharter" (123 : Nat) "GuildCharter" "bribeWord" "I") ∈ lw_all := lw_g (lw_at lw_m1 156 rfl) rfl
theorem q271 : (Jvm.Cond.fieldLink "GuildCharter" (126 : Nat) "GuildCharter" "bribe" "I") ∈ lw_all := lw_g (lw_at lw_m1 157 rfl) rfl
theorem q272 : (Jvm.Cond.fieldLink "GuildCharter" (181 : Nat) "GuildCharter" "fewest" "[I") ∈ lw_all := lw_g (lw_at lw_m1 158 rfl) rfl
theorem q273 : (Jvm.Cond.fieldLink "GuildCharter" (184 : Nat) "GuildCharter" "holes" "[I") ∈ lw_all := lw_g (lw_at lw_m1 159 rfl) rfl
theorem q274 : (Jvm.Cond.fieldLink "GuildCharter" (187 : Nat) "GuildCharter" "less" "[I") ∈ lw_all := lw_g (lw_at lw_m1 160 rfl) rfl
theorem q275 : (Jvm.Cond.fieldLink "GuildCharter" (193 : Nat) "GuildCharter" "seens" "Ljava/util/ArrayList;") ∈ lw_all := lw_g (lw_at lw_m1 161 rfl) rfl
theorem q276 : (Jvm.Cond.fieldLink "GuildCharter" (196 : Nat) "GuildCharter" "boxes" "[[I") ∈ lw_all := lw_g (lw_at lw_m1 162 rfl) rfl
theorem q277 : (Jvm.Cond.fieldLink "GuildCharter" (199 : Nat) "GuildCharter" "isThere" "[Z") ∈ lw_all := lw_g (lw_at lw_m1 163 rfl) rfl
theorem q278 : (Jvm.Cond.laysFinal "GuildCharter" "GuildCharter" "row" "[I") ∈ lw_all := lw_g (lw_at lw_m1 164 rfl) rfl
theorem q279 : (Jvm.Cond.soleField "GuildCharter" "row") ∈ lw_all := lw_g (lw_at lw_m1 165 rfl) rfl
theorem q280 : (Jvm.Cond.laysFinal "GuildCharter" "GuildCharter" "ways" "[J") ∈ lw_all := lw_g (lw_at lw_m1 166 rfl) rfl
theorem q281 : (Jvm.Cond.soleField "GuildCharter" "ways") ∈ lw_all := lw_g (lw_at lw_m1 167 rfl) rfl
theorem q282 : (Jvm.Cond.laysFinal "GuildCharter" "GuildCharter" "parent" "[I") ∈ lw_all := lw_g (lw_at lw_m1 168 rfl) rfl
theorem q283 : (Jvm.Cond.soleField "GuildCharter" "parent") ∈ lw_all := lw_g (lw_at lw_m1 169 rfl) rfl
theorem q284 : (Jvm.Cond.laysFinal "GuildCharter" "GuildCharter" "words" "[I") ∈ lw_all := lw_g (lw_at lw_m1 170 rfl) rfl
theorem q285 : (Jvm.Cond.soleField "GuildCharter" "words") ∈ lw_all := lw_g (lw_at lw_m1 171 rfl) rfl
theorem q286 : (Jvm.Cond.laysFinal "GuildCharter" "GuildCharter" "size" "[I") ∈ lw_all := lw_g (lw_at lw_m1 172 rfl) rfl
theorem q287 : (Jvm.Cond.soleField "GuildCharter" "size") ∈ lw_all := lw_g (lw_at lw_m1 173 rfl) rfl
theorem q288 : (Jvm.Cond.laysFinal "GuildCharter" "GuildCharter" "best" "[I") ∈ lw_all := lw_g (lw_at lw_m1 174 rfl) rfl
theorem q289 : (Jvm.Cond.soleField "GuildCharter" "best") ∈ lw_all := lw_g (lw_at lw_m1 175 rfl) rfl
theorem q290 : (Jvm.Cond.laysFinal "GuildCharter" "GuildCharter" "sums" "[I") ∈ lw_all := lw_g (lw_at lw_m1 176 rfl) rfl
theorem q291 : (Jvm.Cond.soleField "GuildCharter" "sums") ∈ lw_all := lw_g (lw_at lw_m1 177 rfl) rfl
theorem q292 : (Jvm.Cond.lays "GuildCharter" "GuildCharter" "nodes" "I") ∈ lw_all := lw_g (lw_at lw_m1 178 rfl) rfl
theorem q293 : (Jvm.Cond.soleField "GuildCharter" "nodes") ∈ lw_all := lw_g (lw_at lw_m1 179 rfl) rfl
theorem q294 : (Jvm.Cond.lays "GuildCharter" "GuildCharter" "isSpent" "Z") ∈ lw_all := lw_g (lw_at lw_m1 180 rfl) rfl
theorem q295 : (Jvm.Cond.soleField "GuildCharter" "isSpent") ∈ lw_all := lw_g (lw_at lw_m1 181 rfl) rfl
theorem q296 : (Jvm.Cond.laysFinal "GuildCharter" "GuildCharter" "path" "[I") ∈ lw_all := lw_g (lw_at lw_m1 182 rfl) rfl
theorem q297 : (Jvm.Cond.soleField "GuildCharter" "path") ∈ lw_all := lw_g (lw_at lw_m1 183 rfl) rfl
theorem q298 : (Jvm.Cond.laysFinal "GuildCharter" "GuildCharter" "tape" "[B") ∈ lw_all := lw_g (lw_at lw_m1 184 rfl) rfl
theorem q299 : (Jvm.Cond.soleField "GuildCharter" "tape") ∈ lw_all := lw_g (lw_at lw_m1 185 rfl) rfl
theorem q300 : (Jvm.Cond.lays "GuildCharter" "GuildCharter" "taped" "I") ∈ lw_all := lw_g (lw_at lw_m1 186 rfl) rfl
theorem q301 : (Jvm.Cond.soleField "GuildCharter" "taped") ∈ lw_all := lw_g (lw_at lw_m1 187 rfl) rfl
theorem q302 : (Jvm.Cond.lays "GuildCharter" "GuildCharter" "faultKind" "I") ∈ lw_all := lw_g (lw_at lw_m1 188 rfl) rfl
theorem q303 : (Jvm.Cond.soleField "GuildCharter" "faultKind") ∈ lw_all := lw_g (lw_at lw_m1 189 rfl) rfl
theorem q304 : (Jvm.Cond.lays "GuildCharter" "GuildCharter" "faultPlace" "I") ∈ lw_all := lw_g (lw_at lw_m1 190 rfl) rfl
theorem q305 : (Jvm.Cond.soleField "GuildCharter" "faultPlace") ∈ lw_all := lw_g (lw_at lw_m1 191 rfl) rfl
theorem q306 : (Jvm.Cond.lays "GuildCharter" "GuildCharter" "port" "LGuildCharter$Port;") ∈ lw_all := lw_g (lw_at lw_m1 192 rfl) rfl
theorem q307 : (Jvm.Cond.soleField "GuildCharter" "port") ∈ lw_all := lw_g (lw_at lw_m1 193 rfl) rfl
theorem q308 : (Jvm.Cond.lays "GuildCharter" "GuildCharter" "time" "I") ∈ lw_all := lw_g (lw_at lw_m1 194 rfl) rfl
theorem q309 : (Jvm.Cond.soleField "GuildCharter" "time") ∈ lw_all := lw_g (lw_at lw_m1 195 rfl) rfl
theorem q310 : (Jvm.Cond.laysFinal "GuildCharter" "GuildCharter" "now" "[I") ∈ lw_all := lw_g (lw_at lw_m1 196 rfl) rfl
theorem q311 : (Jvm.Cond.soleField "GuildCharter" "now") ∈ lw_all := lw_g (lw_at lw_m1 197 rfl) rfl
theorem q312 : (Jvm.Cond.laysFinal "GuildCharter" "GuildCharter" "were" "[[I") ∈ lw_all := lw_g (lw_at lw_m1 198 rfl) rfl
theorem q313 : (Jvm.Cond.soleField "GuildCharter" "were") ∈ lw_all := lw_g (lw_at lw_m1 199 rfl) rfl
theorem q314 : (Jvm.Cond.lays "GuildCharter" "GuildCharter" "acts" "I") ∈ lw_all := lw_g (lw_at lw_m1 200 rfl) rfl
theorem q315 : (Jvm.Cond.soleField "GuildCharter" "acts") ∈ lw_all := lw_g (lw_at lw_m1 201 rfl) rfl
theorem q316 : (Jvm.Cond.lays "GuildCharter" "GuildCharter" "undone" "I") ∈ lw_all := lw_g (lw_at lw_m1 202 rfl) rfl
theorem q317 : (Jvm.Cond.soleField "GuildCharter" "undone") ∈ lw_all := lw_g (lw_at lw_m1 203 rfl) rfl
theorem q318 : (Jvm.Cond.laysFinal "GuildCharter" "GuildCharter" "whose" "[I") ∈ lw_all := lw_g (lw_at lw_m1 204 rfl) rfl
theorem q319 : (Jvm.Cond.soleField "GuildCharter" "whose") ∈ lw_all := lw_g (lw_at lw_m1 205 rfl) rfl
theorem q320 : (Jvm.Cond.laysFinal "GuildCharter" "GuildCharter" "lies" "[I") ∈ lw_all := lw_g (lw_at lw_m1 206 rfl) rfl
theorem q321 : (Jvm.Cond.soleField "GuildCharter" "lies") ∈ lw_all := lw_g (lw_at lw_m1 207 rfl) rfl
theorem q322 : (Jvm.Cond.laysFinal "GuildCharter" "GuildCharter" "none" "[I") ∈ lw_all := lw_g (lw_at lw_m1 208 rfl) rfl
theorem q323 : (Jvm.Cond.soleField "GuildCharter" "none") ∈ lw_all := lw_g (lw_at lw_m1 209 rfl) rfl
theorem q324 : (Jvm.Cond.lays "GuildCharter" "GuildCharter" "lain" "I") ∈ lw_all := lw_g (lw_at lw_m1 210 rfl) rfl
theorem q325 : (Jvm.Cond.soleField "GuildCharter" "lain") ∈ lw_all := lw_g (lw_at lw_m1 211 rfl) rfl
theorem q326 : (Jvm.Cond.lays "GuildCharter" "GuildCharter" "bribed" "I") ∈ lw_all := lw_g (lw_at lw_m1 212 rfl) rfl
theorem q327 : (Jvm.Cond.soleField "GuildCharter" "bribed") ∈ lw_all := lw_g (lw_at lw_m1 213 rfl) rfl
theorem q328 : (Jvm.Cond.lays "GuildCharter" "GuildCharter" "bribePlace" "I") ∈ lw_all := lw_g (lw_at lw_m1 214 rfl) rfl
theorem q329 : (Jvm.Cond.soleField "GuildCharter" "bribePlace") ∈ lw_all := lw_g (lw_at lw_m1 215 rfl) rfl
theorem q330 : (Jvm.Cond.lays "GuildCharter" "GuildCharter" "bribeWord" "I") ∈ lw_all := lw_g (lw_at lw_m1 216 rfl) rfl
theorem q331 : (Jvm.Cond.soleField "GuildCharter" "bribeWord") ∈ lw_all := lw_g (lw_at lw_m1 217 rfl) rfl
theorem q332 : (Jvm.Cond.lays "GuildCharter" "GuildCharter" "bribe" "I") ∈ lw_all := lw_g (lw_at lw_m1 218 rfl) rfl
theorem q333 : (Jvm.Cond.soleField "GuildCharter" "bribe") ∈ lw_all := lw_g (lw_at lw_m1 219 rfl) rfl
theorem q334 : (Jvm.Cond.laysFinal "GuildCharter" "GuildCharter" "fewest" "[I") ∈ lw_all := lw_g (lw_at lw_m1 220 rfl) rfl
theorem q335 : (Jvm.Cond.soleField "GuildCharter" "fewest") ∈ lw_all := lw_g (lw_at lw_m1 221 rfl) rfl
theorem q336 : (Jvm.Cond.laysFinal "GuildCharter" "GuildCharter" "holes" "[I") ∈ lw_all := lw_g (lw_at lw_m1 222 rfl) rfl
theorem q337 : (Jvm.Cond.soleField "GuildCharter" "holes") ∈ lw_all := lw_g (lw_at lw_m1 223 rfl) rfl
theorem q338 : (Jvm.Cond.laysFinal "GuildCharter" "GuildCharter" "less" "[I") ∈ lw_all := lw_g (lw_at lw_m1 224 rfl) rfl
theorem q339 : (Jvm.Cond.soleField "GuildCharter" "less") ∈ lw_all := lw_g (lw_at lw_m1 225 rfl) rfl
theorem q340 : (Jvm.Cond.laysFinal "GuildCharter" "GuildCharter" "seens" "Ljava/util/ArrayList;") ∈ lw_all := lw_g (lw_at lw_m1 226 rfl) rfl
theorem q341 : (Jvm.Cond.soleField "GuildCharter" "seens") ∈ lw_all := lw_g (lw_at lw_m1 227 rfl) rfl
theorem q342 : (Jvm.Cond.laysFinal "GuildCharter" "GuildCharter" "boxes" "[[I") ∈ lw_all := lw_g (lw_at lw_m1 228 rfl) rfl
theorem q343 : (Jvm.Cond.soleField "GuildCharter" "boxes") ∈ lw_all := lw_g (lw_at lw_m1 229 rfl) rfl
theorem q344 : (Jvm.Cond.laysFinal "GuildCharter" "GuildCharter" "isThere" "[Z") ∈ lw_all := lw_g (lw_at lw_m1 230 rfl) rfl
theorem q345 : (Jvm.Cond.soleField "GuildCharter" "isThere") ∈ lw_all := lw_g (lw_at lw_m1 231 rfl) rfl
theorem q346 : (Jvm.Cond.superclass "GuildCharter" "java/lang/Object") ∈ lw_all := lw_g (lw_at lw_m1 232 rfl) rfl
theorem q348 : (Jvm.Cond.instanceMethod ({ cls := "GuildCharter", name := "feed", desc := "(IIIII)I" } : Jvm.MethodName)) ∈ lw_all := lw_g (lw_at lw_m1 234 rfl) rfl
theorem q349 : (Jvm.Cond.selects "GuildCharter" ({ cls := "GuildCharter", name := "feed", desc := "(IIIII)I" } : Jvm.MethodName) ({ cls := "GuildCharter", name := "feed", desc := "(IIIII)I" } : Jvm.MethodName)) ∈ lw_all := lw_g (lw_at lw_m1 235 rfl) rfl
theorem q350 : (Jvm.Cond.code ({ cls := "GuildCharter", name := "feed", desc := "(IIIII)I" } : Jvm.MethodName) prog_1_method_15_code (12 : Nat) (Option.some Jvm.ClassFile.FieldType.int)) ∈ lw_all := lw_g (lw_at lw_m1 236 rfl) rfl
theorem q352 : (Jvm.Cond.instanceMethod ({ cls := "GuildCharter", name := "end", desc := "(I)I" } : Jvm.MethodName)) ∈ lw_all := lw_g (lw_at lw_m1 238 rfl) rfl
theorem q353 : (Jvm.Cond.selects "GuildCharter" ({ cls := "GuildCharter", name := "end", desc := "(I)I" } : Jvm.MethodName) ({ cls := "GuildCharter", name := "end", desc := "(I)I" } : Jvm.MethodName)) ∈ lw_all := lw_g (lw_at lw_m1 239 rfl) rfl
theorem q354 : (Jvm.Cond.code ({ cls := "GuildCharter", name := "end", desc := "(I)I" } : Jvm.MethodName) prog_1_method_16_code (2 : Nat) (Option.some Jvm.ClassFile.FieldType.int)) ∈ lw_all := lw_g (lw_at lw_m2 0 rfl) rfl
theorem q356 : (Jvm.Cond.instanceMethod ({ cls := "GuildCharter", name := "port", desc := "()I" } : Jvm.MethodName)) ∈ lw_all := lw_g (lw_at lw_m2 2 rfl) rfl
theorem q357 : (Jvm.Cond.selects "GuildCharter" ({ cls := "GuildCharter", name := "port", desc := "()I" } : Jvm.MethodName) ({ cls := "GuildCharter", name := "port", desc := "()I" } : Jvm.MethodName)) ∈ lw_all := lw_g (lw_at lw_m2 3 rfl) rfl
theorem q358 : (Jvm.Cond.codeWith ({ cls := "GuildCharter", name := "port", desc := "()I" } : Jvm.MethodName) prog_1_method_17_code (3 : Nat) (Option.some Jvm.ClassFile.FieldType.int) [((2 : Nat), (74 : Nat), (77 : Nat), (224 : Nat))]) ∈ lw_all := lw_g (lw_at lw_m2 4 rfl) rfl
theorem q359 : (Jvm.Cond.classLink "GuildCharter" (224 : Nat) "GuildCharter$Wrong") ∈ lw_all := lw_g (lw_at lw_m2 5 rfl) rfl
theorem q360 : (Jvm.Cond.classLink "GuildCharter" (209 : Nat) "GuildCharter$Reader") ∈ lw_all := lw_g (lw_at lw_m2 6 rfl) rfl
theorem q362 : (Jvm.Cond.methodLinkNest "GuildCharter" (211 : Nat) ({ cls := "GuildCharter$Reader", name := "<init>", desc := "(LGuildCharter;)V" } : Jvm.MethodName) "GuildCharter") ∈ lw_tbl := lw_at lw_m2 8 rfl
theorem q391 : (Jvm.Cond.methodLink "GuildCharter" (214 : Nat) ({ cls := "GuildCharter$Reader", name := "text", desc := "()LGuildCharter$Port;" } : Jvm.MethodName)) ∈ lw_all := lw_g (lw_at lw_m2 37 rfl) rfl
theorem q738 : (Jvm.Cond.fieldLink "GuildCharter" (226 : Nat) "GuildCharter$Wrong" "kind" "I") ∈ lw_all := lw_g (lw_at lw_m3 144 rfl) rfl
theorem q740 : (Jvm.Cond.fieldLink "GuildCharter" (232 : Nat) "GuildCharter$Wrong" "place" "I") ∈ lw_all := lw_g (lw_at lw_m3 146 rfl) rfl
theorem q815 : (Jvm.Cond.selects "GuildCharter" ({ cls := "java/lang/Object", name := "getClass", desc := "()Ljava/lang/Class;" } : Jvm.MethodName) ({ cls := "java/lang/Object", name := "getClass", desc := "()Ljava/lang/Class;" } : Jvm.MethodName)) ∈ lw_all := lw_g (lw_at lw_m3 221 rfl) rfl
theorem q857 : (Jvm.Cond.fieldLink "GuildCharter" (57 : Nat) "GuildCharter$Rule" "alts" "Ljava/util/ArrayList;") ∈ lw_all := lw_g (lw_at lw_m4 23 rfl) rfl
theorem q881 : (Jvm.Cond.fieldLink "GuildCharter" (62 : Nat) "GuildCharter$Alt" "parts" "[I") ∈ lw_all := lw_g (lw_at lw_m4 47 rfl) rfl
theorem q908 : (Jvm.Cond.methodLink "GuildCharter" (221 : Nat) ({ cls := "java/util/ArrayList", name := "clear", desc := "()V" } : Jvm.MethodName)) ∈ lw_all := lw_g (lw_at lw_m4 74 rfl) rfl
theorem q912 : (Jvm.Cond.methodLink "GuildCharter" (47 : Nat) ({ cls := "java/util/ArrayList", name := "size", desc := "()I" } : Jvm.MethodName)) ∈ lw_all := lw_g (lw_at lw_m4 78 rfl) rfl
theorem q914 : (Jvm.Cond.instanceMethod ({ cls := "GuildCharter", name := "fault", desc := "(I)I" } : Jvm.MethodName)) ∈ lw_all := lw_g (lw_at lw_m4 80 rfl) rfl
theorem q915 : (Jvm.Cond.selects "GuildCharter" ({ cls := "GuildCharter", name := "fault", desc := "(I)I" } : Jvm.MethodName) ({ cls := "GuildCharter", name := "fault", desc := "(I)I" } : Jvm.MethodName)) ∈ lw_all := lw_g (lw_at lw_m4 81 rfl) rfl
theorem q916 : (Jvm.Cond.code ({ cls := "GuildCharter", name := "fault", desc := "(I)I" } : Jvm.MethodName) prog_1_method_18_code (2 : Nat) (Option.some Jvm.ClassFile.FieldType.int)) ∈ lw_all := lw_g (lw_at lw_m4 82 rfl) rfl
theorem q918 : (Jvm.Cond.instanceMethod ({ cls := "GuildCharter", name := "worth", desc := "(II)I" } : Jvm.MethodName)) ∈ lw_all := lw_g (lw_at lw_m4 84 rfl) rfl
theorem q919 : (Jvm.Cond.selects "GuildCharter" ({ cls := "GuildCharter", name := "worth", desc := "(II)I" } : Jvm.MethodName) ({ cls := "GuildCharter", name := "worth", desc := "(II)I" } : Jvm.MethodName)) ∈ lw_all := lw_g (lw_at lw_m4 85 rfl) rfl
theorem q920 : (Jvm.Cond.code ({ cls := "GuildCharter", name := "worth", desc := "(II)I" } : Jvm.MethodName) prog_1_method_23_code (3 : Nat) (Option.some Jvm.ClassFile.FieldType.int)) ∈ lw_all := lw_g (lw_at lw_m4 86 rfl) rfl
theorem q921 : (Jvm.Cond.methodLink "GuildCharter" (239 : Nat) ({ cls := "GuildCharter", name := "isWord", desc := "(I)Z" } : Jvm.MethodName)) ∈ lw_all := lw_g (lw_at lw_m4 87 rfl) rfl
theorem q922 : (Jvm.Cond.privateMethod ({ cls := "GuildCharter", name := "isWord", desc := "(I)Z" } : Jvm.MethodName)) ∈ lw_tbl := lw_at lw_m4 88 rfl
theorem q923 : (Jvm.Cond.instanceMethod ({ cls := "GuildCharter", name := "isWord", desc := "(I)Z" } : Jvm.MethodName)) ∈ lw_all := lw_g (lw_at lw_m4 89 rfl) rfl
theorem q924 : (Jvm.Cond.code ({ cls := "GuildCharter", name := "isWord", desc := "(I)Z" } : Jvm.MethodName) prog_1_method_20_code (2 : Nat) (Option.some Jvm.ClassFile.FieldType.boolean)) ∈ lw_all := lw_g (lw_at lw_m4 90 rfl) rfl
theorem q925 : (Jvm.Cond.methodLink "GuildCharter" (235 : Nat) ({ cls := "GuildCharter", name := "isIn", desc := "(III)Z" } : Jvm.MethodName)) ∈ lw_all := lw_g (lw_at lw_m4 91 rfl) rfl
theorem q926 : (Jvm.Cond.static ({ cls := "GuildCharter", name := "isIn", desc := "(III)Z" } : Jvm.MethodName)) ∈ lw_all := lw_g (lw_at lw_m4 92 rfl) rfl
theorem q927 : (Jvm.Cond.code ({ cls := "GuildCharter", name := "isIn", desc := "(III)Z" } : Jvm.MethodName) prog_1_method_19_code (3 : Nat) (Option.some Jvm.ClassFile.FieldType.boolean)) ∈ lw_all := lw_g (lw_at lw_m4 93 rfl) rfl
theorem q928 : (Jvm.Cond.methodLink "GuildCharter" (242 : Nat) ({ cls := "GuildCharter", name := "isGuild", desc := "(I)Z" } : Jvm.MethodName)) ∈ lw_all := lw_g (lw_at lw_m4 94 rfl) rfl
theorem q929 : (Jvm.Cond.static ({ cls := "GuildCharter", name := "isGuild", desc := "(I)Z" } : Jvm.MethodName)) ∈ lw_all := lw_g (lw_at lw_m4 95 rfl) rfl
theorem q930 : (Jvm.Cond.code ({ cls := "GuildCharter", name := "isGuild", desc := "(I)Z" } : Jvm.MethodName) prog_1_method_21_code (1 : Nat) (Option.some Jvm.ClassFile.FieldType.boolean)) ∈ lw_all := lw_g (lw_at lw_m4 96 rfl) rfl
theorem q931 : (Jvm.Cond.constant "GuildCharter" (245 : Nat) (-1000000 : Int32)) ∈ lw_all := lw_g (lw_at lw_m4 97 rfl) rfl
theorem q933 : (Jvm.Cond.instanceMethod ({ cls := "GuildCharter", name := "behind", desc := "(III)I" } : Jvm.MethodName)) ∈ lw_all := lw_g (lw_at lw_m4 99 rfl) rfl
theorem q934 : (Jvm.Cond.selects "GuildCharter" ({ cls := "GuildCharter", name := "behind", desc := "(III)I" } : Jvm.MethodName) ({ cls := "GuildCharter", name := "behind", desc := "(III)I" } : Jvm.MethodName)) ∈ lw_all := lw_g (lw_at lw_m4 100 rfl) rfl
theorem q935 : (Jvm.Cond.code ({ cls := "GuildCharter", name := "behind", desc := "(III)I" } : Jvm.MethodName) prog_1_method_24_code (4 : Nat) (Option.some Jvm.ClassFile.FieldType.int)) ∈ lw_all := lw_g (lw_at lw_m4 101 rfl) rfl
theorem q937 : (Jvm.Cond.instanceMethod ({ cls := "GuildCharter", name := "undo", desc := "()Z" } : Jvm.MethodName)) ∈ lw_all := lw_g (lw_at lw_m4 103 rfl) rfl
theorem q938 : (Jvm.Cond.selects "GuildCharter" ({ cls := "GuildCharter", name := "undo", desc := "()Z" } : Jvm.MethodName) ({ cls := "GuildCharter", name := "undo", desc := "()Z" } : Jvm.MethodName)) ∈ lw_all := lw_g (lw_at lw_m4 104 rfl) rfl
theorem q939 : (Jvm.Cond.code ({ cls := "GuildCharter", name := "undo", desc := "()Z" } : Jvm.MethodName) prog_1_method_28_code (1 : Nat) (Option.some Jvm.ClassFile.FieldType.boolean)) ∈ lw_all := lw_g (lw_at lw_m4 105 rfl) rfl
theorem q940 : (Jvm.Cond.methodLink "GuildCharter" (256 : Nat) ({ cls := "GuildCharter", name := "exchange", desc := "([I)V" } : Jvm.MethodName)) ∈ lw_all := lw_g (lw_at lw_m4 106 rfl) rfl
theorem q941 : (Jvm.Cond.privateMethod ({ cls := "GuildCharter", name := "exchange", desc := "([I)V" } : Jvm.MethodName)) ∈ lw_tbl := lw_at lw_m4 107 rfl
theorem q942 : (Jvm.Cond.instanceMethod ({ cls := "GuildCharter", name := "exchange", desc := "([I)V" } : Jvm.MethodName)) ∈ lw_all := lw_g (lw_at lw_m4 108 rfl) rfl
theorem q943 : (Jvm.Cond.code ({ cls := "GuildCharter", name := "exchange", desc := "([I)V" } : Jvm.MethodName) prog_1_method_27_code (4 : Nat) (Option.none : Option Jvm.ClassFile.FieldType)) ∈ lw_all := lw_g (lw_at lw_m4 109 rfl) rfl
theorem q945 : (Jvm.Cond.instanceMethod ({ cls := "GuildCharter", name := "redo", desc := "()Z" } : Jvm.MethodName)) ∈ lw_all := lw_g (lw_at lw_m4 111 rfl) rfl
theorem q946 : (Jvm.Cond.selects "GuildCharter" ({ cls := "GuildCharter", name := "redo", desc := "()Z" } : Jvm.MethodName) ({ cls := "GuildCharter", name := "redo", desc := "()Z" } : Jvm.MethodName)) ∈ lw_all := lw_g (lw_at lw_m4 112 rfl) rfl
theorem q947 : (Jvm.Cond.code ({ cls := "GuildCharter", name := "redo", desc := "()Z" } : Jvm.MethodName) prog_1_method_29_code (1 : Nat) (Option.some Jvm.ClassFile.FieldType.boolean)) ∈ lw_all := lw_g (lw_at lw_m4 113 rfl) rfl
theorem q949 : (Jvm.Cond.instanceMethod ({ cls := "GuildCharter", name := "turn", desc := "(I)I" } : Jvm.MethodName)) ∈ lw_all := lw_g (lw_at lw_m4 115 rfl) rfl
theorem q950 : (Jvm.Cond.selects "GuildCharter" ({ cls := "GuildCharter", name := "turn", desc := "(I)I" } : Jvm.MethodName) ({ cls := "GuildCharter", name := "turn", desc := "(I)I" } : Jvm.MethodName)) ∈ lw_all := lw_g (lw_at lw_m4 116 rfl) rfl
theorem q951 : (Jvm.Cond.code ({ cls := "GuildCharter", name := "turn", desc := "(I)I" } : Jvm.MethodName) prog_1_method_30_code (2 : Nat) (Option.some Jvm.ClassFile.FieldType.int)) ∈ lw_all := lw_g (lw_at lw_m4 117 rfl) rfl
theorem q952 : (Jvm.Cond.methodLink "GuildCharter" (260 : Nat) ({ cls := "GuildCharter", name := "isPlace", desc := "(I)Z" } : Jvm.MethodName)) ∈ lw_all := lw_g (lw_at lw_m4 118 rfl) rfl
theorem q953 : (Jvm.Cond.privateMethod ({ cls := "GuildCharter", name := "isPlace", desc := "(I)Z" } : Jvm.MethodName)) ∈ lw_tbl := lw_at lw_m4 119 rfl
theorem q954 : (Jvm.Cond.instanceMethod ({ cls := "GuildCharter", name := "isPlace", desc := "(I)Z" } : Jvm.MethodName)) ∈ lw_all := lw_g (lw_at lw_m4 120 rfl) rfl
theorem q955 : (Jvm.Cond.code ({ cls := "GuildCharter", name := "isPlace", desc := "(I)Z" } : Jvm.MethodName) prog_1_method_22_code (2 : Nat) (Option.some Jvm.ClassFile.FieldType.boolean)) ∈ lw_all := lw_g (lw_at lw_m4 121 rfl) rfl
theorem q956 : (Jvm.Cond.methodLink "GuildCharter" (65 : Nat) ({ cls := "GuildCharter$Port", name := "most", desc := "()I" } : Jvm.MethodName)) ∈ lw_all := lw_g (lw_at lw_m4 122 rfl) rfl
theorem q961 : (Jvm.Cond.instanceMethod ({ cls := "GuildCharter", name := "write", desc := "(I)I" } : Jvm.MethodName)) ∈ lw_all := lw_g (lw_at lw_m4 127 rfl) rfl
theorem q962 : (Jvm.Cond.selects "GuildCharter" ({ cls := "GuildCharter", name := "write", desc := "(I)I" } : Jvm.MethodName) ({ cls := "GuildCharter", name := "write", desc := "(I)I" } : Jvm.MethodName)) ∈ lw_all := lw_g (lw_at lw_m4 128 rfl) rfl
theorem q963 : (Jvm.Cond.code ({ cls := "GuildCharter", name := "write", desc := "(I)I" } : Jvm.MethodName) prog_1_method_32_code (2 : Nat) (Option.some Jvm.ClassFile.FieldType.int)) ∈ lw_all := lw_g (lw_at lw_m4 129 rfl) rfl
theorem q964 : (Jvm.Cond.methodLink "GuildCharter" (263 : Nat) ({ cls := "GuildCharter", name := "canCome", desc := "(I)Z" } : Jvm.MethodName)) ∈ lw_all := lw_g (lw_at lw_m4 130 rfl) rfl
theorem q965 : (Jvm.Cond.privateMethod ({ cls := "GuildCharter", name := "canCome", desc := "(I)Z" } : Jvm.MethodName)) ∈ lw_tbl := lw_at lw_m4 131 rfl
theorem q966 : (Jvm.Cond.instanceMethod ({ cls := "GuildCharter", name := "canCome", desc := "(I)Z" } : Jvm.MethodName)) ∈ lw_all := lw_g (lw_at lw_m4 132 rfl) rfl
theorem q967 : (Jvm.Cond.code ({ cls := "GuildCharter", name := "canCome", desc := "(I)Z" } : Jvm.MethodName) prog_1_method_31_code (3 : Nat) (Option.some Jvm.ClassFile.FieldType.boolean)) ∈ lw_all := lw_g (lw_at lw_m4 133 rfl) rfl
theorem q968 : (Jvm.Cond.methodLink "GuildCharter" (104 : Nat) ({ cls := "GuildCharter", name := "load", desc := "([II)V" } : Jvm.MethodName)) ∈ lw_all := lw_g (lw_at lw_m4 134 rfl) rfl
theorem q969 : (Jvm.Cond.privateMethod ({ cls := "GuildCharter", name := "load", desc := "([II)V" } : Jvm.MethodName)) ∈ lw_tbl := lw_at lw_m4 135 rfl
theorem q970 : (Jvm.Cond.instanceMethod ({ cls := "GuildCharter", name := "load", desc := "([II)V" } : Jvm.MethodName)) ∈ lw_all := lw_g (lw_at lw_m4 136 rfl) rfl
theorem q971 : (Jvm.Cond.code ({ cls := "GuildCharter", name := "load", desc := "([II)V" } : Jvm.MethodName) prog_1_method_6_code (3 : Nat) (Option.none : Option Jvm.ClassFile.FieldType)) ∈ lw_all := lw_g (lw_at lw_m4 137 rfl) rfl
theorem q972 : (Jvm.Cond.methodLink "GuildCharter" (72 : Nat) ({ cls := "java/lang/System", name := "arraycopy", desc := "(Ljava/lang/Object;ILjava/lang/Object;II)V" } : Jvm.MethodName)) ∈ lw_all := lw_g (lw_at lw_m4 138 rfl) rfl
theorem q973 : (Jvm.Cond.methodLink "GuildCharter" (87 : Nat) ({ cls := "GuildCharter", name := "canGoOn", desc := "(I)Z" } : Jvm.MethodName)) ∈ lw_all := lw_g (lw_at lw_m4 139 rfl) rfl
theorem q974 : (Jvm.Cond.privateMethod ({ cls := "GuildCharter", name := "canGoOn", desc := "(I)Z" } : Jvm.MethodName)) ∈ lw_tbl := lw_at lw_m4 140 rfl
theorem q975 : (Jvm.Cond.instanceMethod ({ cls := "GuildCharter", name := "canGoOn", desc := "(I)Z" } : Jvm.MethodName)) ∈ lw_all := lw_g (lw_at lw_m4 141 rfl) rfl
theorem q976 : (Jvm.Cond.code ({ cls := "GuildCharter", name := "canGoOn", desc := "(I)Z" } : Jvm.MethodName) prog_1_method_5_code (4 : Nat) (Option.some Jvm.ClassFile.FieldType.boolean)) ∈ lw_all := lw_g (lw_at lw_m4 142 rfl) rfl
theorem q977 : (Jvm.Cond.methodLink "GuildCharter" (68 : Nat) ({ cls := "GuildCharter", name := "readings", desc := "(I)J" } : Jvm.MethodName)) ∈ lw_all := lw_g (lw_at lw_m4 143 rfl) rfl
theorem q978 : (Jvm.Cond.privateMethod ({ cls := "GuildCharter", name := "readings", desc := "(I)J" } : Jvm.MethodName)) ∈ lw_tbl := lw_at lw_m4 144 rfl
theorem q979 : (Jvm.Cond.instanceMethod ({ cls := "GuildCharter", name := "readings", desc := "(I)J" } : Jvm.MethodName)) ∈ lw_all := lw_g (lw_at lw_m4 145 rfl) rfl
theorem q980 : (Jvm.Cond.code ({ cls := "GuildCharter", name := "readings", desc := "(I)J" } : Jvm.MethodName) prog_1_method_4_code (9 : Nat) (Option.some Jvm.ClassFile.FieldType.long)) ∈ lw_all := lw_g (lw_at lw_m4 146 rfl) rfl
theorem q981 : (Jvm.Cond.methodLink "GuildCharter" (41 : Nat) ({ cls := "java/util/ArrayList", name := "isEmpty", desc := "()Z" } : Jvm.MethodName)) ∈ lw_all := lw_g (lw_at lw_m4 147 rfl) rfl
theorem q985 : (Jvm.Cond.methodLink "GuildCharter" (51 : Nat) ({ cls := "java/util/ArrayList", name := "get", desc := "(I)Ljava/lang/Object;" } : Jvm.MethodName)) ∈ lw_all := lw_g (lw_at lw_m4 151 rfl) rfl
theorem q986 : (Jvm.Cond.classLink "GuildCharter" (55 : Nat) "GuildCharter$Rule") ∈ lw_all := lw_g (lw_at lw_m4 152 rfl) rfl
theorem q987 : (Jvm.Cond.classLink "GuildCharter" (60 : Nat) "GuildCharter$Alt") ∈ lw_all := lw_g (lw_at lw_m4 153 rfl) rfl
theorem q988 : (Jvm.Cond.constantLong "GuildCharter" (19 : Nat) (1000000000 : Int64)) ∈ lw_all := lw_g (lw_at lw_m4 154 rfl) rfl
theorem q989 : (Jvm.Cond.methodLink "GuildCharter" (21 : Nat) ({ cls := "GuildCharter", name := "cover", desc := "(LGuildCharter;[IIII)J" } : Jvm.MethodName)) ∈ lw_all := lw_g (lw_at lw_m4 155 rfl) rfl
theorem q990 : (Jvm.Cond.static ({ cls := "GuildCharter", name := "cover", desc := "(LGuildCharter;[IIII)J" } : Jvm.MethodName)) ∈ lw_all := lw_g (lw_at lw_m4 156 rfl) rfl
theorem q991 : (Jvm.Cond.code ({ cls := "GuildCharter", name := "cover", desc := "(LGuildCharter;[IIII)J" } : Jvm.MethodName) prog_1_method_3_code (10 : Nat) (Option.some Jvm.ClassFile.FieldType.long)) ∈ lw_all := lw_g (lw_at lw_m4 157 rfl) rfl
theorem q992 : (Jvm.Cond.methodLink "GuildCharter" (15 : Nat) ({ cls := "GuildCharter", name := "reads", desc := "(III)J" } : Jvm.MethodName)) ∈ lw_all := lw_g (lw_at lw_m4 158 rfl) rfl
theorem q993 : (Jvm.Cond.privateMethod ({ cls := "GuildCharter", name := "reads", desc := "(III)J" } : Jvm.MethodName)) ∈ lw_tbl := lw_at lw_m4 159 rfl
theorem q994 : (Jvm.Cond.instanceMethod ({ cls := "GuildCharter", name := "reads", desc := "(III)J" } : Jvm.MethodName)) ∈ lw_all := lw_g (lw_at lw_m4 160 rfl) rfl
theorem q995 : (Jvm.Cond.code ({ cls := "GuildCharter", name := "reads", desc := "(III)J" } : Jvm.MethodName) prog_1_method_2_code (4 : Nat) (Option.some Jvm.ClassFile.FieldType.long)) ∈ lw_all := lw_g (lw_at lw_m4 161 rfl) rfl
theorem q996 : (Jvm.Cond.methodLink "GuildCharter" (7 : Nat) ({ cls := "GuildCharter", name := "span", desc := "(III)I" } : Jvm.MethodName)) ∈ lw_all := lw_g (lw_at lw_m4 162 rfl) rfl
theorem q997 : (Jvm.Cond.static ({ cls := "GuildCharter", name := "span", desc := "(III)I" } : Jvm.MethodName)) ∈ lw_all := lw_g (lw_at lw_m4 163 rfl) rfl
theorem q998 : (Jvm.Cond.code ({ cls := "GuildCharter", name := "span", desc := "(III)I" } : Jvm.MethodName) prog_1_method_1_code (3 : Nat) (Option.some Jvm.ClassFile.FieldType.int)) ∈ lw_all := lw_g (lw_at lw_m4 164 rfl) rfl
theorem q999 : (Jvm.Cond.methodLink "GuildCharter" (25 : Nat) ({ cls := "java/lang/Math", name := "min", desc := "(JJ)J" } : Jvm.MethodName)) ∈ lw_all := lw_g (lw_at lw_m4 165 rfl) rfl
theorem q1002 : (Jvm.Cond.methodLink "GuildCharter" (266 : Nat) ({ cls := "GuildCharter", name := "act", desc := "()V" } : Jvm.MethodName)) ∈ lw_all := lw_g (lw_at lw_m4 168 rfl) rfl
theorem q1003 : (Jvm.Cond.privateMethod ({ cls := "GuildCharter", name := "act", desc := "()V" } : Jvm.MethodName)) ∈ lw_tbl := lw_at lw_m4 169 rfl
theorem q1004 : (Jvm.Cond.instanceMethod ({ cls := "GuildCharter", name := "act", desc := "()V" } : Jvm.MethodName)) ∈ lw_all := lw_g (lw_at lw_m4 170 rfl) rfl
theorem q1005 : (Jvm.Cond.code ({ cls := "GuildCharter", name := "act", desc := "()V" } : Jvm.MethodName) prog_1_method_26_code (2 : Nat) (Option.none : Option Jvm.ClassFile.FieldType)) ∈ lw_all := lw_g (lw_at lw_m4 171 rfl) rfl
theorem q1007 : (Jvm.Cond.instanceMethod ({ cls := "GuildCharter", name := "sell", desc := "(II)I" } : Jvm.MethodName)) ∈ lw_all := lw_g (lw_at lw_m4 173 rfl) rfl
theorem q1008 : (Jvm.Cond.selects "GuildCharter" ({ cls := "GuildCharter", name := "sell", desc := "(II)I" } : Jvm.MethodName) ({ cls := "GuildCharter", name := "sell", desc := "(II)I" } : Jvm.MethodName)) ∈ lw_all := lw_g (lw_at lw_m4 174 rfl) rfl
theorem q1009 : (Jvm.Cond.code ({ cls := "GuildCharter", name := "sell", desc := "(II)I" } : Jvm.MethodName) prog_1_method_33_code (4 : Nat) (Option.some Jvm.ClassFile.FieldType.int)) ∈ lw_all := lw_g (lw_at lw_m4 175 rfl) rfl
theorem q1011 : (Jvm.Cond.instanceMethod ({ cls := "GuildCharter", name := "wipe", desc := "()I" } : Jvm.MethodName)) ∈ lw_all := lw_g (lw_at lw_m4 177 rfl) rfl
theorem q1012 : (Jvm.Cond.selects "GuildCharter" ({ cls := "GuildCharter", name := "wipe", desc := "()I" } : Jvm.MethodName) ({ cls := "GuildCharter", name := "wipe", desc := "()I" } : Jvm.MethodName)) ∈ lw_all := lw_g (lw_at lw_m4 178 rfl) rfl
theorem q1013 : (Jvm.Cond.code ({ cls := "GuildCharter", name := "wipe", desc := "()I" } : Jvm.MethodName) prog_1_method_34_code (2 : Nat) (Option.some Jvm.ClassFile.FieldType.int)) ∈ lw_all := lw_g (lw_at lw_m4 179 rfl) rfl
theorem q1015 : (Jvm.Cond.instanceMethod ({ cls := "GuildCharter", name := "word", desc := "(I)I" } : Jvm.MethodName)) ∈ lw_all := lw_g (lw_at lw_m4 181 rfl) rfl
theorem q1016 : (Jvm.Cond.selects "GuildCharter" ({ cls := "GuildCharter", name := "word", desc := "(I)I" } : Jvm.MethodName) ({ cls := "GuildCharter", name := "word", desc := "(I)I" } : Jvm.MethodName)) ∈ lw_all := lw_g (lw_at lw_m4 182 rfl) rfl
theorem q1017 : (Jvm.Cond.code ({ cls := "GuildCharter", name := "word", desc := "(I)I" } : Jvm.MethodName) prog_1_method_35_code (2 : Nat) (Option.some Jvm.ClassFile.FieldType.int)) ∈ lw_all := lw_g (lw_at lw_m4 183 rfl) rfl
theorem q1019 : (Jvm.Cond.instanceMethod ({ cls := "GuildCharter", name := "next", desc := "()I" } : Jvm.MethodName)) ∈ lw_all := lw_g (lw_at lw_m4 185 rfl) rfl
theorem q1020 : (Jvm.Cond.selects "GuildCharter" ({ cls := "GuildCharter", name := "next", desc := "()I" } : Jvm.MethodName) ({ cls := "GuildCharter", name := "next", desc := "()I" } : Jvm.MethodName)) ∈ lw_all := lw_g (lw_at lw_m4 186 rfl) rfl
theorem q1021 : (Jvm.Cond.code ({ cls := "GuildCharter", name := "next", desc := "()I" } : Jvm.MethodName) prog_1_method_36_code (3 : Nat) (Option.some Jvm.ClassFile.FieldType.int)) ∈ lw_all := lw_g (lw_at lw_m4 187 rfl) rfl
theorem q1023 : (Jvm.Cond.instanceMethod ({ cls := "GuildCharter", name := "readings", desc := "()I" } : Jvm.MethodName)) ∈ lw_all := lw_g (lw_at lw_m4 189 rfl) rfl
theorem q1024 : (Jvm.Cond.selects "GuildCharter" ({ cls := "GuildCharter", name := "readings", desc := "()I" } : Jvm.MethodName) ({ cls := "GuildCharter", name := "readings", desc := "()I" } : Jvm.MethodName)) ∈ lw_all := lw_g (lw_at lw_m4 190 rfl) rfl
theorem q1025 : (Jvm.Cond.code ({ cls := "GuildCharter", name := "readings", desc := "()I" } : Jvm.MethodName) prog_1_method_37_code (1 : Nat) (Option.some Jvm.ClassFile.FieldType.int)) ∈ lw_all := lw_g (lw_at lw_m4 191 rfl) rfl
theorem q1027 : (Jvm.Cond.instanceMethod ({ cls := "GuildCharter", name := "means", desc := "(I)I" } : Jvm.MethodName)) ∈ lw_all := lw_g (lw_at lw_m4 193 rfl) rfl
theorem q1028 : (Jvm.Cond.selects "GuildCharter" ({ cls := "GuildCharter", name := "means", desc := "(I)I" } : Jvm.MethodName) ({ cls := "GuildCharter", name := "means", desc := "(I)I" } : Jvm.MethodName)) ∈ lw_all := lw_g (lw_at lw_m4 194 rfl) rfl
theorem q1029 : (Jvm.Cond.code ({ cls := "GuildCharter", name := "means", desc := "(I)I" } : Jvm.MethodName) prog_1_method_38_code (2 : Nat) (Option.some Jvm.ClassFile.FieldType.int)) ∈ lw_all := lw_g (lw_at lw_m4 195 rfl) rfl
theorem q1030 : (Jvm.Cond.methodLink "GuildCharter" (139 : Nat) ({ cls := "GuildCharter", name := "meaning", desc := "([III)I" } : Jvm.MethodName)) ∈ lw_all := lw_g (lw_at lw_m4 196 rfl) rfl
theorem q1031 : (Jvm.Cond.privateMethod ({ cls := "GuildCharter", name := "meaning", desc := "([III)I" } : Jvm.MethodName)) ∈ lw_tbl := lw_at lw_m4 197 rfl
theorem q1032 : (Jvm.Cond.instanceMethod ({ cls := "GuildCharter", name := "meaning", desc := "([III)I" } : Jvm.MethodName)) ∈ lw_all := lw_g (lw_at lw_m4 198 rfl) rfl
theorem q1033 : (Jvm.Cond.code ({ cls := "GuildCharter", name := "meaning", desc := "([III)I" } : Jvm.MethodName) prog_1_method_10_code (6 : Nat) (Option.some Jvm.ClassFile.FieldType.int)) ∈ lw_all := lw_g (lw_at lw_m4 199 rfl) rfl
theorem q1035 : (Jvm.Cond.instanceMethod ({ cls := "GuildCharter", name := "written", desc := "(I)I" } : Jvm.MethodName)) ∈ lw_all := lw_g (lw_at lw_m4 201 rfl) rfl
theorem q1036 : (Jvm.Cond.selects "GuildCharter" ({ cls := "GuildCharter", name := "written", desc := "(I)I" } : Jvm.MethodName) ({ cls := "GuildCharter", name := "written", desc := "(I)I" } : Jvm.MethodName)) ∈ lw_all := lw_g (lw_at lw_m4 202 rfl) rfl
theorem q1037 : (Jvm.Cond.code ({ cls := "GuildCharter", name := "written", desc := "(I)I" } : Jvm.MethodName) prog_1_method_40_code (3 : Nat) (Option.some Jvm.ClassFile.FieldType.int)) ∈ lw_all := lw_g (lw_at lw_m4 203 rfl) rfl
theorem q1038 : (Jvm.Cond.methodLink "GuildCharter" (269 : Nat) ({ cls := "GuildCharter", name := "layTree", desc := "([II[I)Z" } : Jvm.MethodName)) ∈ lw_all := lw_g (lw_at lw_m4 204 rfl) rfl
theorem q1039 : (Jvm.Cond.privateMethod ({ cls := "GuildCharter", name := "layTree", desc := "([II[I)Z" } : Jvm.MethodName)) ∈ lw_tbl := lw_at lw_m4 205 rfl
theorem q1040 : (Jvm.Cond.instanceMethod ({ cls := "GuildCharter", name := "layTree", desc := "([II[I)Z" } : Jvm.MethodName)) ∈ lw_all := lw_g (lw_at lw_m4 206 rfl) rfl
theorem q1041 : (Jvm.Cond.code ({ cls := "GuildCharter", name := "layTree", desc := "([II[I)Z" } : Jvm.MethodName) prog_1_method_8_code (4 : Nat) (Option.some Jvm.ClassFile.FieldType.boolean)) ∈ lw_all := lw_g (lw_at lw_m4 207 rfl) rfl
theorem q1042 : (Jvm.Cond.methodLink "GuildCharter" (100 : Nat) ({ cls := "GuildCharter", name := "grow", desc := "(LGuildCharter;I[I)V" } : Jvm.MethodName)) ∈ lw_all := lw_g (lw_at lw_m4 208 rfl) rfl
theorem q1043 : (Jvm.Cond.static ({ cls := "GuildCharter", name := "grow", desc := "(LGuildCharter;I[I)V" } : Jvm.MethodName)) ∈ lw_all := lw_g (lw_at lw_m4 209 rfl) rfl
theorem q1044 : (Jvm.Cond.code ({ cls := "GuildCharter", name := "grow", desc := "(LGuildCharter;I[I)V" } : Jvm.MethodName) prog_1_method_7_code (6 : Nat) (Option.none : Option Jvm.ClassFile.FieldType)) ∈ lw_all := lw_g (lw_at lw_m4 210 rfl) rfl
theorem q1045 : (Jvm.Cond.methodLink "GuildCharter" (273 : Nat) ({ cls := "GuildCharter", name := "write", desc := "([II[I)I" } : Jvm.MethodName)) ∈ lw_all := lw_g (lw_at lw_m4 211 rfl) rfl
theorem q1046 : (Jvm.Cond.privateMethod ({ cls := "GuildCharter", name := "write", desc := "([II[I)I" } : Jvm.MethodName)) ∈ lw_tbl := lw_at lw_m4 212 rfl
theorem q1047 : (Jvm.Cond.instanceMethod ({ cls := "GuildCharter", name := "write", desc := "([II[I)I" } : Jvm.MethodName)) ∈ lw_all := lw_g (lw_at lw_m4 213 rfl) rfl
theorem q1048 : (Jvm.Cond.code ({ cls := "GuildCharter", name := "write", desc := "([II[I)I" } : Jvm.MethodName) prog_1_method_12_code (7 : Nat) (Option.some Jvm.ClassFile.FieldType.int)) ∈ lw_all := lw_g (lw_at lw_m4 214 rfl) rfl
theorem q1049 : (Jvm.Cond.methodLink "GuildCharter" (132 : Nat) ({ cls := "GuildCharter", name := "isWhole", desc := "(I)Z" } : Jvm.MethodName)) ∈ lw_all := lw_g (lw_at lw_m4 215 rfl) rfl
theorem q1050 : (Jvm.Cond.privateMethod ({ cls := "GuildCharter", name := "isWhole", desc := "(I)Z" } : Jvm.MethodName)) ∈ lw_tbl := lw_at lw_m4 216 rfl
theorem q1051 : (Jvm.Cond.instanceMethod ({ cls := "GuildCharter", name := "isWhole", desc := "(I)Z" } : Jvm.MethodName)) ∈ lw_all := lw_g (lw_at lw_m4 217 rfl) rfl
theorem q1052 : (Jvm.Cond.code ({ cls := "GuildCharter", name := "isWhole", desc := "(I)Z" } : Jvm.MethodName) prog_1_method_11_code (2 : Nat) (Option.some Jvm.ClassFile.FieldType.boolean)) ∈ lw_all := lw_g (lw_at lw_m4 218 rfl) rfl
theorem q1053 : (Jvm.Cond.methodLink "GuildCharter" (135 : Nat) ({ cls := "GuildCharter", name := "pathOf", desc := "(I[II)[I" } : Jvm.MethodName)) ∈ lw_all := lw_g (lw_at lw_m4 219 rfl) rfl
theorem q1054 : (Jvm.Cond.privateMethod ({ cls := "GuildCharter", name := "pathOf", desc := "(I[II)[I" } : Jvm.MethodName)) ∈ lw_tbl := lw_at lw_m4 220 rfl
theorem q1055 : (Jvm.Cond.instanceMethod ({ cls := "GuildCharter", name := "pathOf", desc := "(I[II)[I" } : Jvm.MethodName)) ∈ lw_all := lw_g (lw_at lw_m4 221 rfl) rfl
theorem q1056 : (Jvm.Cond.code ({ cls := "GuildCharter", name := "pathOf", desc := "(I[II)[I" } : Jvm.MethodName) prog_1_method_9_code (5 : Nat) (Option.some (Jvm.ClassFile.FieldType.array Jvm.ClassFile.FieldType.int))) ∈ lw_all := lw_g (lw_at lw_m4 222 rfl) rfl
theorem q1057 : (Jvm.Cond.methodLink "GuildCharter" (143 : Nat) ({ cls := "GuildCharter", name := "meaningOf", desc := "(I[III)I" } : Jvm.MethodName)) ∈ lw_all := lw_g (lw_at lw_m4 223 rfl) rfl
theorem q1058 : (Jvm.Cond.privateMethod ({ cls := "GuildCharter", name := "meaningOf", desc := "(I[III)I" } : Jvm.MethodName)) ∈ lw_tbl := lw_at lw_m4 224 rfl
theorem q1059 : (Jvm.Cond.instanceMethod ({ cls := "GuildCharter", name := "meaningOf", desc := "(I[III)I" } : Jvm.MethodName)) ∈ lw_all := lw_g (lw_at lw_m4 225 rfl) rfl
theorem q1060 : (Jvm.Cond.code ({ cls := "GuildCharter", name := "meaningOf", desc := "(I[III)I" } : Jvm.MethodName) prog_1_method_13_code (5 : Nat) (Option.some Jvm.ClassFile.FieldType.int)) ∈ lw_all := lw_g (lw_at lw_m4 226 rfl) rfl
theorem q1061 : (Jvm.Cond.methodLink "GuildCharter" (277 : Nat) ({ cls := "GuildCharter", name := "layDown", desc := "(I[II)V" } : Jvm.MethodName)) ∈ lw_all := lw_g (lw_at lw_m4 227 rfl) rfl
theorem q1062 : (Jvm.Cond.privateMethod ({ cls := "GuildCharter", name := "layDown", desc := "(I[II)V" } : Jvm.MethodName)) ∈ lw_tbl := lw_at lw_m4 228 rfl
theorem q1063 : (Jvm.Cond.instanceMethod ({ cls := "GuildCharter", name := "layDown", desc := "(I[II)V" } : Jvm.MethodName)) ∈ lw_all := lw_g (lw_at lw_m4 229 rfl) rfl
theorem q1064 : (Jvm.Cond.code ({ cls := "GuildCharter", name := "layDown", desc := "(I[II)V" } : Jvm.MethodName) prog_1_method_39_code (4 : Nat) (Option.none : Option Jvm.ClassFile.FieldType)) ∈ lw_all := lw_g (lw_at lw_m4 230 rfl) rfl
theorem q1066 : (Jvm.Cond.instanceMethod ({ cls := "GuildCharter", name := "held", desc := "(I)I" } : Jvm.MethodName)) ∈ lw_all := lw_g (lw_at lw_m4 232 rfl) rfl
theorem q1067 : (Jvm.Cond.selects "GuildCharter" ({ cls := "GuildCharter", name := "held", desc := "(I)I" } : Jvm.MethodName) ({ cls := "GuildCharter", name := "held", desc := "(I)I" } : Jvm.MethodName)) ∈ lw_all := lw_g (lw_at lw_m4 233 rfl) rfl
theorem q1068 : (Jvm.Cond.code ({ cls := "GuildCharter", name := "held", desc := "(I)I" } : Jvm.MethodName) prog_1_method_44_code (2 : Nat) (Option.some Jvm.ClassFile.FieldType.int)) ∈ lw_all := lw_g (lw_at lw_m4 234 rfl) rfl
theorem q1069 : (Jvm.Cond.methodLink "GuildCharter" (285 : Nat) ({ cls := "GuildCharter", name := "hasTree", desc := "()Z" } : Jvm.MethodName)) ∈ lw_all := lw_g (lw_at lw_m4 235 rfl) rfl
theorem q1070 : (Jvm.Cond.privateMethod ({ cls := "GuildCharter", name := "hasTree", desc := "()Z" } : Jvm.MethodName)) ∈ lw_tbl := lw_at lw_m4 236 rfl
theorem q1071 : (Jvm.Cond.instanceMethod ({ cls := "GuildCharter", name := "hasTree", desc := "()Z" } : Jvm.MethodName)) ∈ lw_all := lw_g (lw_at lw_m4 237 rfl) rfl
theorem q1072 : (Jvm.Cond.code ({ cls := "GuildCharter", name := "hasTree", desc := "()Z" } : Jvm.MethodName) prog_1_method_43_code (1 : Nat) (Option.some Jvm.ClassFile.FieldType.boolean)) ∈ lw_all := lw_g (lw_at lw_m4 238 rfl) rfl
theorem q1073 : (Jvm.Cond.methodLink "GuildCharter" (288 : Nat) ({ cls := "GuildCharter", name := "hold", desc := "(I)I" } : Jvm.MethodName)) ∈ lw_all := lw_g (lw_at lw_m4 239 rfl) rfl
theorem q1074 : (Jvm.Cond.privateMethod ({ cls := "GuildCharter", name := "hold", desc := "(I)I" } : Jvm.MethodName)) ∈ lw_tbl := lw_at lw_m5 0 rfl
theorem q1075 : (Jvm.Cond.instanceMethod ({ cls := "GuildCharter", name := "hold", desc := "(I)I" } : Jvm.MethodName)) ∈ lw_all := lw_g (lw_at lw_m5 1 rfl) rfl
theorem q1076 : (Jvm.Cond.code ({ cls := "GuildCharter", name := "hold", desc := "(I)I" } : Jvm.MethodName) prog_1_method_42_code (5 : Nat) (Option.some Jvm.ClassFile.FieldType.int)) ∈ lw_all := lw_g (lw_at lw_m5 2 rfl) rfl
theorem q1077 : (Jvm.Cond.methodLink "GuildCharter" (281 : Nat) ({ cls := "GuildCharter", name := "sumOf", desc := "(II)I" } : Jvm.MethodName)) ∈ lw_all := lw_g (lw_at lw_m5 3 rfl) rfl
theorem q1078 : (Jvm.Cond.privateMethod ({ cls := "GuildCharter", name := "sumOf", desc := "(II)I" } : Jvm.MethodName)) ∈ lw_tbl := lw_at lw_m5 4 rfl
theorem q1079 : (Jvm.Cond.instanceMethod ({ cls := "GuildCharter", name := "sumOf", desc := "(II)I" } : Jvm.MethodName)) ∈ lw_all := lw_g (lw_at lw_m5 5 rfl) rfl
theorem q1080 : (Jvm.Cond.code ({ cls := "GuildCharter", name := "sumOf", desc := "(II)I" } : Jvm.MethodName) prog_1_method_41_code (5 : Nat) (Option.some Jvm.ClassFile.FieldType.int)) ∈ lw_all := lw_g (lw_at lw_m5 6 rfl) rfl
theorem q1082 : (Jvm.Cond.instanceMethod ({ cls := "GuildCharter", name := "share", desc := "(II)I" } : Jvm.MethodName)) ∈ lw_all := lw_g (lw_at lw_m5 8 rfl) rfl
theorem q1083 : (Jvm.Cond.selects "GuildCharter" ({ cls := "GuildCharter", name := "share", desc := "(II)I" } : Jvm.MethodName) ({ cls := "GuildCharter", name := "share", desc := "(II)I" } : Jvm.MethodName)) ∈ lw_all := lw_g (lw_at lw_m5 9 rfl) rfl
theorem q1084 : (Jvm.Cond.code ({ cls := "GuildCharter", name := "share", desc := "(II)I" } : Jvm.MethodName) prog_1_method_46_code (7 : Nat) (Option.some Jvm.ClassFile.FieldType.int)) ∈ lw_all := lw_g (lw_at lw_m5 10 rfl) rfl
theorem q1085 : (Jvm.Cond.methodLink "GuildCharter" (297 : Nat) ({ cls := "GuildCharter", name := "byOrder", desc := "(II)I" } : Jvm.MethodName)) ∈ lw_all := lw_g (lw_at lw_m5 11 rfl) rfl
theorem q1086 : (Jvm.Cond.static ({ cls := "GuildCharter", name := "byOrder", desc := "(II)I" } : Jvm.MethodName)) ∈ lw_all := lw_g (lw_at lw_m5 12 rfl) rfl
theorem q1087 : (Jvm.Cond.code ({ cls := "GuildCharter", name := "byOrder", desc := "(II)I" } : Jvm.MethodName) prog_1_method_58_code (5 : Nat) (Option.some Jvm.ClassFile.FieldType.int)) ∈ lw_all := lw_g (lw_at lw_m5 13 rfl) rfl
theorem q1088 : (Jvm.Cond.methodLink "GuildCharter" (294 : Nat) ({ cls := "GuildCharter", name := "common", desc := "(II)I" } : Jvm.MethodName)) ∈ lw_all := lw_g (lw_at lw_m5 14 rfl) rfl
theorem q1089 : (Jvm.Cond.static ({ cls := "GuildCharter", name := "common", desc := "(II)I" } : Jvm.MethodName)) ∈ lw_all := lw_g (lw_at lw_m5 15 rfl) rfl
theorem q1090 : (Jvm.Cond.code ({ cls := "GuildCharter", name := "common", desc := "(II)I" } : Jvm.MethodName) prog_1_method_45_code (2 : Nat) (Option.some Jvm.ClassFile.FieldType.int)) ∈ lw_all := lw_g (lw_at lw_m5 16 rfl) rfl
theorem q1091 : (Jvm.Cond.methodLink "GuildCharter" (291 : Nat) ({ cls := "java/lang/Math", name := "abs", desc := "(I)I" } : Jvm.MethodName)) ∈ lw_all := lw_g (lw_at lw_m5 17 rfl) rfl
theorem q1095 : (Jvm.Cond.instanceMethod ({ cls := "GuildCharter", name := "swap", desc := "()I" } : Jvm.MethodName)) ∈ lw_all := lw_g (lw_at lw_m5 21 rfl) rfl
theorem q1096 : (Jvm.Cond.selects "GuildCharter" ({ cls := "GuildCharter", name := "swap", desc := "()I" } : Jvm.MethodName) ({ cls := "GuildCharter", name := "swap", desc := "()I" } : Jvm.MethodName)) ∈ lw_all := lw_g (lw_at lw_m5 22 rfl) rfl
theorem q1097 : (Jvm.Cond.code ({ cls := "GuildCharter", name := "swap", desc := "()I" } : Jvm.MethodName) prog_1_method_49_code (3 : Nat) (Option.some Jvm.ClassFile.FieldType.int)) ∈ lw_all := lw_g (lw_at lw_m5 23 rfl) rfl
theorem q1098 : (Jvm.Cond.methodLink "GuildCharter" (303 : Nat) ({ cls := "GuildCharter", name := "doSwap", desc := "(II)Z" } : Jvm.MethodName)) ∈ lw_all := lw_g (lw_at lw_m5 24 rfl) rfl
theorem q1099 : (Jvm.Cond.privateMethod ({ cls := "GuildCharter", name := "doSwap", desc := "(II)Z" } : Jvm.MethodName)) ∈ lw_tbl := lw_at lw_m5 25 rfl
theorem q1100 : (Jvm.Cond.instanceMethod ({ cls := "GuildCharter", name := "doSwap", desc := "(II)Z" } : Jvm.MethodName)) ∈ lw_all := lw_g (lw_at lw_m5 26 rfl) rfl
theorem q1101 : (Jvm.Cond.code ({ cls := "GuildCharter", name := "doSwap", desc := "(II)Z" } : Jvm.MethodName) prog_1_method_48_code (10 : Nat) (Option.some Jvm.ClassFile.FieldType.boolean)) ∈ lw_all := lw_g (lw_at lw_m5 27 rfl) rfl
theorem q1102 : (Jvm.Cond.methodLink "GuildCharter" (300 : Nat) ({ cls := "GuildCharter", name := "writtenNow", desc := "()I" } : Jvm.MethodName)) ∈ lw_all := lw_g (lw_at lw_m5 28 rfl) rfl
theorem q1103 : (Jvm.Cond.privateMethod ({ cls := "GuildCharter", name := "writtenNow", desc := "()I" } : Jvm.MethodName)) ∈ lw_tbl := lw_at lw_m5 29 rfl
theorem q1104 : (Jvm.Cond.instanceMethod ({ cls := "GuildCharter", name := "writtenNow", desc := "()I" } : Jvm.MethodName)) ∈ lw_all := lw_g (lw_at lw_m5 30 rfl) rfl
theorem q1105 : (Jvm.Cond.code ({ cls := "GuildCharter", name := "writtenNow", desc := "()I" } : Jvm.MethodName) prog_1_method_47_code (1 : Nat) (Option.some Jvm.ClassFile.FieldType.int)) ∈ lw_all := lw_g (lw_at lw_m5 31 rfl) rfl
theorem q1107 : (Jvm.Cond.instanceMethod ({ cls := "GuildCharter", name := "bribe", desc := "(II)I" } : Jvm.MethodName)) ∈ lw_all := lw_g (lw_at lw_m5 33 rfl) rfl
theorem q1108 : (Jvm.Cond.selects "GuildCharter" ({ cls := "GuildCharter", name := "bribe", desc := "(II)I" } : Jvm.MethodName) ({ cls := "GuildCharter", name := "bribe", desc := "(II)I" } : Jvm.MethodName)) ∈ lw_all := lw_g (lw_at lw_m5 34 rfl) rfl
theorem q1109 : (Jvm.Cond.code ({ cls := "GuildCharter", name := "bribe", desc := "(II)I" } : Jvm.MethodName) prog_1_method_51_code (4 : Nat) (Option.some Jvm.ClassFile.FieldType.int)) ∈ lw_all := lw_g (lw_at lw_m5 35 rfl) rfl
theorem q1110 : (Jvm.Cond.methodLink "GuildCharter" (307 : Nat) ({ cls := "GuildCharter", name := "comesBy", desc := "(III)Z" } : Jvm.MethodName)) ∈ lw_all := lw_g (lw_at lw_m5 36 rfl) rfl
theorem q1111 : (Jvm.Cond.privateMethod ({ cls := "GuildCharter", name := "comesBy", desc := "(III)Z" } : Jvm.MethodName)) ∈ lw_tbl := lw_at lw_m5 37 rfl
theorem q1112 : (Jvm.Cond.instanceMethod ({ cls := "GuildCharter", name := "comesBy", desc := "(III)Z" } : Jvm.MethodName)) ∈ lw_all := lw_g (lw_at lw_m5 38 rfl) rfl
theorem q1113 : (Jvm.Cond.code ({ cls := "GuildCharter", name := "comesBy", desc := "(III)Z" } : Jvm.MethodName) prog_1_method_50_code (5 : Nat) (Option.some Jvm.ClassFile.FieldType.boolean)) ∈ lw_all := lw_g (lw_at lw_m5 39 rfl) rfl
theorem q1115 : (Jvm.Cond.instanceMethod ({ cls := "GuildCharter", name := "shortest", desc := "(I)I" } : Jvm.MethodName)) ∈ lw_all := lw_g (lw_at lw_m5 41 rfl) rfl
theorem q1116 : (Jvm.Cond.selects "GuildCharter" ({ cls := "GuildCharter", name := "shortest", desc := "(I)I" } : Jvm.MethodName) ({ cls := "GuildCharter", name := "shortest", desc := "(I)I" } : Jvm.MethodName)) ∈ lw_all := lw_g (lw_at lw_m5 42 rfl) rfl
theorem q1117 : (Jvm.Cond.code ({ cls := "GuildCharter", name := "shortest", desc := "(I)I" } : Jvm.MethodName) prog_1_method_54_code (2 : Nat) (Option.some Jvm.ClassFile.FieldType.int)) ∈ lw_all := lw_g (lw_at lw_m5 43 rfl) rfl
theorem q1118 : (Jvm.Cond.methodLink "GuildCharter" (314 : Nat) ({ cls := "GuildCharter", name := "layFewest", desc := "()V" } : Jvm.MethodName)) ∈ lw_all := lw_g (lw_at lw_m5 44 rfl) rfl
theorem q1119 : (Jvm.Cond.privateMethod ({ cls := "GuildCharter", name := "layFewest", desc := "()V" } : Jvm.MethodName)) ∈ lw_tbl := lw_at lw_m5 45 rfl
theorem q1120 : (Jvm.Cond.instanceMethod ({ cls := "GuildCharter", name := "layFewest", desc := "()V" } : Jvm.MethodName)) ∈ lw_all := lw_g (lw_at lw_m5 46 rfl) rfl
theorem q1121 : (Jvm.Cond.code ({ cls := "GuildCharter", name := "layFewest", desc := "()V" } : Jvm.MethodName) prog_1_method_53_code (5 : Nat) (Option.none : Option Jvm.ClassFile.FieldType)) ∈ lw_all := lw_g (lw_at lw_m5 47 rfl) rfl
theorem q1122 : (Jvm.Cond.methodLink "GuildCharter" (310 : Nat) ({ cls := "GuildCharter", name := "fewestOf", desc := "(LGuildCharter$Alt;)I" } : Jvm.MethodName)) ∈ lw_all := lw_g (lw_at lw_m5 48 rfl) rfl
theorem q1123 : (Jvm.Cond.privateMethod ({ cls := "GuildCharter", name := "fewestOf", desc := "(LGuildCharter$Alt;)I" } : Jvm.MethodName)) ∈ lw_tbl := lw_at lw_m5 49 rfl
theorem q1124 : (Jvm.Cond.instanceMethod ({ cls := "GuildCharter", name := "fewestOf", desc := "(LGuildCharter$Alt;)I" } : Jvm.MethodName)) ∈ lw_all := lw_g (lw_at lw_m5 50 rfl) rfl
theorem q1125 : (Jvm.Cond.code ({ cls := "GuildCharter", name := "fewestOf", desc := "(LGuildCharter$Alt;)I" } : Jvm.MethodName) prog_1_method_52_code (5 : Nat) (Option.some Jvm.ClassFile.FieldType.int)) ∈ lw_all := lw_g (lw_at lw_m5 51 rfl) rfl
theorem q1127 : (Jvm.Cond.instanceMethod ({ cls := "GuildCharter", name := "used", desc := "()I" } : Jvm.MethodName)) ∈ lw_all := lw_g (lw_at lw_m5 53 rfl) rfl
theorem q1128 : (Jvm.Cond.selects "GuildCharter" ({ cls := "GuildCharter", name := "used", desc := "()I" } : Jvm.MethodName) ({ cls := "GuildCharter", name := "used", desc := "()I" } : Jvm.MethodName)) ∈ lw_all := lw_g (lw_at lw_m5 54 rfl) rfl
theorem q1129 : (Jvm.Cond.code ({ cls := "GuildCharter", name := "used", desc := "()I" } : Jvm.MethodName) prog_1_method_56_code (4 : Nat) (Option.some Jvm.ClassFile.FieldType.int)) ∈ lw_all := lw_g (lw_at lw_m5 55 rfl) rfl
theorem q1130 : (Jvm.Cond.methodLink "GuildCharter" (317 : Nat) ({ cls := "GuildCharter", name := "comesTo", desc := "(I)I" } : Jvm.MethodName)) ∈ lw_all := lw_g (lw_at lw_m5 56 rfl) rfl
theorem q1131 : (Jvm.Cond.privateMethod ({ cls := "GuildCharter", name := "comesTo", desc := "(I)I" } : Jvm.MethodName)) ∈ lw_tbl := lw_at lw_m5 57 rfl
theorem q1132 : (Jvm.Cond.instanceMethod ({ cls := "GuildCharter", name := "comesTo", desc := "(I)I" } : Jvm.MethodName)) ∈ lw_all := lw_g (lw_at lw_m5 58 rfl) rfl
theorem q1133 : (Jvm.Cond.code ({ cls := "GuildCharter", name := "comesTo", desc := "(I)I" } : Jvm.MethodName) prog_1_method_55_code (7 : Nat) (Option.some Jvm.ClassFile.FieldType.int)) ∈ lw_all := lw_g (lw_at lw_m5 59 rfl) rfl
theorem q1135 : (Jvm.Cond.instanceMethod ({ cls := "GuildCharter", name := "doubtful", desc := "()I" } : Jvm.MethodName)) ∈ lw_all := lw_g (lw_at lw_m5 61 rfl) rfl
theorem q1136 : (Jvm.Cond.selects "GuildCharter" ({ cls := "GuildCharter", name := "doubtful", desc := "()I" } : Jvm.MethodName) ({ cls := "GuildCharter", name := "doubtful", desc := "()I" } : Jvm.MethodName)) ∈ lw_all := lw_g (lw_at lw_m5 62 rfl) rfl
theorem q1137 : (Jvm.Cond.code ({ cls := "GuildCharter", name := "doubtful", desc := "()I" } : Jvm.MethodName) prog_1_method_57_code (3 : Nat) (Option.some Jvm.ClassFile.FieldType.int)) ∈ lw_all := lw_g (lw_at lw_m5 63 rfl) rfl
theorem q1139 : (Jvm.Cond.instanceMethod ({ cls := "GuildCharter", name := "lots", desc := "(I)I" } : Jvm.MethodName)) ∈ lw_all := lw_g (lw_at lw_m5 65 rfl) rfl
theorem q1140 : (Jvm.Cond.selects "GuildCharter" ({ cls := "GuildCharter", name := "lots", desc := "(I)I" } : Jvm.MethodName) ({ cls := "GuildCharter", name := "lots", desc := "(I)I" } : Jvm.MethodName)) ∈ lw_all := lw_g (lw_at lw_m5 66 rfl) rfl
theorem q1141 : (Jvm.Cond.code ({ cls := "GuildCharter", name := "lots", desc := "(I)I" } : Jvm.MethodName) prog_1_method_60_code (4 : Nat) (Option.some Jvm.ClassFile.FieldType.int)) ∈ lw_all := lw_g (lw_at lw_m5 67 rfl) rfl
theorem q1142 : (Jvm.Cond.methodLink "GuildCharter" (320 : Nat) ({ cls := "GuildCharter", name := "writeBy", desc := "(I)I" } : Jvm.MethodName)) ∈ lw_all := lw_g (lw_at lw_m5 68 rfl) rfl
theorem q1143 : (Jvm.Cond.privateMethod ({ cls := "GuildCharter", name := "writeBy", desc := "(I)I" } : Jvm.MethodName)) ∈ lw_tbl := lw_at lw_m5 69 rfl
theorem q1144 : (Jvm.Cond.instanceMethod ({ cls := "GuildCharter", name := "writeBy", desc := "(I)I" } : Jvm.MethodName)) ∈ lw_all := lw_g (lw_at lw_m5 70 rfl) rfl
theorem q1145 : (Jvm.Cond.code ({ cls := "GuildCharter", name := "writeBy", desc := "(I)I" } : Jvm.MethodName) prog_1_method_59_code (3 : Nat) (Option.some Jvm.ClassFile.FieldType.int)) ∈ lw_all := lw_g (lw_at lw_m5 71 rfl) rfl
theorem q1147 : (Jvm.Cond.instanceMethod ({ cls := "GuildCharter", name := "hole", desc := "(II)Z" } : Jvm.MethodName)) ∈ lw_all := lw_g (lw_at lw_m5 73 rfl) rfl
theorem q1148 : (Jvm.Cond.selects "GuildCharter" ({ cls := "GuildCharter", name := "hole", desc := "(II)Z" } : Jvm.MethodName) ({ cls := "GuildCharter", name := "hole", desc := "(II)Z" } : Jvm.MethodName)) ∈ lw_all := lw_g (lw_at lw_m5 74 rfl) rfl
theorem q1149 : (Jvm.Cond.code ({ cls := "GuildCharter", name := "hole", desc := "(II)Z" } : Jvm.MethodName) prog_1_method_61_code (3 : Nat) (Option.some Jvm.ClassFile.FieldType.boolean)) ∈ lw_all := lw_g (lw_at lw_m5 75 rfl) rfl
theorem q1151 : (Jvm.Cond.instanceMethod ({ cls := "GuildCharter", name := "fit", desc := "()I" } : Jvm.MethodName)) ∈ lw_all := lw_g (lw_at lw_m5 77 rfl) rfl
theorem q1152 : (Jvm.Cond.selects "GuildCharter" ({ cls := "GuildCharter", name := "fit", desc := "()I" } : Jvm.MethodName) ({ cls := "GuildCharter", name := "fit", desc := "()I" } : Jvm.MethodName)) ∈ lw_all := lw_g (lw_at lw_m5 78 rfl) rfl
theorem q1153 : (Jvm.Cond.code ({ cls := "GuildCharter", name := "fit", desc := "()I" } : Jvm.MethodName) prog_1_method_62_code (3 : Nat) (Option.some Jvm.ClassFile.FieldType.int)) ∈ lw_all := lw_g (lw_at lw_m5 79 rfl) rfl
theorem q1155 : (Jvm.Cond.instanceMethod ({ cls := "GuildCharter", name := "best", desc := "(I)I" } : Jvm.MethodName)) ∈ lw_all := lw_g (lw_at lw_m5 81 rfl) rfl
theorem q1156 : (Jvm.Cond.selects "GuildCharter" ({ cls := "GuildCharter", name := "best", desc := "(I)I" } : Jvm.MethodName) ({ cls := "GuildCharter", name := "best", desc := "(I)I" } : Jvm.MethodName)) ∈ lw_all := lw_g (lw_at lw_m5 82 rfl) rfl
theorem q1157 : (Jvm.Cond.code ({ cls := "GuildCharter", name := "best", desc := "(I)I" } : Jvm.MethodName) prog_1_method_63_code (4 : Nat) (Option.some Jvm.ClassFile.FieldType.int)) ∈ lw_all := lw_g (lw_at lw_m5 83 rfl) rfl
theorem q1158 : (Jvm.Cond.methodLink "GuildCharter" (323 : Nat) ({ cls := "GuildCharter", name := "fit", desc := "()I" } : Jvm.MethodName)) ∈ lw_all := lw_g (lw_at lw_m5 84 rfl) rfl
theorem q1160 : (Jvm.Cond.instanceMethod ({ cls := "GuildCharter", name := "struck", desc := "(I)I" } : Jvm.MethodName)) ∈ lw_all := lw_g (lw_at lw_m5 86 rfl) rfl
theorem q1161 : (Jvm.Cond.selects "GuildCharter" ({ cls := "GuildCharter", name := "struck", desc := "(I)I" } : Jvm.MethodName) ({ cls := "GuildCharter", name := "struck", desc := "(I)I" } : Jvm.MethodName)) ∈ lw_all := lw_g (lw_at lw_m5 87 rfl) rfl
theorem q1162 : (Jvm.Cond.code ({ cls := "GuildCharter", name := "struck", desc := "(I)I" } : Jvm.MethodName) prog_1_method_65_code (7 : Nat) (Option.some Jvm.ClassFile.FieldType.int)) ∈ lw_all := lw_g (lw_at lw_m5 88 rfl) rfl
theorem q1163 : (Jvm.Cond.methodLink "GuildCharter" (326 : Nat) ({ cls := "GuildCharter", name := "readings", desc := "()I" } : Jvm.MethodName)) ∈ lw_all := lw_g (lw_at lw_m5 89 rfl) rfl
theorem q1164 : (Jvm.Cond.methodLink "GuildCharter" (328 : Nat) ({ cls := "GuildCharter", name := "canStrike", desc := "(II)Z" } : Jvm.MethodName)) ∈ lw_all := lw_g (lw_at lw_m5 90 rfl) rfl
theorem q1165 : (Jvm.Cond.privateMethod ({ cls := "GuildCharter", name := "canStrike", desc := "(II)Z" } : Jvm.MethodName)) ∈ lw_tbl := lw_at lw_m5 91 rfl
theorem q1166 : (Jvm.Cond.instanceMethod ({ cls := "GuildCharter", name := "canStrike", desc := "(II)Z" } : Jvm.MethodName)) ∈ lw_all := lw_g (lw_at lw_m5 92 rfl) rfl
theorem q1167 : (Jvm.Cond.code ({ cls := "GuildCharter", name := "canStrike", desc := "(II)Z" } : Jvm.MethodName) prog_1_method_64_code (4 : Nat) (Option.some Jvm.ClassFile.FieldType.boolean)) ∈ lw_all := lw_g (lw_at lw_m5 93 rfl) rfl
theorem q1169 : (Jvm.Cond.instanceMethod ({ cls := "GuildCharter", name := "lies", desc := "(I)I" } : Jvm.MethodName)) ∈ lw_all := lw_g (lw_at lw_m5 95 rfl) rfl
theorem q1170 : (Jvm.Cond.selects "GuildCharter" ({ cls := "GuildCharter", name := "lies", desc := "(I)I" } : Jvm.MethodName) ({ cls := "GuildCharter", name := "lies", desc := "(I)I" } : Jvm.MethodName)) ∈ lw_all := lw_g (lw_at lw_m5 96 rfl) rfl
theorem q1171 : (Jvm.Cond.code ({ cls := "GuildCharter", name := "lies", desc := "(I)I" } : Jvm.MethodName) prog_1_method_66_code (2 : Nat) (Option.some Jvm.ClassFile.FieldType.int)) ∈ lw_all := lw_g (lw_at lw_m5 97 rfl) rfl
theorem q1173 : (Jvm.Cond.instanceMethod ({ cls := "GuildCharter", name := "seen", desc := "(IIZ)I" } : Jvm.MethodName)) ∈ lw_all := lw_g (lw_at lw_m5 99 rfl) rfl
theorem q1174 : (Jvm.Cond.selects "GuildCharter" ({ cls := "GuildCharter", name := "seen", desc := "(IIZ)I" } : Jvm.MethodName) ({ cls := "GuildCharter", name := "seen", desc := "(IIZ)I" } : Jvm.MethodName)) ∈ lw_all := lw_g (lw_at lw_m5 100 rfl) rfl
theorem q1175 : (Jvm.Cond.code ({ cls := "GuildCharter", name := "seen", desc := "(IIZ)I" } : Jvm.MethodName) prog_1_method_67_code (4 : Nat) (Option.some Jvm.ClassFile.FieldType.int)) ∈ lw_all := lw_g (lw_at lw_m5 101 rfl) rfl
theorem q1176 : (Jvm.Cond.classLink "GuildCharter" (331 : Nat) "GuildCharter$Seen") ∈ lw_all := lw_g (lw_at lw_m5 102 rfl) rfl
theorem q1178 : (Jvm.Cond.methodLink "GuildCharter" (336 : Nat) ({ cls := "GuildCharter$Seen", name := "<init>", desc := "(IIZI)V" } : Jvm.MethodName)) ∈ lw_all := lw_g (lw_at lw_m5 104 rfl) rfl
theorem q1183 : (Jvm.Cond.fieldLink "GuildCharter" (350 : Nat) "GuildCharter$Seen" "place" "I") ∈ lw_all := lw_g (lw_at lw_m5 109 rfl) rfl
theorem q1185 : (Jvm.Cond.fieldLink "GuildCharter" (351 : Nat) "GuildCharter$Seen" "word" "I") ∈ lw_all := lw_g (lw_at lw_m5 111 rfl) rfl
theorem q1188 : (Jvm.Cond.fieldLink "GuildCharter" (354 : Nat) "GuildCharter$Seen" "stood" "Z") ∈ lw_all := lw_g (lw_at lw_m5 114 rfl) rfl
theorem q1201 : (Jvm.Cond.methodLink "GuildCharter" (339 : Nat) ({ cls := "java/util/ArrayList", name := "add", desc := "(Ljava/lang/Object;)Z" } : Jvm.MethodName)) ∈ lw_all := lw_g (lw_at lw_m5 127 rfl) rfl
theorem q1203 : (Jvm.Cond.instanceMethod ({ cls := "GuildCharter", name := "untell", desc := "(I)Z" } : Jvm.MethodName)) ∈ lw_all := lw_g (lw_at lw_m5 129 rfl) rfl
theorem q1204 : (Jvm.Cond.selects "GuildCharter" ({ cls := "GuildCharter", name := "untell", desc := "(I)Z" } : Jvm.MethodName) ({ cls := "GuildCharter", name := "untell", desc := "(I)Z" } : Jvm.MethodName)) ∈ lw_all := lw_g (lw_at lw_m5 130 rfl) rfl
theorem q1205 : (Jvm.Cond.code ({ cls := "GuildCharter", name := "untell", desc := "(I)Z" } : Jvm.MethodName) prog_1_method_68_code (2 : Nat) (Option.some Jvm.ClassFile.FieldType.boolean)) ∈ lw_all := lw_g (lw_at lw_m5 131 rfl) rfl
theorem q1206 : (Jvm.Cond.methodLink "GuildCharter" (343 : Nat) ({ cls := "GuildCharter$Seen", name := "untell", desc := "(I)Z" } : Jvm.MethodName)) ∈ lw_all := lw_g (lw_at lw_m5 132 rfl) rfl
theorem q1211 : (Jvm.Cond.instanceMethod ({ cls := "GuildCharter", name := "later", desc := "(I)I" } : Jvm.MethodName)) ∈ lw_all := lw_g (lw_at lw_m5 137 rfl) rfl
theorem q1212 : (Jvm.Cond.selects "GuildCharter" ({ cls := "GuildCharter", name := "later", desc := "(I)I" } : Jvm.MethodName) ({ cls := "GuildCharter", name := "later", desc := "(I)I" } : Jvm.MethodName)) ∈ lw_all := lw_g (lw_at lw_m5 138 rfl) rfl
theorem q1213 : (Jvm.Cond.code ({ cls := "GuildCharter", name := "later", desc := "(I)I" } : Jvm.MethodName) prog_1_method_69_code (2 : Nat) (Option.some Jvm.ClassFile.FieldType.int)) ∈ lw_all := lw_g (lw_at lw_m5 139 rfl) rfl
theorem q1214 : (Jvm.Cond.constant "GuildCharter" (346 : Nat) (100000 : Int32)) ∈ lw_all := lw_g (lw_at lw_m5 140 rfl) rfl
theorem q1216 : (Jvm.Cond.instanceMethod ({ cls := "GuildCharter", name := "orders", desc := "(I)I" } : Jvm.MethodName)) ∈ lw_all := lw_g (lw_at lw_m5 142 rfl) rfl
theorem q1217 : (Jvm.Cond.selects "GuildCharter" ({ cls := "GuildCharter", name := "orders", desc := "(I)I" } : Jvm.MethodName) ({ cls := "GuildCharter", name := "orders", desc := "(I)I" } : Jvm.MethodName)) ∈ lw_all := lw_g (lw_at lw_m5 143 rfl) rfl
theorem q1218 : (Jvm.Cond.code ({ cls := "GuildCharter", name := "orders", desc := "(I)I" } : Jvm.MethodName) prog_1_method_71_code (4 : Nat) (Option.some Jvm.ClassFile.FieldType.int)) ∈ lw_all := lw_g (lw_at lw_m5 144 rfl) rfl
theorem q1219 : (Jvm.Cond.methodLink "GuildCharter" (357 : Nat) ({ cls := "GuildCharter", name := "areSo", desc := "([II)Z" } : Jvm.MethodName)) ∈ lw_all := lw_g (lw_at lw_m5 145 rfl) rfl
theorem q1220 : (Jvm.Cond.privateMethod ({ cls := "GuildCharter", name := "areSo", desc := "([II)Z" } : Jvm.MethodName)) ∈ lw_tbl := lw_at lw_m5 146 rfl
theorem q1221 : (Jvm.Cond.instanceMethod ({ cls := "GuildCharter", name := "areSo", desc := "([II)Z" } : Jvm.MethodName)) ∈ lw_all := lw_g (lw_at lw_m5 147 rfl) rfl
theorem q1222 : (Jvm.Cond.code ({ cls := "GuildCharter", name := "areSo", desc := "([II)Z" } : Jvm.MethodName) prog_1_method_70_code (6 : Nat) (Option.some Jvm.ClassFile.FieldType.boolean)) ∈ lw_all := lw_g (lw_at lw_m5 148 rfl) rfl
theorem q1223 : (Jvm.Cond.methodLink "GuildCharter" (347 : Nat) ({ cls := "GuildCharter$Seen", name := "isKnown", desc := "(I)Z" } : Jvm.MethodName)) ∈ lw_all := lw_g (lw_at lw_m5 149 rfl) rfl
theorem q1228 : (Jvm.Cond.instanceMethod ({ cls := "GuildCharter", name := "image", desc := "(I)I" } : Jvm.MethodName)) ∈ lw_all := lw_g (lw_at lw_m5 154 rfl) rfl
theorem q1229 : (Jvm.Cond.selects "GuildCharter" ({ cls := "GuildCharter", name := "image", desc := "(I)I" } : Jvm.MethodName) ({ cls := "GuildCharter", name := "image", desc := "(I)I" } : Jvm.MethodName)) ∈ lw_all := lw_g (lw_at lw_m5 155 rfl) rfl
theorem q1230 : (Jvm.Cond.code ({ cls := "GuildCharter", name := "image", desc := "(I)I" } : Jvm.MethodName) prog_1_method_73_code (2 : Nat) (Option.some Jvm.ClassFile.FieldType.int)) ∈ lw_all := lw_g (lw_at lw_m5 156 rfl) rfl
theorem q1231 : (Jvm.Cond.methodLink "GuildCharter" (361 : Nat) ({ cls := "GuildCharter", name := "isBox", desc := "(I)Z" } : Jvm.MethodName)) ∈ lw_all := lw_g (lw_at lw_m5 157 rfl) rfl
theorem q1232 : (Jvm.Cond.static ({ cls := "GuildCharter", name := "isBox", desc := "(I)Z" } : Jvm.MethodName)) ∈ lw_all := lw_g (lw_at lw_m5 158 rfl) rfl
theorem q1233 : (Jvm.Cond.code ({ cls := "GuildCharter", name := "isBox", desc := "(I)Z" } : Jvm.MethodName) prog_1_method_72_code (1 : Nat) (Option.some Jvm.ClassFile.FieldType.boolean)) ∈ lw_all := lw_g (lw_at lw_m5 159 rfl) rfl
theorem q1235 : (Jvm.Cond.instanceMethod ({ cls := "GuildCharter", name := "back", desc := "(I)I" } : Jvm.MethodName)) ∈ lw_all := lw_g (lw_at lw_m5 161 rfl) rfl
theorem q1236 : (Jvm.Cond.selects "GuildCharter" ({ cls := "GuildCharter", name := "back", desc := "(I)I" } : Jvm.MethodName) ({ cls := "GuildCharter", name := "back", desc := "(I)I" } : Jvm.MethodName)) ∈ lw_all := lw_g (lw_at lw_m5 162 rfl) rfl
theorem q1237 : (Jvm.Cond.code ({ cls := "GuildCharter", name := "back", desc := "(I)I" } : Jvm.MethodName) prog_1_method_74_code (2 : Nat) (Option.some Jvm.ClassFile.FieldType.int)) ∈ lw_all := lw_g (lw_at lw_m5 163 rfl) rfl
theorem q1239 : (Jvm.Cond.instanceMethod ({ cls := "GuildCharter", name := "about", desc := "(I)I" } : Jvm.MethodName)) ∈ lw_all := lw_g (lw_at lw_m5 165 rfl) rfl
theorem q1240 : (Jvm.Cond.selects "GuildCharter" ({ cls := "GuildCharter", name := "about", desc := "(I)I" } : Jvm.MethodName) ({ cls := "GuildCharter", name := "about", desc := "(I)I" } : Jvm.MethodName)) ∈ lw_all := lw_g (lw_at lw_m5 166 rfl) rfl
theorem q1241 : (Jvm.Cond.code ({ cls := "GuildCharter", name := "about", desc := "(I)I" } : Jvm.MethodName) prog_1_method_75_code (2 : Nat) (Option.some Jvm.ClassFile.FieldType.int)) ∈ lw_all := lw_g (lw_at lw_m5 167 rfl) rfl
theorem q1901 : (Jvm.Cond.castable "GuildCharter" "java/lang/Object") ∈ lw_tbl := lw_at lw_m8 107 rfl
theorem in_X0 : ∀ w ∈ wsX00, w ∈ lw_all := lw_in wsX00 [278, 280, 282, 284, 286, 288, 290, 292, 294, 296, 298, 300, 302, 304, 306, 308, 310, 312, 314, 316, 318, 320, 322, 324, 326, 328, 330, 332, 334, 336, 338, 340, 342, 344] (by decide +kernel) (by decide +kernel)
