/-! GuildCharterModel -/
set_option maxRecDepth 100000
def RX2 : String := "GuildCharterModel"
def TX2 : u_T := fun k => match k with
  | 0 => ("GuildCharterModel", "tape", "[B", true)
  | 1 => ("GuildCharterModel", "text", "[B", true)
  | 2 => ("GuildCharterModel", "taped", "I", false)
  | 3 => ("GuildCharterModel", "size", "I", false)
  | 4 => ("GuildCharterModel", "faultKind", "I", false)
  | 5 => ("GuildCharterModel", "faultPlace", "I", false)
  | 6 => ("GuildCharterModel", "at", "I", false)
  | 7 => ("GuildCharterModel", "end", "I", false)
  | 8 => ("GuildCharterModel", "token", "I", false)
  | 9 => ("GuildCharterModel", "number", "I", false)
  | 10 => ("GuildCharterModel", "name", "J", false)
  | 11 => ("GuildCharterModel", "words", "[I", true)
  | 12 => ("GuildCharterModel", "pairs", "[I", true)
  | 13 => ("GuildCharterModel", "rules", "[I", true)
  | 14 => ("GuildCharterModel", "alts", "[I", true)
  | 15 => ("GuildCharterModel", "length", "[I", true)
  | 16 => ("GuildCharterModel", "turnMany", "[I", true)
  | 17 => ("GuildCharterModel", "turnOf", "[I", true)
  | 18 => ("GuildCharterModel", "worthOf", "[I", true)
  | 19 => ("GuildCharterModel", "pairWorth", "[I", true)
  | 20 => ("GuildCharterModel", "altRule", "[I", true)
  | 21 => ("GuildCharterModel", "altMany", "[I", true)
  | 22 => ("GuildCharterModel", "altName", "[I", true)
  | 23 => ("GuildCharterModel", "altPlace", "[I", true)
  | 24 => ("GuildCharterModel", "isPair", "[Z", true)
  | 25 => ("GuildCharterModel", "isLength", "[Z", true)
  | 26 => ("GuildCharterModel", "wName", "[J", true)
  | 27 => ("GuildCharterModel", "rName", "[J", true)
  | 28 => ("GuildCharterModel", "altWord", "[J", true)
  | 29 => ("GuildCharterModel", "bank", "I", false)
  | 30 => ("GuildCharterModel", "rb", "I", false)
  | 31 => ("GuildCharterModel", "tried", "[I", true)
  | 32 => ("GuildCharterModel", "ends", "[I", true)
  | 33 => ("GuildCharterModel", "waysTo", "[J", true)
  | 34 => ("GuildCharterModel", "step", "[J", true)
  | 35 => ("GuildCharterModel", "stepNext", "[J", true)
  | 36 => ("GuildCharterModel", "row", "[I", true)
  | 37 => ("GuildCharterModel", "turnNow", "[I", true)
  | 38 => ("GuildCharterModel", "holes", "[I", true)
  | 39 => ("GuildCharterModel", "many", "I", false)
  | 40 => ("GuildCharterModel", "actPlace", "[I", true)
  | 41 => ("GuildCharterModel", "actWhat", "[I", true)
  | 42 => ("GuildCharterModel", "acts", "I", false)
  | 43 => ("GuildCharterModel", "undone", "I", false)
  | 44 => ("GuildCharterModel", "list", "[I", true)
  | 45 => ("GuildCharterModel", "meansTo", "[I", true)
  | 46 => ("GuildCharterModel", "left", "[I", true)
  | 47 => ("GuildCharterModel", "leftNext", "[I", true)
  | 48 => ("GuildCharterModel", "listMany", "I", false)
  | 49 => ("GuildCharterModel", "listFrom", "I", false)
  | 50 => ("GuildCharterModel", "rowsMet", "I", false)
  | 51 => ("GuildCharterModel", "listKey", "J", false)
  | 52 => ("GuildCharterModel", "path", "[I", true)
  | 53 => ("GuildCharterModel", "playTurn", "[I", true)
  | 54 => ("GuildCharterModel", "bribed", "I", false)
  | 55 => ("GuildCharterModel", "bribePlace", "I", false)
  | 56 => ("GuildCharterModel", "bribeWord", "I", false)
  | 57 => ("GuildCharterModel", "bribe", "I", false)
  | 58 => ("GuildCharterModel", "laidRow", "[I", true)
  | 59 => ("GuildCharterModel", "laid", "I", false)
  | 60 => ("GuildCharterModel", "shortestOf", "[I", true)
  | 61 => ("GuildCharterModel", "sPlace", "[I", true)
  | 62 => ("GuildCharterModel", "sWord", "[I", true)
  | 63 => ("GuildCharterModel", "sTold", "[I", true)
  | 64 => ("GuildCharterModel", "sUntold", "[I", true)
  | 65 => ("GuildCharterModel", "sStood", "[Z", true)
  | 66 => ("GuildCharterModel", "seenMany", "I", false)
  | 67 => ("GuildCharterModel", "time", "I", false)
  | 68 => ("GuildCharterModel", "boxMany", "[I", true)
  | 69 => ("GuildCharterModel", "boxRow", "[I", true)
  | _ => ("GuildCharterModel", "boxTurn", "[I", true)
def tyX2 : Nat → FieldType := fun k => match k with
  | 0 => .array .byte
  | 1 => .array .byte
  | 2 => .int
  | 3 => .int
  | 4 => .int
  | 5 => .int
  | 6 => .int
  | 7 => .int
  | 8 => .int
  | 9 => .int
  | 10 => .long
  | 11 => .array .int
  | 12 => .array .int
  | 13 => .array .int
  | 14 => .array .int
  | 15 => .array .int
  | 16 => .array .int
  | 17 => .array .int
  | 18 => .array .int
  | 19 => .array .int
  | 20 => .array .int
  | 21 => .array .int
  | 22 => .array .int
  | 23 => .array .int
  | 24 => .array .boolean
  | 25 => .array .boolean
  | 26 => .array .long
  | 27 => .array .long
  | 28 => .array .long
  | 29 => .int
  | 30 => .int
  | 31 => .array .int
  | 32 => .array .int
  | 33 => .array .long
  | 34 => .array .long
  | 35 => .array .long
  | 36 => .array .int
  | 37 => .array .int
  | 38 => .array .int
  | 39 => .int
  | 40 => .array .int
  | 41 => .array .int
  | 42 => .int
  | 43 => .int
  | 44 => .array .int
  | 45 => .array .int
  | 46 => .array .int
  | 47 => .array .int
  | 48 => .int
  | 49 => .int
  | 50 => .int
  | 51 => .long
  | 52 => .array .int
  | 53 => .array .int
  | 54 => .int
  | 55 => .int
  | 56 => .int
  | 57 => .int
  | 58 => .array .int
  | 59 => .int
  | 60 => .array .int
  | 61 => .array .int
  | 62 => .array .int
  | 63 => .array .int
  | 64 => .array .int
  | 65 => .array .boolean
  | 66 => .int
  | 67 => .int
  | 68 => .array .int
  | 69 => .array .int
  | _ => .array .int
abbrev wsX20 : List Cond := u_ws RX2 TX2 71
set_option maxRecDepth 100000 in
theorem nmX2 : ∀ a, a < 71 → ∀ b, b < 71 → a ≠ b → (TX2 a).2.1 ≠ (TX2 b).2.1 := by decide +kernel
set_option maxRecDepth 100000 in
theorem tyX2_ok : ∀ k, k < 71 → parseFieldDescriptor (TX2 k).2.2.1 = some (tyX2 k) := by decide +kernel
abbrev cX2_init : ByteArray := prog_9_method_1_code
def yX2_init : MethodName := ⟨RX2, "<init>", "()V"⟩
def dkwX2_init_18 : List UInt8 := [6, 162, 0, 16, 42, 180, 0, 149, 27, 2, 79, 132, 1, 1, 167, 255, 241, 177]
abbrev dktX2_init_18 : List UInt8 := dkwX2_init_18 ++ []
def dkwX2_init_17 : List UInt8 := [188, 10, 181, 0, 152, 42, 16, 18, 188, 10, 181, 0, 155, 42, 182, 0, 158, 42, 182, 0, 161, 3, 60, 27]
abbrev dktX2_init_17 : List UInt8 := dkwX2_init_17 ++ dktX2_init_18
def dkwX2_init_16 : List UInt8 := [188, 10, 181, 0, 143, 42, 16, 30, 188, 4, 181, 0, 146, 42, 6, 188, 10, 181, 0, 149, 42, 16, 18]
abbrev dktX2_init_16 : List UInt8 := dkwX2_init_16 ++ dktX2_init_17
def dkwX2_init_15 : List UInt8 := [188, 10, 181, 0, 134, 42, 16, 30, 188, 10, 181, 0, 137, 42, 16, 30, 188, 10, 181, 0, 140, 42, 16, 30]
abbrev dktX2_init_15 : List UInt8 := dkwX2_init_15 ++ dktX2_init_16
def dkwX2_init_14 : List UInt8 := [42, 2, 181, 0, 125, 42, 16, 6, 188, 10, 181, 0, 128, 42, 16, 8, 188, 10, 181, 0, 131, 42, 16, 30]
abbrev dktX2_init_14 : List UInt8 := dkwX2_init_14 ++ dktX2_init_15
def dkwX2_init_13 : List UInt8 := [17, 11, 185, 188, 10, 181, 0, 116, 42, 16, 7, 188, 10, 181, 0, 119, 42, 16, 6, 188, 10, 181, 0, 122]
abbrev dktX2_init_13 : List UInt8 := dkwX2_init_13 ++ dktX2_init_14
def dkwX2_init_12 : List UInt8 := [181, 0, 107, 42, 17, 35, 43, 188, 10, 181, 0, 110, 42, 17, 11, 185, 188, 10, 181, 0, 113, 42]
abbrev dktX2_init_12 : List UInt8 := dkwX2_init_12 ++ dktX2_init_13
def dkwX2_init_11 : List UInt8 := [42, 16, 40, 188, 10, 181, 0, 101, 42, 16, 40, 188, 10, 181, 0, 104, 42, 17, 11, 185, 188, 10]
abbrev dktX2_init_11 : List UInt8 := dkwX2_init_11 ++ dktX2_init_12
def dkwX2_init_10 : List UInt8 := [79, 89, 4, 2, 79, 89, 5, 2, 79, 89, 6, 2, 79, 89, 7, 2, 79, 89, 8, 2, 79, 181, 0, 98]
abbrev dktX2_init_10 : List UInt8 := dkwX2_init_10 ++ dktX2_init_11
def dkwX2_init_9 : List UInt8 := [42, 16, 6, 188, 10, 181, 0, 92, 42, 16, 6, 188, 10, 181, 0, 95, 42, 16, 6, 188, 10, 89, 3, 2]
abbrev dktX2_init_9 : List UInt8 := dkwX2_init_9 ++ dktX2_init_10
def dkwX2_init_8 : List UInt8 := [17, 1, 192, 188, 11, 181, 0, 83, 42, 16, 7, 188, 11, 181, 0, 86, 42, 16, 7, 188, 11, 181, 0, 89]
abbrev dktX2_init_8 : List UInt8 := dkwX2_init_8 ++ dktX2_init_9
def dkwX2_init_7 : List UInt8 := [188, 11, 181, 0, 74, 42, 16, 6, 188, 10, 181, 0, 77, 42, 16, 56, 188, 10, 181, 0, 80, 42]
abbrev dktX2_init_7 : List UInt8 := dkwX2_init_7 ++ dktX2_init_8
def dkwX2_init_6 : List UInt8 := [181, 0, 64, 42, 16, 16, 188, 11, 181, 0, 67, 42, 16, 16, 188, 11, 181, 0, 71, 42, 17, 0, 192]
abbrev dktX2_init_6 : List UInt8 := dkwX2_init_6 ++ dktX2_init_7
def dkwX2_init_5 : List UInt8 := [42, 17, 0, 192, 188, 10, 181, 0, 57, 42, 17, 0, 128, 188, 4, 181, 0, 60, 42, 5, 188, 4]
abbrev dktX2_init_5 : List UInt8 := dkwX2_init_5 ++ dktX2_init_6
def dkwX2_init_4 : List UInt8 := [16, 48, 188, 10, 181, 0, 48, 42, 16, 48, 188, 10, 181, 0, 51, 42, 17, 0, 192, 188, 10, 181, 0, 54]
abbrev dktX2_init_4 : List UInt8 := dkwX2_init_4 ++ dktX2_init_5
def dkwX2_init_3 : List UInt8 := [188, 10, 181, 0, 39, 42, 16, 48, 188, 10, 181, 0, 42, 42, 17, 1, 128, 188, 10, 181, 0, 45, 42]
abbrev dktX2_init_3 : List UInt8 := dkwX2_init_3 ++ dktX2_init_4
def dkwX2_init_2 : List UInt8 := [42, 5, 188, 10, 181, 0, 30, 42, 5, 188, 10, 181, 0, 33, 42, 5, 188, 10, 181, 0, 36, 42, 16, 12]
abbrev dktX2_init_2 : List UInt8 := dkwX2_init_2 ++ dktX2_init_3
def dkwX2_init_1 : List UInt8 := [181, 0, 16, 42, 5, 188, 10, 181, 0, 20, 42, 5, 188, 10, 181, 0, 24, 42, 5, 188, 10, 181, 0, 27]
abbrev dktX2_init_1 : List UInt8 := dkwX2_init_1 ++ dktX2_init_2
def dkwX2_init_0 : List UInt8 := [42, 183, 0, 1, 42, 17, 6, 84, 188, 8, 181, 0, 7, 42, 17, 6, 64, 188, 8, 181, 0, 13, 42, 2]
abbrev dktX2_init_0 : List UInt8 := dkwX2_init_0 ++ dktX2_init_1
theorem dksX2_init_0 : cX2_init.data.toList.drop 0 = dktX2_init_0 := by decide +kernel
theorem dksX2_init_1 : cX2_init.data.toList.drop 24 = dktX2_init_1 := dk_seg dksX2_init_0 24 rfl rfl
theorem dksX2_init_2 : cX2_init.data.toList.drop 48 = dktX2_init_2 := dk_seg dksX2_init_1 24 rfl rfl
theorem dksX2_init_3 : cX2_init.data.toList.drop 72 = dktX2_init_3 := dk_seg dksX2_init_2 24 rfl rfl
theorem dksX2_init_4 : cX2_init.data.toList.drop 95 = dktX2_init_4 := dk_seg dksX2_init_3 23 rfl rfl
theorem dksX2_init_5 : cX2_init.data.toList.drop 119 = dktX2_init_5 := dk_seg dksX2_init_4 24 rfl rfl
theorem dksX2_init_6 : cX2_init.data.toList.drop 141 = dktX2_init_6 := dk_seg dksX2_init_5 22 rfl rfl
theorem dksX2_init_7 : cX2_init.data.toList.drop 164 = dktX2_init_7 := dk_seg dksX2_init_6 23 rfl rfl
theorem dksX2_init_8 : cX2_init.data.toList.drop 186 = dktX2_init_8 := dk_seg dksX2_init_7 22 rfl rfl
theorem dksX2_init_9 : cX2_init.data.toList.drop 210 = dktX2_init_9 := dk_seg dksX2_init_8 24 rfl rfl
theorem dksX2_init_10 : cX2_init.data.toList.drop 234 = dktX2_init_10 := dk_seg dksX2_init_9 24 rfl rfl
theorem dksX2_init_11 : cX2_init.data.toList.drop 258 = dktX2_init_11 := dk_seg dksX2_init_10 24 rfl rfl
theorem dksX2_init_12 : cX2_init.data.toList.drop 280 = dktX2_init_12 := dk_seg dksX2_init_11 22 rfl rfl
theorem dksX2_init_13 : cX2_init.data.toList.drop 302 = dktX2_init_13 := dk_seg dksX2_init_12 22 rfl rfl
theorem dksX2_init_14 : cX2_init.data.toList.drop 326 = dktX2_init_14 := dk_seg dksX2_init_13 24 rfl rfl
theorem dksX2_init_15 : cX2_init.data.toList.drop 350 = dktX2_init_15 := dk_seg dksX2_init_14 24 rfl rfl
theorem dksX2_init_16 : cX2_init.data.toList.drop 374 = dktX2_init_16 := dk_seg dksX2_init_15 24 rfl rfl
theorem dksX2_init_17 : cX2_init.data.toList.drop 397 = dktX2_init_17 := dk_seg dksX2_init_16 23 rfl rfl
theorem dksX2_init_18 : cX2_init.data.toList.drop 421 = dktX2_init_18 := dk_seg dksX2_init_17 24 rfl rfl
theorem dX2_init_0 : decode cX2_init 0 = .ok (.aload_n 0, 1) := dk_42 (dk_at dksX2_init_0 0 rfl rfl)
theorem dX2_init_1 : decode cX2_init 1 = .ok (.invokespecial 1, 3) := dk_183 0 1 (dk_at dksX2_init_0 1 rfl rfl)
theorem dX2_init_4 : decode cX2_init 4 = .ok (.aload_n 0, 1) := dk_42 (dk_at dksX2_init_0 4 rfl rfl)
theorem dX2_init_5 : decode cX2_init 5 = .ok (.sipush 1620, 3) := dk_17 6 84 (dk_at dksX2_init_0 5 rfl rfl)
theorem dX2_init_8 : decode cX2_init 8 = .ok (.newarray .byte, 2) := dk_188_8 (dk_at dksX2_init_0 8 rfl rfl)
theorem dX2_init_10 : decode cX2_init 10 = .ok (.putfield 7, 3) := dk_181 0 7 (dk_at dksX2_init_0 10 rfl rfl)
theorem dX2_init_13 : decode cX2_init 13 = .ok (.aload_n 0, 1) := dk_42 (dk_at dksX2_init_0 13 rfl rfl)
theorem dX2_init_14 : decode cX2_init 14 = .ok (.sipush 1600, 3) := dk_17 6 64 (dk_at dksX2_init_0 14 rfl rfl)
theorem dX2_init_17 : decode cX2_init 17 = .ok (.newarray .byte, 2) := dk_188_8 (dk_at dksX2_init_0 17 rfl rfl)
theorem dX2_init_19 : decode cX2_init 19 = .ok (.putfield 13, 3) := dk_181 0 13 (dk_at dksX2_init_0 19 rfl rfl)
theorem dX2_init_22 : decode cX2_init 22 = .ok (.aload_n 0, 1) := dk_42 (dk_at dksX2_init_0 22 rfl rfl)
theorem dX2_init_23 : decode cX2_init 23 = .ok (.iconst (-1), 1) := dk_2 (dk_at dksX2_init_0 23 rfl rfl)
theorem dX2_init_24 : decode cX2_init 24 = .ok (.putfield 16, 3) := dk_181 0 16 (dk_at dksX2_init_1 0 rfl rfl)
theorem dX2_init_27 : decode cX2_init 27 = .ok (.aload_n 0, 1) := dk_42 (dk_at dksX2_init_1 3 rfl rfl)
theorem dX2_init_28 : decode cX2_init 28 = .ok (.iconst 2, 1) := dk_5 (dk_at dksX2_init_1 4 rfl rfl)
theorem dX2_init_29 : decode cX2_init 29 = .ok (.newarray .int, 2) := dk_188_10 (dk_at dksX2_init_1 5 rfl rfl)
theorem dX2_init_31 : decode cX2_init 31 = .ok (.putfield 20, 3) := dk_181 0 20 (dk_at dksX2_init_1 7 rfl rfl)
theorem dX2_init_34 : decode cX2_init 34 = .ok (.aload_n 0, 1) := dk_42 (dk_at dksX2_init_1 10 rfl rfl)
theorem dX2_init_35 : decode cX2_init 35 = .ok (.iconst 2, 1) := dk_5 (dk_at dksX2_init_1 11 rfl rfl)
theorem dX2_init_36 : decode cX2_init 36 = .ok (.newarray .int, 2) := dk_188_10 (dk_at dksX2_init_1 12 rfl rfl)
theorem dX2_init_38 : decode cX2_init 38 = .ok (.putfield 24, 3) := dk_181 0 24 (dk_at dksX2_init_1 14 rfl rfl)
theorem dX2_init_41 : decode cX2_init 41 = .ok (.aload_n 0, 1) := dk_42 (dk_at dksX2_init_1 17 rfl rfl)
theorem dX2_init_42 : decode cX2_init 42 = .ok (.iconst 2, 1) := dk_5 (dk_at dksX2_init_1 18 rfl rfl)
theorem dX2_init_43 : decode cX2_init 43 = .ok (.newarray .int, 2) := dk_188_10 (dk_at dksX2_init_1 19 rfl rfl)
theorem dX2_init_45 : decode cX2_init 45 = .ok (.putfield 27, 3) := dk_181 0 27 (dk_at dksX2_init_1 21 rfl rfl)
theorem dX2_init_48 : decode cX2_init 48 = .ok (.aload_n 0, 1) := dk_42 (dk_at dksX2_init_2 0 rfl rfl)
theorem dX2_init_49 : decode cX2_init 49 = .ok (.iconst 2, 1) := dk_5 (dk_at dksX2_init_2 1 rfl rfl)
theorem dX2_init_50 : decode cX2_init 50 = .ok (.newarray .int, 2) := dk_188_10 (dk_at dksX2_init_2 2 rfl rfl)
theorem dX2_init_52 : decode cX2_init 52 = .ok (.putfield 30, 3) := dk_181 0 30 (dk_at dksX2_init_2 4 rfl rfl)
theorem dX2_init_55 : decode cX2_init 55 = .ok (.aload_n 0, 1) := dk_42 (dk_at dksX2_init_2 7 rfl rfl)
theorem dX2_init_56 : decode cX2_init 56 = .ok (.iconst 2, 1) := dk_5 (dk_at dksX2_init_2 8 rfl rfl)
theorem dX2_init_57 : decode cX2_init 57 = .ok (.newarray .int, 2) := dk_188_10 (dk_at dksX2_init_2 9 rfl rfl)
theorem dX2_init_59 : decode cX2_init 59 = .ok (.putfield 33, 3) := dk_181 0 33 (dk_at dksX2_init_2 11 rfl rfl)
theorem dX2_init_62 : decode cX2_init 62 = .ok (.aload_n 0, 1) := dk_42 (dk_at dksX2_init_2 14 rfl rfl)
theorem dX2_init_63 : decode cX2_init 63 = .ok (.iconst 2, 1) := dk_5 (dk_at dksX2_init_2 15 rfl rfl)
theorem dX2_init_64 : decode cX2_init 64 = .ok (.newarray .int, 2) := dk_188_10 (dk_at dksX2_init_2 16 rfl rfl)
theorem dX2_init_66 : decode cX2_init 66 = .ok (.putfield 36, 3) := dk_181 0 36 (dk_at dksX2_init_2 18 rfl rfl)
theorem dX2_init_69 : decode cX2_init 69 = .ok (.aload_n 0, 1) := dk_42 (dk_at dksX2_init_2 21 rfl rfl)
theorem dX2_init_70 : decode cX2_init 70 = .ok (.bipush 12, 2) := dk_16 12 (dk_at dksX2_init_2 22 rfl rfl)
theorem dX2_init_72 : decode cX2_init 72 = .ok (.newarray .int, 2) := dk_188_10 (dk_at dksX2_init_3 0 rfl rfl)
theorem dX2_init_74 : decode cX2_init 74 = .ok (.putfield 39, 3) := dk_181 0 39 (dk_at dksX2_init_3 2 rfl rfl)
theorem dX2_init_77 : decode cX2_init 77 = .ok (.aload_n 0, 1) := dk_42 (dk_at dksX2_init_3 5 rfl rfl)
theorem dX2_init_78 : decode cX2_init 78 = .ok (.bipush 48, 2) := dk_16 48 (dk_at dksX2_init_3 6 rfl rfl)
theorem dX2_init_80 : decode cX2_init 80 = .ok (.newarray .int, 2) := dk_188_10 (dk_at dksX2_init_3 8 rfl rfl)
theorem dX2_init_82 : decode cX2_init 82 = .ok (.putfield 42, 3) := dk_181 0 42 (dk_at dksX2_init_3 10 rfl rfl)
theorem dX2_init_85 : decode cX2_init 85 = .ok (.aload_n 0, 1) := dk_42 (dk_at dksX2_init_3 13 rfl rfl)
theorem dX2_init_86 : decode cX2_init 86 = .ok (.sipush 384, 3) := dk_17 1 128 (dk_at dksX2_init_3 14 rfl rfl)
theorem dX2_init_89 : decode cX2_init 89 = .ok (.newarray .int, 2) := dk_188_10 (dk_at dksX2_init_3 17 rfl rfl)
theorem dX2_init_91 : decode cX2_init 91 = .ok (.putfield 45, 3) := dk_181 0 45 (dk_at dksX2_init_3 19 rfl rfl)
theorem dX2_init_94 : decode cX2_init 94 = .ok (.aload_n 0, 1) := dk_42 (dk_at dksX2_init_3 22 rfl rfl)
theorem dX2_init_95 : decode cX2_init 95 = .ok (.bipush 48, 2) := dk_16 48 (dk_at dksX2_init_4 0 rfl rfl)
theorem dX2_init_97 : decode cX2_init 97 = .ok (.newarray .int, 2) := dk_188_10 (dk_at dksX2_init_4 2 rfl rfl)
theorem dX2_init_99 : decode cX2_init 99 = .ok (.putfield 48, 3) := dk_181 0 48 (dk_at dksX2_init_4 4 rfl rfl)
theorem dX2_init_102 : decode cX2_init 102 = .ok (.aload_n 0, 1) := dk_42 (dk_at dksX2_init_4 7 rfl rfl)
theorem dX2_init_103 : decode cX2_init 103 = .ok (.bipush 48, 2) := dk_16 48 (dk_at dksX2_init_4 8 rfl rfl)
theorem dX2_init_105 : decode cX2_init 105 = .ok (.newarray .int, 2) := dk_188_10 (dk_at dksX2_init_4 10 rfl rfl)
theorem dX2_init_107 : decode cX2_init 107 = .ok (.putfield 51, 3) := dk_181 0 51 (dk_at dksX2_init_4 12 rfl rfl)
theorem dX2_init_110 : decode cX2_init 110 = .ok (.aload_n 0, 1) := dk_42 (dk_at dksX2_init_4 15 rfl rfl)
theorem dX2_init_111 : decode cX2_init 111 = .ok (.sipush 192, 3) := dk_17 0 192 (dk_at dksX2_init_4 16 rfl rfl)
theorem dX2_init_114 : decode cX2_init 114 = .ok (.newarray .int, 2) := dk_188_10 (dk_at dksX2_init_4 19 rfl rfl)
theorem dX2_init_116 : decode cX2_init 116 = .ok (.putfield 54, 3) := dk_181 0 54 (dk_at dksX2_init_4 21 rfl rfl)
theorem dX2_init_119 : decode cX2_init 119 = .ok (.aload_n 0, 1) := dk_42 (dk_at dksX2_init_5 0 rfl rfl)
theorem dX2_init_120 : decode cX2_init 120 = .ok (.sipush 192, 3) := dk_17 0 192 (dk_at dksX2_init_5 1 rfl rfl)
theorem dX2_init_123 : decode cX2_init 123 = .ok (.newarray .int, 2) := dk_188_10 (dk_at dksX2_init_5 4 rfl rfl)
theorem dX2_init_125 : decode cX2_init 125 = .ok (.putfield 57, 3) := dk_181 0 57 (dk_at dksX2_init_5 6 rfl rfl)
theorem dX2_init_128 : decode cX2_init 128 = .ok (.aload_n 0, 1) := dk_42 (dk_at dksX2_init_5 9 rfl rfl)
theorem dX2_init_129 : decode cX2_init 129 = .ok (.sipush 128, 3) := dk_17 0 128 (dk_at dksX2_init_5 10 rfl rfl)
theorem dX2_init_132 : decode cX2_init 132 = .ok (.newarray .boolean, 2) := dk_188_4 (dk_at dksX2_init_5 13 rfl rfl)
theorem dX2_init_134 : decode cX2_init 134 = .ok (.putfield 60, 3) := dk_181 0 60 (dk_at dksX2_init_5 15 rfl rfl)
theorem dX2_init_137 : decode cX2_init 137 = .ok (.aload_n 0, 1) := dk_42 (dk_at dksX2_init_5 18 rfl rfl)
theorem dX2_init_138 : decode cX2_init 138 = .ok (.iconst 2, 1) := dk_5 (dk_at dksX2_init_5 19 rfl rfl)
theorem dX2_init_139 : decode cX2_init 139 = .ok (.newarray .boolean, 2) := dk_188_4 (dk_at dksX2_init_5 20 rfl rfl)
theorem dX2_init_141 : decode cX2_init 141 = .ok (.putfield 64, 3) := dk_181 0 64 (dk_at dksX2_init_6 0 rfl rfl)
theorem dX2_init_144 : decode cX2_init 144 = .ok (.aload_n 0, 1) := dk_42 (dk_at dksX2_init_6 3 rfl rfl)
theorem dX2_init_145 : decode cX2_init 145 = .ok (.bipush 16, 2) := dk_16 16 (dk_at dksX2_init_6 4 rfl rfl)
theorem dX2_init_147 : decode cX2_init 147 = .ok (.newarray .long, 2) := dk_188_11 (dk_at dksX2_init_6 6 rfl rfl)
theorem dX2_init_149 : decode cX2_init 149 = .ok (.putfield 67, 3) := dk_181 0 67 (dk_at dksX2_init_6 8 rfl rfl)
theorem dX2_init_152 : decode cX2_init 152 = .ok (.aload_n 0, 1) := dk_42 (dk_at dksX2_init_6 11 rfl rfl)
theorem dX2_init_153 : decode cX2_init 153 = .ok (.bipush 16, 2) := dk_16 16 (dk_at dksX2_init_6 12 rfl rfl)
theorem dX2_init_155 : decode cX2_init 155 = .ok (.newarray .long, 2) := dk_188_11 (dk_at dksX2_init_6 14 rfl rfl)
theorem dX2_init_157 : decode cX2_init 157 = .ok (.putfield 71, 3) := dk_181 0 71 (dk_at dksX2_init_6 16 rfl rfl)
theorem dX2_init_160 : decode cX2_init 160 = .ok (.aload_n 0, 1) := dk_42 (dk_at dksX2_init_6 19 rfl rfl)
theorem dX2_init_161 : decode cX2_init 161 = .ok (.sipush 192, 3) := dk_17 0 192 (dk_at dksX2_init_6 20 rfl rfl)
theorem dX2_init_164 : decode cX2_init 164 = .ok (.newarray .long, 2) := dk_188_11 (dk_at dksX2_init_7 0 rfl rfl)
theorem dX2_init_166 : decode cX2_init 166 = .ok (.putfield 74, 3) := dk_181 0 74 (dk_at dksX2_init_7 2 rfl rfl)
theorem dX2_init_169 : decode cX2_init 169 = .ok (.aload_n 0, 1) := dk_42 (dk_at dksX2_init_7 5 rfl rfl)
theorem dX2_init_170 : decode cX2_init 170 = .ok (.bipush 6, 2) := dk_16 6 (dk_at dksX2_init_7 6 rfl rfl)
theorem dX2_init_172 : decode cX2_init 172 = .ok (.newarray .int, 2) := dk_188_10 (dk_at dksX2_init_7 8 rfl rfl)
theorem dX2_init_174 : decode cX2_init 174 = .ok (.putfield 77, 3) := dk_181 0 77 (dk_at dksX2_init_7 10 rfl rfl)
theorem dX2_init_177 : decode cX2_init 177 = .ok (.aload_n 0, 1) := dk_42 (dk_at dksX2_init_7 13 rfl rfl)
theorem dX2_init_178 : decode cX2_init 178 = .ok (.bipush 56, 2) := dk_16 56 (dk_at dksX2_init_7 14 rfl rfl)
theorem dX2_init_180 : decode cX2_init 180 = .ok (.newarray .int, 2) := dk_188_10 (dk_at dksX2_init_7 16 rfl rfl)
theorem dX2_init_182 : decode cX2_init 182 = .ok (.putfield 80, 3) := dk_181 0 80 (dk_at dksX2_init_7 18 rfl rfl)
theorem dX2_init_185 : decode cX2_init 185 = .ok (.aload_n 0, 1) := dk_42 (dk_at dksX2_init_7 21 rfl rfl)
theorem dX2_init_186 : decode cX2_init 186 = .ok (.sipush 448, 3) := dk_17 1 192 (dk_at dksX2_init_8 0 rfl rfl)
theorem dX2_init_189 : decode cX2_init 189 = .ok (.newarray .long, 2) := dk_188_11 (dk_at dksX2_init_8 3 rfl rfl)
theorem dX2_init_191 : decode cX2_init 191 = .ok (.putfield 83, 3) := dk_181 0 83 (dk_at dksX2_init_8 5 rfl rfl)
theorem dX2_init_194 : decode cX2_init 194 = .ok (.aload_n 0, 1) := dk_42 (dk_at dksX2_init_8 8 rfl rfl)
theorem dX2_init_195 : decode cX2_init 195 = .ok (.bipush 7, 2) := dk_16 7 (dk_at dksX2_init_8 9 rfl rfl)
theorem dX2_init_197 : decode cX2_init 197 = .ok (.newarray .long, 2) := dk_188_11 (dk_at dksX2_init_8 11 rfl rfl)
theorem dX2_init_199 : decode cX2_init 199 = .ok (.putfield 86, 3) := dk_181 0 86 (dk_at dksX2_init_8 13 rfl rfl)
theorem dX2_init_202 : decode cX2_init 202 = .ok (.aload_n 0, 1) := dk_42 (dk_at dksX2_init_8 16 rfl rfl)
theorem dX2_init_203 : decode cX2_init 203 = .ok (.bipush 7, 2) := dk_16 7 (dk_at dksX2_init_8 17 rfl rfl)
theorem dX2_init_205 : decode cX2_init 205 = .ok (.newarray .long, 2) := dk_188_11 (dk_at dksX2_init_8 19 rfl rfl)
theorem dX2_init_207 : decode cX2_init 207 = .ok (.putfield 89, 3) := dk_181 0 89 (dk_at dksX2_init_8 21 rfl rfl)
theorem dX2_init_210 : decode cX2_init 210 = .ok (.aload_n 0, 1) := dk_42 (dk_at dksX2_init_9 0 rfl rfl)
theorem dX2_init_211 : decode cX2_init 211 = .ok (.bipush 6, 2) := dk_16 6 (dk_at dksX2_init_9 1 rfl rfl)
theorem dX2_init_213 : decode cX2_init 213 = .ok (.newarray .int, 2) := dk_188_10 (dk_at dksX2_init_9 3 rfl rfl)
theorem dX2_init_215 : decode cX2_init 215 = .ok (.putfield 92, 3) := dk_181 0 92 (dk_at dksX2_init_9 5 rfl rfl)
theorem dX2_init_218 : decode cX2_init 218 = .ok (.aload_n 0, 1) := dk_42 (dk_at dksX2_init_9 8 rfl rfl)
theorem dX2_init_219 : decode cX2_init 219 = .ok (.bipush 6, 2) := dk_16 6 (dk_at dksX2_init_9 9 rfl rfl)
theorem dX2_init_221 : decode cX2_init 221 = .ok (.newarray .int, 2) := dk_188_10 (dk_at dksX2_init_9 11 rfl rfl)
theorem dX2_init_223 : decode cX2_init 223 = .ok (.putfield 95, 3) := dk_181 0 95 (dk_at dksX2_init_9 13 rfl rfl)
theorem dX2_init_226 : decode cX2_init 226 = .ok (.aload_n 0, 1) := dk_42 (dk_at dksX2_init_9 16 rfl rfl)
theorem dX2_init_227 : decode cX2_init 227 = .ok (.bipush 6, 2) := dk_16 6 (dk_at dksX2_init_9 17 rfl rfl)
theorem dX2_init_229 : decode cX2_init 229 = .ok (.newarray .int, 2) := dk_188_10 (dk_at dksX2_init_9 19 rfl rfl)
theorem dX2_init_231 : decode cX2_init 231 = .ok (.dup, 1) := dk_89 (dk_at dksX2_init_9 21 rfl rfl)
theorem dX2_init_232 : decode cX2_init 232 = .ok (.iconst 0, 1) := dk_3 (dk_at dksX2_init_9 22 rfl rfl)
theorem dX2_init_233 : decode cX2_init 233 = .ok (.iconst (-1), 1) := dk_2 (dk_at dksX2_init_9 23 rfl rfl)
theorem dX2_init_234 : decode cX2_init 234 = .ok (.iastore, 1) := dk_79 (dk_at dksX2_init_10 0 rfl rfl)
theorem dX2_init_235 : decode cX2_init 235 = .ok (.dup, 1) := dk_89 (dk_at dksX2_init_10 1 rfl rfl)
theorem dX2_init_236 : decode cX2_init 236 = .ok (.iconst 1, 1) := dk_4 (dk_at dksX2_init_10 2 rfl rfl)
theorem dX2_init_237 : decode cX2_init 237 = .ok (.iconst (-1), 1) := dk_2 (dk_at dksX2_init_10 3 rfl rfl)
theorem dX2_init_238 : decode cX2_init 238 = .ok (.iastore, 1) := dk_79 (dk_at dksX2_init_10 4 rfl rfl)
theorem dX2_init_239 : decode cX2_init 239 = .ok (.dup, 1) := dk_89 (dk_at dksX2_init_10 5 rfl rfl)
theorem dX2_init_240 : decode cX2_init 240 = .ok (.iconst 2, 1) := dk_5 (dk_at dksX2_init_10 6 rfl rfl)
theorem dX2_init_241 : decode cX2_init 241 = .ok (.iconst (-1), 1) := dk_2 (dk_at dksX2_init_10 7 rfl rfl)
theorem dX2_init_242 : decode cX2_init 242 = .ok (.iastore, 1) := dk_79 (dk_at dksX2_init_10 8 rfl rfl)
theorem dX2_init_243 : decode cX2_init 243 = .ok (.dup, 1) := dk_89 (dk_at dksX2_init_10 9 rfl rfl)
theorem dX2_init_244 : decode cX2_init 244 = .ok (.iconst 3, 1) := dk_6 (dk_at dksX2_init_10 10 rfl rfl)
theorem dX2_init_245 : decode cX2_init 245 = .ok (.iconst (-1), 1) := dk_2 (dk_at dksX2_init_10 11 rfl rfl)
theorem dX2_init_246 : decode cX2_init 246 = .ok (.iastore, 1) := dk_79 (dk_at dksX2_init_10 12 rfl rfl)
theorem dX2_init_247 : decode cX2_init 247 = .ok (.dup, 1) := dk_89 (dk_at dksX2_init_10 13 rfl rfl)
theorem dX2_init_248 : decode cX2_init 248 = .ok (.iconst 4, 1) := dk_7 (dk_at dksX2_init_10 14 rfl rfl)
theorem dX2_init_249 : decode cX2_init 249 = .ok (.iconst (-1), 1) := dk_2 (dk_at dksX2_init_10 15 rfl rfl)
theorem dX2_init_250 : decode cX2_init 250 = .ok (.iastore, 1) := dk_79 (dk_at dksX2_init_10 16 rfl rfl)
theorem dX2_init_251 : decode cX2_init 251 = .ok (.dup, 1) := dk_89 (dk_at dksX2_init_10 17 rfl rfl)
theorem dX2_init_252 : decode cX2_init 252 = .ok (.iconst 5, 1) := dk_8 (dk_at dksX2_init_10 18 rfl rfl)
theorem dX2_init_253 : decode cX2_init 253 = .ok (.iconst (-1), 1) := dk_2 (dk_at dksX2_init_10 19 rfl rfl)
theorem dX2_init_254 : decode cX2_init 254 = .ok (.iastore, 1) := dk_79 (dk_at dksX2_init_10 20 rfl rfl)
theorem dX2_init_255 : decode cX2_init 255 = .ok (.putfield 98, 3) := dk_181 0 98 (dk_at dksX2_init_10 21 rfl rfl)
theorem dX2_init_258 : decode cX2_init 258 = .ok (.aload_n 0, 1) := dk_42 (dk_at dksX2_init_11 0 rfl rfl)
theorem dX2_init_259 : decode cX2_init 259 = .ok (.bipush 40, 2) := dk_16 40 (dk_at dksX2_init_11 1 rfl rfl)
theorem dX2_init_261 : decode cX2_init 261 = .ok (.newarray .int, 2) := dk_188_10 (dk_at dksX2_init_11 3 rfl rfl)
theorem dX2_init_263 : decode cX2_init 263 = .ok (.putfield 101, 3) := dk_181 0 101 (dk_at dksX2_init_11 5 rfl rfl)
theorem dX2_init_266 : decode cX2_init 266 = .ok (.aload_n 0, 1) := dk_42 (dk_at dksX2_init_11 8 rfl rfl)
theorem dX2_init_267 : decode cX2_init 267 = .ok (.bipush 40, 2) := dk_16 40 (dk_at dksX2_init_11 9 rfl rfl)
theorem dX2_init_269 : decode cX2_init 269 = .ok (.newarray .int, 2) := dk_188_10 (dk_at dksX2_init_11 11 rfl rfl)
theorem dX2_init_271 : decode cX2_init 271 = .ok (.putfield 104, 3) := dk_181 0 104 (dk_at dksX2_init_11 13 rfl rfl)
theorem dX2_init_274 : decode cX2_init 274 = .ok (.aload_n 0, 1) := dk_42 (dk_at dksX2_init_11 16 rfl rfl)
theorem dX2_init_275 : decode cX2_init 275 = .ok (.sipush 3001, 3) := dk_17 11 185 (dk_at dksX2_init_11 17 rfl rfl)
theorem dX2_init_278 : decode cX2_init 278 = .ok (.newarray .int, 2) := dk_188_10 (dk_at dksX2_init_11 20 rfl rfl)
theorem dX2_init_280 : decode cX2_init 280 = .ok (.putfield 107, 3) := dk_181 0 107 (dk_at dksX2_init_12 0 rfl rfl)
theorem dX2_init_283 : decode cX2_init 283 = .ok (.aload_n 0, 1) := dk_42 (dk_at dksX2_init_12 3 rfl rfl)
theorem dX2_init_284 : decode cX2_init 284 = .ok (.sipush 9003, 3) := dk_17 35 43 (dk_at dksX2_init_12 4 rfl rfl)
theorem dX2_init_287 : decode cX2_init 287 = .ok (.newarray .int, 2) := dk_188_10 (dk_at dksX2_init_12 7 rfl rfl)
theorem dX2_init_289 : decode cX2_init 289 = .ok (.putfield 110, 3) := dk_181 0 110 (dk_at dksX2_init_12 9 rfl rfl)
theorem dX2_init_292 : decode cX2_init 292 = .ok (.aload_n 0, 1) := dk_42 (dk_at dksX2_init_12 12 rfl rfl)
theorem dX2_init_293 : decode cX2_init 293 = .ok (.sipush 3001, 3) := dk_17 11 185 (dk_at dksX2_init_12 13 rfl rfl)
theorem dX2_init_296 : decode cX2_init 296 = .ok (.newarray .int, 2) := dk_188_10 (dk_at dksX2_init_12 16 rfl rfl)
theorem dX2_init_298 : decode cX2_init 298 = .ok (.putfield 113, 3) := dk_181 0 113 (dk_at dksX2_init_12 18 rfl rfl)
theorem dX2_init_301 : decode cX2_init 301 = .ok (.aload_n 0, 1) := dk_42 (dk_at dksX2_init_12 21 rfl rfl)
theorem dX2_init_302 : decode cX2_init 302 = .ok (.sipush 3001, 3) := dk_17 11 185 (dk_at dksX2_init_13 0 rfl rfl)
theorem dX2_init_305 : decode cX2_init 305 = .ok (.newarray .int, 2) := dk_188_10 (dk_at dksX2_init_13 3 rfl rfl)
theorem dX2_init_307 : decode cX2_init 307 = .ok (.putfield 116, 3) := dk_181 0 116 (dk_at dksX2_init_13 5 rfl rfl)
theorem dX2_init_310 : decode cX2_init 310 = .ok (.aload_n 0, 1) := dk_42 (dk_at dksX2_init_13 8 rfl rfl)
theorem dX2_init_311 : decode cX2_init 311 = .ok (.bipush 7, 2) := dk_16 7 (dk_at dksX2_init_13 9 rfl rfl)
theorem dX2_init_313 : decode cX2_init 313 = .ok (.newarray .int, 2) := dk_188_10 (dk_at dksX2_init_13 11 rfl rfl)
theorem dX2_init_315 : decode cX2_init 315 = .ok (.putfield 119, 3) := dk_181 0 119 (dk_at dksX2_init_13 13 rfl rfl)
theorem dX2_init_318 : decode cX2_init 318 = .ok (.aload_n 0, 1) := dk_42 (dk_at dksX2_init_13 16 rfl rfl)
theorem dX2_init_319 : decode cX2_init 319 = .ok (.bipush 6, 2) := dk_16 6 (dk_at dksX2_init_13 17 rfl rfl)
theorem dX2_init_321 : decode cX2_init 321 = .ok (.newarray .int, 2) := dk_188_10 (dk_at dksX2_init_13 19 rfl rfl)
theorem dX2_init_323 : decode cX2_init 323 = .ok (.putfield 122, 3) := dk_181 0 122 (dk_at dksX2_init_13 21 rfl rfl)
theorem dX2_init_326 : decode cX2_init 326 = .ok (.aload_n 0, 1) := dk_42 (dk_at dksX2_init_14 0 rfl rfl)
theorem dX2_init_327 : decode cX2_init 327 = .ok (.iconst (-1), 1) := dk_2 (dk_at dksX2_init_14 1 rfl rfl)
theorem dX2_init_328 : decode cX2_init 328 = .ok (.putfield 125, 3) := dk_181 0 125 (dk_at dksX2_init_14 2 rfl rfl)
theorem dX2_init_331 : decode cX2_init 331 = .ok (.aload_n 0, 1) := dk_42 (dk_at dksX2_init_14 5 rfl rfl)
theorem dX2_init_332 : decode cX2_init 332 = .ok (.bipush 6, 2) := dk_16 6 (dk_at dksX2_init_14 6 rfl rfl)
theorem dX2_init_334 : decode cX2_init 334 = .ok (.newarray .int, 2) := dk_188_10 (dk_at dksX2_init_14 8 rfl rfl)
theorem dX2_init_336 : decode cX2_init 336 = .ok (.putfield 128, 3) := dk_181 0 128 (dk_at dksX2_init_14 10 rfl rfl)
theorem dX2_init_339 : decode cX2_init 339 = .ok (.aload_n 0, 1) := dk_42 (dk_at dksX2_init_14 13 rfl rfl)
theorem dX2_init_340 : decode cX2_init 340 = .ok (.bipush 8, 2) := dk_16 8 (dk_at dksX2_init_14 14 rfl rfl)
theorem dX2_init_342 : decode cX2_init 342 = .ok (.newarray .int, 2) := dk_188_10 (dk_at dksX2_init_14 16 rfl rfl)
theorem dX2_init_344 : decode cX2_init 344 = .ok (.putfield 131, 3) := dk_181 0 131 (dk_at dksX2_init_14 18 rfl rfl)
theorem dX2_init_347 : decode cX2_init 347 = .ok (.aload_n 0, 1) := dk_42 (dk_at dksX2_init_14 21 rfl rfl)
theorem dX2_init_348 : decode cX2_init 348 = .ok (.bipush 30, 2) := dk_16 30 (dk_at dksX2_init_14 22 rfl rfl)
theorem dX2_init_350 : decode cX2_init 350 = .ok (.newarray .int, 2) := dk_188_10 (dk_at dksX2_init_15 0 rfl rfl)
theorem dX2_init_352 : decode cX2_init 352 = .ok (.putfield 134, 3) := dk_181 0 134 (dk_at dksX2_init_15 2 rfl rfl)
theorem dX2_init_355 : decode cX2_init 355 = .ok (.aload_n 0, 1) := dk_42 (dk_at dksX2_init_15 5 rfl rfl)
theorem dX2_init_356 : decode cX2_init 356 = .ok (.bipush 30, 2) := dk_16 30 (dk_at dksX2_init_15 6 rfl rfl)
theorem dX2_init_358 : decode cX2_init 358 = .ok (.newarray .int, 2) := dk_188_10 (dk_at dksX2_init_15 8 rfl rfl)
theorem dX2_init_360 : decode cX2_init 360 = .ok (.putfield 137, 3) := dk_181 0 137 (dk_at dksX2_init_15 10 rfl rfl)
theorem dX2_init_363 : decode cX2_init 363 = .ok (.aload_n 0, 1) := dk_42 (dk_at dksX2_init_15 13 rfl rfl)
theorem dX2_init_364 : decode cX2_init 364 = .ok (.bipush 30, 2) := dk_16 30 (dk_at dksX2_init_15 14 rfl rfl)
theorem dX2_init_366 : decode cX2_init 366 = .ok (.newarray .int, 2) := dk_188_10 (dk_at dksX2_init_15 16 rfl rfl)
theorem dX2_init_368 : decode cX2_init 368 = .ok (.putfield 140, 3) := dk_181 0 140 (dk_at dksX2_init_15 18 rfl rfl)
theorem dX2_init_371 : decode cX2_init 371 = .ok (.aload_n 0, 1) := dk_42 (dk_at dksX2_init_15 21 rfl rfl)
theorem dX2_init_372 : decode cX2_init 372 = .ok (.bipush 30, 2) := dk_16 30 (dk_at dksX2_init_15 22 rfl rfl)
theorem dX2_init_374 : decode cX2_init 374 = .ok (.newarray .int, 2) := dk_188_10 (dk_at dksX2_init_16 0 rfl rfl)
theorem dX2_init_376 : decode cX2_init 376 = .ok (.putfield 143, 3) := dk_181 0 143 (dk_at dksX2_init_16 2 rfl rfl)
theorem dX2_init_379 : decode cX2_init 379 = .ok (.aload_n 0, 1) := dk_42 (dk_at dksX2_init_16 5 rfl rfl)
theorem dX2_init_380 : decode cX2_init 380 = .ok (.bipush 30, 2) := dk_16 30 (dk_at dksX2_init_16 6 rfl rfl)
theorem dX2_init_382 : decode cX2_init 382 = .ok (.newarray .boolean, 2) := dk_188_4 (dk_at dksX2_init_16 8 rfl rfl)
theorem dX2_init_384 : decode cX2_init 384 = .ok (.putfield 146, 3) := dk_181 0 146 (dk_at dksX2_init_16 10 rfl rfl)
theorem dX2_init_387 : decode cX2_init 387 = .ok (.aload_n 0, 1) := dk_42 (dk_at dksX2_init_16 13 rfl rfl)
theorem dX2_init_388 : decode cX2_init 388 = .ok (.iconst 3, 1) := dk_6 (dk_at dksX2_init_16 14 rfl rfl)
theorem dX2_init_389 : decode cX2_init 389 = .ok (.newarray .int, 2) := dk_188_10 (dk_at dksX2_init_16 15 rfl rfl)
theorem dX2_init_391 : decode cX2_init 391 = .ok (.putfield 149, 3) := dk_181 0 149 (dk_at dksX2_init_16 17 rfl rfl)
theorem dX2_init_394 : decode cX2_init 394 = .ok (.aload_n 0, 1) := dk_42 (dk_at dksX2_init_16 20 rfl rfl)
theorem dX2_init_395 : decode cX2_init 395 = .ok (.bipush 18, 2) := dk_16 18 (dk_at dksX2_init_16 21 rfl rfl)
theorem dX2_init_397 : decode cX2_init 397 = .ok (.newarray .int, 2) := dk_188_10 (dk_at dksX2_init_17 0 rfl rfl)
theorem dX2_init_399 : decode cX2_init 399 = .ok (.putfield 152, 3) := dk_181 0 152 (dk_at dksX2_init_17 2 rfl rfl)
theorem dX2_init_402 : decode cX2_init 402 = .ok (.aload_n 0, 1) := dk_42 (dk_at dksX2_init_17 5 rfl rfl)
theorem dX2_init_403 : decode cX2_init 403 = .ok (.bipush 18, 2) := dk_16 18 (dk_at dksX2_init_17 6 rfl rfl)
theorem dX2_init_405 : decode cX2_init 405 = .ok (.newarray .int, 2) := dk_188_10 (dk_at dksX2_init_17 8 rfl rfl)
theorem dX2_init_407 : decode cX2_init 407 = .ok (.putfield 155, 3) := dk_181 0 155 (dk_at dksX2_init_17 10 rfl rfl)
theorem dX2_init_410 : decode cX2_init 410 = .ok (.aload_n 0, 1) := dk_42 (dk_at dksX2_init_17 13 rfl rfl)
theorem dX2_init_411 : decode cX2_init 411 = .ok (.invokevirtual 158, 3) := dk_182 0 158 (dk_at dksX2_init_17 14 rfl rfl)
theorem dX2_init_414 : decode cX2_init 414 = .ok (.aload_n 0, 1) := dk_42 (dk_at dksX2_init_17 17 rfl rfl)
theorem dX2_init_415 : decode cX2_init 415 = .ok (.invokevirtual 161, 3) := dk_182 0 161 (dk_at dksX2_init_17 18 rfl rfl)
theorem dX2_init_418 : decode cX2_init 418 = .ok (.iconst 0, 1) := dk_3 (dk_at dksX2_init_17 21 rfl rfl)
theorem dX2_init_419 : decode cX2_init 419 = .ok (.istore_n 1, 1) := dk_60 (dk_at dksX2_init_17 22 rfl rfl)
theorem dX2_init_420 : decode cX2_init 420 = .ok (.iload_n 1, 1) := dk_27 (dk_at dksX2_init_17 23 rfl rfl)
theorem dX2_init_421 : decode cX2_init 421 = .ok (.iconst 3, 1) := dk_6 (dk_at dksX2_init_18 0 rfl rfl)
theorem dX2_init_422 : decode cX2_init 422 = .ok (.if_icmp .ge 16, 3) := dk_162 0 16 (dk_at dksX2_init_18 1 rfl rfl)
theorem dX2_init_425 : decode cX2_init 425 = .ok (.aload_n 0, 1) := dk_42 (dk_at dksX2_init_18 4 rfl rfl)
theorem dX2_init_426 : decode cX2_init 426 = .ok (.getfield 149, 3) := dk_180 0 149 (dk_at dksX2_init_18 5 rfl rfl)
theorem dX2_init_429 : decode cX2_init 429 = .ok (.iload_n 1, 1) := dk_27 (dk_at dksX2_init_18 8 rfl rfl)
theorem dX2_init_430 : decode cX2_init 430 = .ok (.iconst (-1), 1) := dk_2 (dk_at dksX2_init_18 9 rfl rfl)
theorem dX2_init_431 : decode cX2_init 431 = .ok (.iastore, 1) := dk_79 (dk_at dksX2_init_18 10 rfl rfl)
theorem dX2_init_432 : decode cX2_init 432 = .ok (.iinc 1 1, 3) := dk_132 1 1 (dk_at dksX2_init_18 11 rfl rfl)
theorem dX2_init_435 : decode cX2_init 435 = .ok (.goto (-15), 3) := dk_167 255 241 (dk_at dksX2_init_18 14 rfl rfl)
theorem dX2_init_438 : decode cX2_init 438 = .ok (.return_, 1) := dk_177 (dk_at dksX2_init_18 17 rfl rfl)
abbrev cX2_clearBank : ByteArray := prog_9_method_14_code
def yX2_clearBank : MethodName := ⟨RX2, "clearBank", "()V"⟩
def dkwX2_clearBank_4 : List UInt8 := [27, 3, 84, 132, 1, 1, 167, 255, 232, 177]
abbrev dktX2_clearBank_4 : List UInt8 := dkwX2_clearBank_4 ++ []
def dkwX2_clearBank_3 : List UInt8 := [42, 180, 0, 227, 104, 60, 27, 16, 64, 42, 180, 0, 227, 104, 16, 64, 96, 162, 0, 16, 42, 180, 0, 60]
abbrev dktX2_clearBank_3 : List UInt8 := dkwX2_clearBank_3 ++ dktX2_clearBank_4
def dkwX2_clearBank_2 : List UInt8 := [6, 79, 42, 180, 0, 36, 42, 180, 0, 227, 3, 79, 42, 180, 0, 64, 42, 180, 0, 227, 3, 84, 16, 64]
abbrev dktX2_clearBank_2 : List UInt8 := dkwX2_clearBank_2 ++ dktX2_clearBank_3
def dkwX2_clearBank_1 : List UInt8 := [42, 180, 0, 227, 3, 79, 42, 180, 0, 30, 42, 180, 0, 227, 3, 79, 42, 180, 0, 33, 42, 180, 0, 227]
abbrev dktX2_clearBank_1 : List UInt8 := dkwX2_clearBank_1 ++ dktX2_clearBank_2
def dkwX2_clearBank_0 : List UInt8 := [42, 180, 0, 20, 42, 180, 0, 227, 3, 79, 42, 180, 0, 24, 42, 180, 0, 227, 3, 79, 42, 180, 0, 27]
abbrev dktX2_clearBank_0 : List UInt8 := dkwX2_clearBank_0 ++ dktX2_clearBank_1
theorem dksX2_clearBank_0 : cX2_clearBank.data.toList.drop 0 = dktX2_clearBank_0 := by decide +kernel
theorem dksX2_clearBank_1 : cX2_clearBank.data.toList.drop 24 = dktX2_clearBank_1 := dk_seg dksX2_clearBank_0 24 rfl rfl
theorem dksX2_clearBank_2 : cX2_clearBank.data.toList.drop 48 = dktX2_clearBank_2 := dk_seg dksX2_clearBank_1 24 rfl rfl
theorem dksX2_clearBank_3 : cX2_clearBank.data.toList.drop 72 = dktX2_clearBank_3 := dk_seg dksX2_clearBank_2 24 rfl rfl
theorem dksX2_clearBank_4 : cX2_clearBank.data.toList.drop 96 = dktX2_clearBank_4 := dk_seg dksX2_clearBank_3 24 rfl rfl
theorem dX2_clearBank_0 : decode cX2_clearBank 0 = .ok (.aload_n 0, 1) := dk_42 (dk_at dksX2_clearBank_0 0 rfl rfl)
theorem dX2_clearBank_1 : decode cX2_clearBank 1 = .ok (.getfield 20, 3) := dk_180 0 20 (dk_at dksX2_clearBank_0 1 rfl rfl)
theorem dX2_clearBank_4 : decode cX2_clearBank 4 = .ok (.aload_n 0, 1) := dk_42 (dk_at dksX2_clearBank_0 4 rfl rfl)
theorem dX2_clearBank_5 : decode cX2_clearBank 5 = .ok (.getfield 227, 3) := dk_180 0 227 (dk_at dksX2_clearBank_0 5 rfl rfl)
theorem dX2_clearBank_8 : decode cX2_clearBank 8 = .ok (.iconst 0, 1) := dk_3 (dk_at dksX2_clearBank_0 8 rfl rfl)
theorem dX2_clearBank_9 : decode cX2_clearBank 9 = .ok (.iastore, 1) := dk_79 (dk_at dksX2_clearBank_0 9 rfl rfl)
theorem dX2_clearBank_10 : decode cX2_clearBank 10 = .ok (.aload_n 0, 1) := dk_42 (dk_at dksX2_clearBank_0 10 rfl rfl)
theorem dX2_clearBank_11 : decode cX2_clearBank 11 = .ok (.getfield 24, 3) := dk_180 0 24 (dk_at dksX2_clearBank_0 11 rfl rfl)
theorem dX2_clearBank_14 : decode cX2_clearBank 14 = .ok (.aload_n 0, 1) := dk_42 (dk_at dksX2_clearBank_0 14 rfl rfl)
theorem dX2_clearBank_15 : decode cX2_clearBank 15 = .ok (.getfield 227, 3) := dk_180 0 227 (dk_at dksX2_clearBank_0 15 rfl rfl)
theorem dX2_clearBank_18 : decode cX2_clearBank 18 = .ok (.iconst 0, 1) := dk_3 (dk_at dksX2_clearBank_0 18 rfl rfl)
theorem dX2_clearBank_19 : decode cX2_clearBank 19 = .ok (.iastore, 1) := dk_79 (dk_at dksX2_clearBank_0 19 rfl rfl)
theorem dX2_clearBank_20 : decode cX2_clearBank 20 = .ok (.aload_n 0, 1) := dk_42 (dk_at dksX2_clearBank_0 20 rfl rfl)
theorem dX2_clearBank_21 : decode cX2_clearBank 21 = .ok (.getfield 27, 3) := dk_180 0 27 (dk_at dksX2_clearBank_0 21 rfl rfl)
theorem dX2_clearBank_24 : decode cX2_clearBank 24 = .ok (.aload_n 0, 1) := dk_42 (dk_at dksX2_clearBank_1 0 rfl rfl)
theorem dX2_clearBank_25 : decode cX2_clearBank 25 = .ok (.getfield 227, 3) := dk_180 0 227 (dk_at dksX2_clearBank_1 1 rfl rfl)
theorem dX2_clearBank_28 : decode cX2_clearBank 28 = .ok (.iconst 0, 1) := dk_3 (dk_at dksX2_clearBank_1 4 rfl rfl)
theorem dX2_clearBank_29 : decode cX2_clearBank 29 = .ok (.iastore, 1) := dk_79 (dk_at dksX2_clearBank_1 5 rfl rfl)
theorem dX2_clearBank_30 : decode cX2_clearBank 30 = .ok (.aload_n 0, 1) := dk_42 (dk_at dksX2_clearBank_1 6 rfl rfl)
theorem dX2_clearBank_31 : decode cX2_clearBank 31 = .ok (.getfield 30, 3) := dk_180 0 30 (dk_at dksX2_clearBank_1 7 rfl rfl)
theorem dX2_clearBank_34 : decode cX2_clearBank 34 = .ok (.aload_n 0, 1) := dk_42 (dk_at dksX2_clearBank_1 10 rfl rfl)
theorem dX2_clearBank_35 : decode cX2_clearBank 35 = .ok (.getfield 227, 3) := dk_180 0 227 (dk_at dksX2_clearBank_1 11 rfl rfl)
theorem dX2_clearBank_38 : decode cX2_clearBank 38 = .ok (.iconst 0, 1) := dk_3 (dk_at dksX2_clearBank_1 14 rfl rfl)
theorem dX2_clearBank_39 : decode cX2_clearBank 39 = .ok (.iastore, 1) := dk_79 (dk_at dksX2_clearBank_1 15 rfl rfl)
theorem dX2_clearBank_40 : decode cX2_clearBank 40 = .ok (.aload_n 0, 1) := dk_42 (dk_at dksX2_clearBank_1 16 rfl rfl)
theorem dX2_clearBank_41 : decode cX2_clearBank 41 = .ok (.getfield 33, 3) := dk_180 0 33 (dk_at dksX2_clearBank_1 17 rfl rfl)
theorem dX2_clearBank_44 : decode cX2_clearBank 44 = .ok (.aload_n 0, 1) := dk_42 (dk_at dksX2_clearBank_1 20 rfl rfl)
theorem dX2_clearBank_45 : decode cX2_clearBank 45 = .ok (.getfield 227, 3) := dk_180 0 227 (dk_at dksX2_clearBank_1 21 rfl rfl)
theorem dX2_clearBank_48 : decode cX2_clearBank 48 = .ok (.iconst 3, 1) := dk_6 (dk_at dksX2_clearBank_2 0 rfl rfl)
theorem dX2_clearBank_49 : decode cX2_clearBank 49 = .ok (.iastore, 1) := dk_79 (dk_at dksX2_clearBank_2 1 rfl rfl)
theorem dX2_clearBank_50 : decode cX2_clearBank 50 = .ok (.aload_n 0, 1) := dk_42 (dk_at dksX2_clearBank_2 2 rfl rfl)
theorem dX2_clearBank_51 : decode cX2_clearBank 51 = .ok (.getfield 36, 3) := dk_180 0 36 (dk_at dksX2_clearBank_2 3 rfl rfl)
theorem dX2_clearBank_54 : decode cX2_clearBank 54 = .ok (.aload_n 0, 1) := dk_42 (dk_at dksX2_clearBank_2 6 rfl rfl)
theorem dX2_clearBank_55 : decode cX2_clearBank 55 = .ok (.getfield 227, 3) := dk_180 0 227 (dk_at dksX2_clearBank_2 7 rfl rfl)
theorem dX2_clearBank_58 : decode cX2_clearBank 58 = .ok (.iconst 0, 1) := dk_3 (dk_at dksX2_clearBank_2 10 rfl rfl)
theorem dX2_clearBank_59 : decode cX2_clearBank 59 = .ok (.iastore, 1) := dk_79 (dk_at dksX2_clearBank_2 11 rfl rfl)
theorem dX2_clearBank_60 : decode cX2_clearBank 60 = .ok (.aload_n 0, 1) := dk_42 (dk_at dksX2_clearBank_2 12 rfl rfl)
theorem dX2_clearBank_61 : decode cX2_clearBank 61 = .ok (.getfield 64, 3) := dk_180 0 64 (dk_at dksX2_clearBank_2 13 rfl rfl)
theorem dX2_clearBank_64 : decode cX2_clearBank 64 = .ok (.aload_n 0, 1) := dk_42 (dk_at dksX2_clearBank_2 16 rfl rfl)
theorem dX2_clearBank_65 : decode cX2_clearBank 65 = .ok (.getfield 227, 3) := dk_180 0 227 (dk_at dksX2_clearBank_2 17 rfl rfl)
theorem dX2_clearBank_68 : decode cX2_clearBank 68 = .ok (.iconst 0, 1) := dk_3 (dk_at dksX2_clearBank_2 20 rfl rfl)
theorem dX2_clearBank_69 : decode cX2_clearBank 69 = .ok (.bastore, 1) := dk_84 (dk_at dksX2_clearBank_2 21 rfl rfl)
theorem dX2_clearBank_70 : decode cX2_clearBank 70 = .ok (.bipush 64, 2) := dk_16 64 (dk_at dksX2_clearBank_2 22 rfl rfl)
theorem dX2_clearBank_72 : decode cX2_clearBank 72 = .ok (.aload_n 0, 1) := dk_42 (dk_at dksX2_clearBank_3 0 rfl rfl)
theorem dX2_clearBank_73 : decode cX2_clearBank 73 = .ok (.getfield 227, 3) := dk_180 0 227 (dk_at dksX2_clearBank_3 1 rfl rfl)
theorem dX2_clearBank_76 : decode cX2_clearBank 76 = .ok (.imul, 1) := dk_104 (dk_at dksX2_clearBank_3 4 rfl rfl)
theorem dX2_clearBank_77 : decode cX2_clearBank 77 = .ok (.istore_n 1, 1) := dk_60 (dk_at dksX2_clearBank_3 5 rfl rfl)
theorem dX2_clearBank_78 : decode cX2_clearBank 78 = .ok (.iload_n 1, 1) := dk_27 (dk_at dksX2_clearBank_3 6 rfl rfl)
theorem dX2_clearBank_79 : decode cX2_clearBank 79 = .ok (.bipush 64, 2) := dk_16 64 (dk_at dksX2_clearBank_3 7 rfl rfl)
theorem dX2_clearBank_81 : decode cX2_clearBank 81 = .ok (.aload_n 0, 1) := dk_42 (dk_at dksX2_clearBank_3 9 rfl rfl)
theorem dX2_clearBank_82 : decode cX2_clearBank 82 = .ok (.getfield 227, 3) := dk_180 0 227 (dk_at dksX2_clearBank_3 10 rfl rfl)
theorem dX2_clearBank_85 : decode cX2_clearBank 85 = .ok (.imul, 1) := dk_104 (dk_at dksX2_clearBank_3 13 rfl rfl)
theorem dX2_clearBank_86 : decode cX2_clearBank 86 = .ok (.bipush 64, 2) := dk_16 64 (dk_at dksX2_clearBank_3 14 rfl rfl)
theorem dX2_clearBank_88 : decode cX2_clearBank 88 = .ok (.iadd, 1) := dk_96 (dk_at dksX2_clearBank_3 16 rfl rfl)
theorem dX2_clearBank_89 : decode cX2_clearBank 89 = .ok (.if_icmp .ge 16, 3) := dk_162 0 16 (dk_at dksX2_clearBank_3 17 rfl rfl)
theorem dX2_clearBank_92 : decode cX2_clearBank 92 = .ok (.aload_n 0, 1) := dk_42 (dk_at dksX2_clearBank_3 20 rfl rfl)
theorem dX2_clearBank_93 : decode cX2_clearBank 93 = .ok (.getfield 60, 3) := dk_180 0 60 (dk_at dksX2_clearBank_3 21 rfl rfl)
theorem dX2_clearBank_96 : decode cX2_clearBank 96 = .ok (.iload_n 1, 1) := dk_27 (dk_at dksX2_clearBank_4 0 rfl rfl)
theorem dX2_clearBank_97 : decode cX2_clearBank 97 = .ok (.iconst 0, 1) := dk_3 (dk_at dksX2_clearBank_4 1 rfl rfl)
theorem dX2_clearBank_98 : decode cX2_clearBank 98 = .ok (.bastore, 1) := dk_84 (dk_at dksX2_clearBank_4 2 rfl rfl)
theorem dX2_clearBank_99 : decode cX2_clearBank 99 = .ok (.iinc 1 1, 3) := dk_132 1 1 (dk_at dksX2_clearBank_4 3 rfl rfl)
theorem dX2_clearBank_102 : decode cX2_clearBank 102 = .ok (.goto (-24), 3) := dk_167 255 232 (dk_at dksX2_clearBank_4 6 rfl rfl)
theorem dX2_clearBank_105 : decode cX2_clearBank 105 = .ok (.return_, 1) := dk_177 (dk_at dksX2_clearBank_4 9 rfl rfl)
abbrev cX2_begin : ByteArray := prog_9_method_45_code
def yX2_begin : MethodName := ⟨RX2, "begin", "()V"⟩
def dkwX2_begin_1 : List UInt8 := [180, 0, 95, 27, 42, 27, 182, 1, 89, 79, 132, 1, 1, 167, 255, 236, 177]
abbrev dktX2_begin_1 : List UInt8 := dkwX2_begin_1 ++ []
def dkwX2_begin_0 : List UInt8 := [42, 3, 181, 1, 80, 42, 3, 181, 1, 83, 42, 3, 181, 1, 86, 3, 60, 27, 16, 6, 162, 0, 20, 42]
abbrev dktX2_begin_0 : List UInt8 := dkwX2_begin_0 ++ dktX2_begin_1
theorem dksX2_begin_0 : cX2_begin.data.toList.drop 0 = dktX2_begin_0 := by decide +kernel
theorem dksX2_begin_1 : cX2_begin.data.toList.drop 24 = dktX2_begin_1 := dk_seg dksX2_begin_0 24 rfl rfl
theorem dX2_begin_0 : decode cX2_begin 0 = .ok (.aload_n 0, 1) := dk_42 (dk_at dksX2_begin_0 0 rfl rfl)
theorem dX2_begin_1 : decode cX2_begin 1 = .ok (.iconst 0, 1) := dk_3 (dk_at dksX2_begin_0 1 rfl rfl)
theorem dX2_begin_2 : decode cX2_begin 2 = .ok (.putfield 336, 3) := dk_181 1 80 (dk_at dksX2_begin_0 2 rfl rfl)
theorem dX2_begin_5 : decode cX2_begin 5 = .ok (.aload_n 0, 1) := dk_42 (dk_at dksX2_begin_0 5 rfl rfl)
theorem dX2_begin_6 : decode cX2_begin 6 = .ok (.iconst 0, 1) := dk_3 (dk_at dksX2_begin_0 6 rfl rfl)
theorem dX2_begin_7 : decode cX2_begin 7 = .ok (.putfield 339, 3) := dk_181 1 83 (dk_at dksX2_begin_0 7 rfl rfl)
theorem dX2_begin_10 : decode cX2_begin 10 = .ok (.aload_n 0, 1) := dk_42 (dk_at dksX2_begin_0 10 rfl rfl)
theorem dX2_begin_11 : decode cX2_begin 11 = .ok (.iconst 0, 1) := dk_3 (dk_at dksX2_begin_0 11 rfl rfl)
theorem dX2_begin_12 : decode cX2_begin 12 = .ok (.putfield 342, 3) := dk_181 1 86 (dk_at dksX2_begin_0 12 rfl rfl)
theorem dX2_begin_15 : decode cX2_begin 15 = .ok (.iconst 0, 1) := dk_3 (dk_at dksX2_begin_0 15 rfl rfl)
theorem dX2_begin_16 : decode cX2_begin 16 = .ok (.istore_n 1, 1) := dk_60 (dk_at dksX2_begin_0 16 rfl rfl)
theorem dX2_begin_17 : decode cX2_begin 17 = .ok (.iload_n 1, 1) := dk_27 (dk_at dksX2_begin_0 17 rfl rfl)
theorem dX2_begin_18 : decode cX2_begin 18 = .ok (.bipush 6, 2) := dk_16 6 (dk_at dksX2_begin_0 18 rfl rfl)
theorem dX2_begin_20 : decode cX2_begin 20 = .ok (.if_icmp .ge 20, 3) := dk_162 0 20 (dk_at dksX2_begin_0 20 rfl rfl)
theorem dX2_begin_23 : decode cX2_begin 23 = .ok (.aload_n 0, 1) := dk_42 (dk_at dksX2_begin_0 23 rfl rfl)
theorem dX2_begin_24 : decode cX2_begin 24 = .ok (.getfield 95, 3) := dk_180 0 95 (dk_at dksX2_begin_1 0 rfl rfl)
theorem dX2_begin_27 : decode cX2_begin 27 = .ok (.iload_n 1, 1) := dk_27 (dk_at dksX2_begin_1 3 rfl rfl)
theorem dX2_begin_28 : decode cX2_begin 28 = .ok (.aload_n 0, 1) := dk_42 (dk_at dksX2_begin_1 4 rfl rfl)
theorem dX2_begin_29 : decode cX2_begin 29 = .ok (.iload_n 1, 1) := dk_27 (dk_at dksX2_begin_1 5 rfl rfl)
theorem dX2_begin_30 : decode cX2_begin 30 = .ok (.invokevirtual 345, 3) := dk_182 1 89 (dk_at dksX2_begin_1 6 rfl rfl)
theorem dX2_begin_33 : decode cX2_begin 33 = .ok (.iastore, 1) := dk_79 (dk_at dksX2_begin_1 9 rfl rfl)
theorem dX2_begin_34 : decode cX2_begin 34 = .ok (.iinc 1 1, 3) := dk_132 1 1 (dk_at dksX2_begin_1 10 rfl rfl)
theorem dX2_begin_37 : decode cX2_begin 37 = .ok (.goto (-20), 3) := dk_167 255 236 (dk_at dksX2_begin_1 13 rfl rfl)
theorem dX2_begin_40 : decode cX2_begin 40 = .ok (.return_, 1) := dk_177 (dk_at dksX2_begin_1 16 rfl rfl)
abbrev cX2_toldTurn : ByteArray := prog_9_method_44_code
def yX2_toldTurn : MethodName := ⟨RX2, "toldTurn", "(I)I"⟩
def dkwX2_toldTurn_1 : List UInt8 := [42, 180, 0, 233, 104, 27, 42, 180, 0, 36, 42, 180, 0, 233, 46, 112, 96, 46, 172]
abbrev dktX2_toldTurn_1 : List UInt8 := dkwX2_toldTurn_1 ++ []
def dkwX2_toldTurn_0 : List UInt8 := [42, 180, 0, 36, 42, 180, 0, 233, 46, 154, 0, 9, 27, 6, 112, 167, 0, 27, 42, 180, 0, 39, 16, 6]
abbrev dktX2_toldTurn_0 : List UInt8 := dkwX2_toldTurn_0 ++ dktX2_toldTurn_1
theorem dksX2_toldTurn_0 : cX2_toldTurn.data.toList.drop 0 = dktX2_toldTurn_0 := by decide +kernel
theorem dksX2_toldTurn_1 : cX2_toldTurn.data.toList.drop 24 = dktX2_toldTurn_1 := dk_seg dksX2_toldTurn_0 24 rfl rfl
theorem dX2_toldTurn_0 : decode cX2_toldTurn 0 = .ok (.aload_n 0, 1) := dk_42 (dk_at dksX2_toldTurn_0 0 rfl rfl)
theorem dX2_toldTurn_1 : decode cX2_toldTurn 1 = .ok (.getfield 36, 3) := dk_180 0 36 (dk_at dksX2_toldTurn_0 1 rfl rfl)
theorem dX2_toldTurn_4 : decode cX2_toldTurn 4 = .ok (.aload_n 0, 1) := dk_42 (dk_at dksX2_toldTurn_0 4 rfl rfl)
theorem dX2_toldTurn_5 : decode cX2_toldTurn 5 = .ok (.getfield 233, 3) := dk_180 0 233 (dk_at dksX2_toldTurn_0 5 rfl rfl)
theorem dX2_toldTurn_8 : decode cX2_toldTurn 8 = .ok (.iaload, 1) := dk_46 (dk_at dksX2_toldTurn_0 8 rfl rfl)
theorem dX2_toldTurn_9 : decode cX2_toldTurn 9 = .ok (.ifCond .ne 9, 3) := dk_154 0 9 (dk_at dksX2_toldTurn_0 9 rfl rfl)
theorem dX2_toldTurn_12 : decode cX2_toldTurn 12 = .ok (.iload_n 1, 1) := dk_27 (dk_at dksX2_toldTurn_0 12 rfl rfl)
theorem dX2_toldTurn_13 : decode cX2_toldTurn 13 = .ok (.iconst 3, 1) := dk_6 (dk_at dksX2_toldTurn_0 13 rfl rfl)
theorem dX2_toldTurn_14 : decode cX2_toldTurn 14 = .ok (.irem, 1) := dk_112 (dk_at dksX2_toldTurn_0 14 rfl rfl)
theorem dX2_toldTurn_15 : decode cX2_toldTurn 15 = .ok (.goto 27, 3) := dk_167 0 27 (dk_at dksX2_toldTurn_0 15 rfl rfl)
theorem dX2_toldTurn_18 : decode cX2_toldTurn 18 = .ok (.aload_n 0, 1) := dk_42 (dk_at dksX2_toldTurn_0 18 rfl rfl)
theorem dX2_toldTurn_19 : decode cX2_toldTurn 19 = .ok (.getfield 39, 3) := dk_180 0 39 (dk_at dksX2_toldTurn_0 19 rfl rfl)
theorem dX2_toldTurn_22 : decode cX2_toldTurn 22 = .ok (.bipush 6, 2) := dk_16 6 (dk_at dksX2_toldTurn_0 22 rfl rfl)
theorem dX2_toldTurn_24 : decode cX2_toldTurn 24 = .ok (.aload_n 0, 1) := dk_42 (dk_at dksX2_toldTurn_1 0 rfl rfl)
theorem dX2_toldTurn_25 : decode cX2_toldTurn 25 = .ok (.getfield 233, 3) := dk_180 0 233 (dk_at dksX2_toldTurn_1 1 rfl rfl)
theorem dX2_toldTurn_28 : decode cX2_toldTurn 28 = .ok (.imul, 1) := dk_104 (dk_at dksX2_toldTurn_1 4 rfl rfl)
theorem dX2_toldTurn_29 : decode cX2_toldTurn 29 = .ok (.iload_n 1, 1) := dk_27 (dk_at dksX2_toldTurn_1 5 rfl rfl)
theorem dX2_toldTurn_30 : decode cX2_toldTurn 30 = .ok (.aload_n 0, 1) := dk_42 (dk_at dksX2_toldTurn_1 6 rfl rfl)
theorem dX2_toldTurn_31 : decode cX2_toldTurn 31 = .ok (.getfield 36, 3) := dk_180 0 36 (dk_at dksX2_toldTurn_1 7 rfl rfl)
theorem dX2_toldTurn_34 : decode cX2_toldTurn 34 = .ok (.aload_n 0, 1) := dk_42 (dk_at dksX2_toldTurn_1 10 rfl rfl)
theorem dX2_toldTurn_35 : decode cX2_toldTurn 35 = .ok (.getfield 233, 3) := dk_180 0 233 (dk_at dksX2_toldTurn_1 11 rfl rfl)
theorem dX2_toldTurn_38 : decode cX2_toldTurn 38 = .ok (.iaload, 1) := dk_46 (dk_at dksX2_toldTurn_1 14 rfl rfl)
theorem dX2_toldTurn_39 : decode cX2_toldTurn 39 = .ok (.irem, 1) := dk_112 (dk_at dksX2_toldTurn_1 15 rfl rfl)
theorem dX2_toldTurn_40 : decode cX2_toldTurn 40 = .ok (.iadd, 1) := dk_96 (dk_at dksX2_toldTurn_1 16 rfl rfl)
theorem dX2_toldTurn_41 : decode cX2_toldTurn 41 = .ok (.iaload, 1) := dk_46 (dk_at dksX2_toldTurn_1 17 rfl rfl)
theorem dX2_toldTurn_42 : decode cX2_toldTurn 42 = .ok (.ireturn, 1) := dk_172 (dk_at dksX2_toldTurn_1 18 rfl rfl)
abbrev cX2_port : ByteArray := prog_9_method_15_code
def yX2_port : MethodName := ⟨RX2, "port", "()I"⟩
def dkwX2_port_8 : List UInt8 := [180, 0, 233, 46, 172]
abbrev dktX2_port_8 : List UInt8 := dkwX2_port_8 ++ []
def dkwX2_port_7 : List UInt8 := [60, 27, 6, 162, 0, 16, 42, 180, 0, 149, 27, 2, 79, 132, 1, 1, 167, 255, 241, 42, 180, 0, 20, 42]
abbrev dktX2_port_7 : List UInt8 := dkwX2_port_7 ++ dktX2_port_8
def dkwX2_port_6 : List UInt8 := [42, 180, 0, 98, 27, 2, 79, 132, 1, 1, 167, 255, 240, 42, 3, 181, 0, 245, 42, 3, 181, 0, 248, 3]
abbrev dktX2_port_6 : List UInt8 := dkwX2_port_6 ++ dktX2_port_7
def dkwX2_port_5 : List UInt8 := [42, 180, 0, 227, 181, 0, 233, 42, 9, 181, 0, 242, 42, 182, 0, 161, 3, 60, 27, 16, 6, 162, 0, 16]
abbrev dktX2_port_5 : List UInt8 := dkwX2_port_5 ++ dktX2_port_6
def dkwX2_port_4 : List UInt8 := [167, 255, 238, 42, 182, 0, 217, 153, 0, 7, 42, 182, 0, 239, 42, 182, 0, 217, 154, 0, 5, 2, 172, 42]
abbrev dktX2_port_4 : List UInt8 := dkwX2_port_4 ++ dktX2_port_5
def dkwX2_port_3 : List UInt8 := [42, 182, 0, 221, 42, 182, 0, 217, 153, 0, 17, 42, 180, 0, 192, 153, 0, 10, 42, 182, 0, 236]
abbrev dktX2_port_3 : List UInt8 := dkwX2_port_3 ++ dktX2_port_4
def dkwX2_port_2 : List UInt8 := [42, 3, 181, 0, 230, 42, 3, 181, 0, 182, 42, 4, 42, 180, 0, 233, 100, 181, 0, 227, 42, 182, 0, 158]
abbrev dktX2_port_2 : List UInt8 := dkwX2_port_2 ++ dktX2_port_3
def dkwX2_port_1 : List UInt8 := [180, 0, 164, 162, 0, 21, 42, 180, 0, 13, 27, 42, 180, 0, 7, 27, 51, 84, 132, 1, 1, 167, 255, 233]
abbrev dktX2_port_1 : List UInt8 := dkwX2_port_1 ++ dktX2_port_2
def dkwX2_port_0 : List UInt8 := [42, 3, 181, 0, 167, 42, 2, 181, 0, 16, 42, 42, 180, 0, 230, 181, 0, 164, 3, 60, 27, 42]
abbrev dktX2_port_0 : List UInt8 := dkwX2_port_0 ++ dktX2_port_1
theorem dksX2_port_0 : cX2_port.data.toList.drop 0 = dktX2_port_0 := by decide +kernel
theorem dksX2_port_1 : cX2_port.data.toList.drop 22 = dktX2_port_1 := dk_seg dksX2_port_0 22 rfl rfl
theorem dksX2_port_2 : cX2_port.data.toList.drop 46 = dktX2_port_2 := dk_seg dksX2_port_1 24 rfl rfl
theorem dksX2_port_3 : cX2_port.data.toList.drop 70 = dktX2_port_3 := dk_seg dksX2_port_2 24 rfl rfl
theorem dksX2_port_4 : cX2_port.data.toList.drop 92 = dktX2_port_4 := dk_seg dksX2_port_3 22 rfl rfl
theorem dksX2_port_5 : cX2_port.data.toList.drop 116 = dktX2_port_5 := dk_seg dksX2_port_4 24 rfl rfl
theorem dksX2_port_6 : cX2_port.data.toList.drop 140 = dktX2_port_6 := dk_seg dksX2_port_5 24 rfl rfl
theorem dksX2_port_7 : cX2_port.data.toList.drop 164 = dktX2_port_7 := dk_seg dksX2_port_6 24 rfl rfl
theorem dksX2_port_8 : cX2_port.data.toList.drop 188 = dktX2_port_8 := dk_seg dksX2_port_7 24 rfl rfl
theorem dX2_port_0 : decode cX2_port 0 = .ok (.aload_n 0, 1) := dk_42 (dk_at dksX2_port_0 0 rfl rfl)
theorem dX2_port_1 : decode cX2_port 1 = .ok (.iconst 0, 1) := dk_3 (dk_at dksX2_port_0 1 rfl rfl)
theorem dX2_port_2 : decode cX2_port 2 = .ok (.putfield 167, 3) := dk_181 0 167 (dk_at dksX2_port_0 2 rfl rfl)
theorem dX2_port_5 : decode cX2_port 5 = .ok (.aload_n 0, 1) := dk_42 (dk_at dksX2_port_0 5 rfl rfl)
theorem dX2_port_6 : decode cX2_port 6 = .ok (.iconst (-1), 1) := dk_2 (dk_at dksX2_port_0 6 rfl rfl)
theorem dX2_port_7 : decode cX2_port 7 = .ok (.putfield 16, 3) := dk_181 0 16 (dk_at dksX2_port_0 7 rfl rfl)
theorem dX2_port_10 : decode cX2_port 10 = .ok (.aload_n 0, 1) := dk_42 (dk_at dksX2_port_0 10 rfl rfl)
theorem dX2_port_11 : decode cX2_port 11 = .ok (.aload_n 0, 1) := dk_42 (dk_at dksX2_port_0 11 rfl rfl)
theorem dX2_port_12 : decode cX2_port 12 = .ok (.getfield 230, 3) := dk_180 0 230 (dk_at dksX2_port_0 12 rfl rfl)
theorem dX2_port_15 : decode cX2_port 15 = .ok (.putfield 164, 3) := dk_181 0 164 (dk_at dksX2_port_0 15 rfl rfl)
theorem dX2_port_18 : decode cX2_port 18 = .ok (.iconst 0, 1) := dk_3 (dk_at dksX2_port_0 18 rfl rfl)
theorem dX2_port_19 : decode cX2_port 19 = .ok (.istore_n 1, 1) := dk_60 (dk_at dksX2_port_0 19 rfl rfl)
theorem dX2_port_20 : decode cX2_port 20 = .ok (.iload_n 1, 1) := dk_27 (dk_at dksX2_port_0 20 rfl rfl)
theorem dX2_port_21 : decode cX2_port 21 = .ok (.aload_n 0, 1) := dk_42 (dk_at dksX2_port_0 21 rfl rfl)
theorem dX2_port_22 : decode cX2_port 22 = .ok (.getfield 164, 3) := dk_180 0 164 (dk_at dksX2_port_1 0 rfl rfl)
theorem dX2_port_25 : decode cX2_port 25 = .ok (.if_icmp .ge 21, 3) := dk_162 0 21 (dk_at dksX2_port_1 3 rfl rfl)
theorem dX2_port_28 : decode cX2_port 28 = .ok (.aload_n 0, 1) := dk_42 (dk_at dksX2_port_1 6 rfl rfl)
theorem dX2_port_29 : decode cX2_port 29 = .ok (.getfield 13, 3) := dk_180 0 13 (dk_at dksX2_port_1 7 rfl rfl)
theorem dX2_port_32 : decode cX2_port 32 = .ok (.iload_n 1, 1) := dk_27 (dk_at dksX2_port_1 10 rfl rfl)
theorem dX2_port_33 : decode cX2_port 33 = .ok (.aload_n 0, 1) := dk_42 (dk_at dksX2_port_1 11 rfl rfl)
theorem dX2_port_34 : decode cX2_port 34 = .ok (.getfield 7, 3) := dk_180 0 7 (dk_at dksX2_port_1 12 rfl rfl)
theorem dX2_port_37 : decode cX2_port 37 = .ok (.iload_n 1, 1) := dk_27 (dk_at dksX2_port_1 15 rfl rfl)
theorem dX2_port_38 : decode cX2_port 38 = .ok (.baload, 1) := dk_51 (dk_at dksX2_port_1 16 rfl rfl)
theorem dX2_port_39 : decode cX2_port 39 = .ok (.bastore, 1) := dk_84 (dk_at dksX2_port_1 17 rfl rfl)
theorem dX2_port_40 : decode cX2_port 40 = .ok (.iinc 1 1, 3) := dk_132 1 1 (dk_at dksX2_port_1 18 rfl rfl)
theorem dX2_port_43 : decode cX2_port 43 = .ok (.goto (-23), 3) := dk_167 255 233 (dk_at dksX2_port_1 21 rfl rfl)
theorem dX2_port_46 : decode cX2_port 46 = .ok (.aload_n 0, 1) := dk_42 (dk_at dksX2_port_2 0 rfl rfl)
theorem dX2_port_47 : decode cX2_port 47 = .ok (.iconst 0, 1) := dk_3 (dk_at dksX2_port_2 1 rfl rfl)
theorem dX2_port_48 : decode cX2_port 48 = .ok (.putfield 230, 3) := dk_181 0 230 (dk_at dksX2_port_2 2 rfl rfl)
theorem dX2_port_51 : decode cX2_port 51 = .ok (.aload_n 0, 1) := dk_42 (dk_at dksX2_port_2 5 rfl rfl)
theorem dX2_port_52 : decode cX2_port 52 = .ok (.iconst 0, 1) := dk_3 (dk_at dksX2_port_2 6 rfl rfl)
theorem dX2_port_53 : decode cX2_port 53 = .ok (.putfield 182, 3) := dk_181 0 182 (dk_at dksX2_port_2 7 rfl rfl)
theorem dX2_port_56 : decode cX2_port 56 = .ok (.aload_n 0, 1) := dk_42 (dk_at dksX2_port_2 10 rfl rfl)
theorem dX2_port_57 : decode cX2_port 57 = .ok (.iconst 1, 1) := dk_4 (dk_at dksX2_port_2 11 rfl rfl)
theorem dX2_port_58 : decode cX2_port 58 = .ok (.aload_n 0, 1) := dk_42 (dk_at dksX2_port_2 12 rfl rfl)
theorem dX2_port_59 : decode cX2_port 59 = .ok (.getfield 233, 3) := dk_180 0 233 (dk_at dksX2_port_2 13 rfl rfl)
theorem dX2_port_62 : decode cX2_port 62 = .ok (.isub, 1) := dk_100 (dk_at dksX2_port_2 16 rfl rfl)
theorem dX2_port_63 : decode cX2_port 63 = .ok (.putfield 227, 3) := dk_181 0 227 (dk_at dksX2_port_2 17 rfl rfl)
theorem dX2_port_66 : decode cX2_port 66 = .ok (.aload_n 0, 1) := dk_42 (dk_at dksX2_port_2 20 rfl rfl)
theorem dX2_port_67 : decode cX2_port 67 = .ok (.invokevirtual 158, 3) := dk_182 0 158 (dk_at dksX2_port_2 21 rfl rfl)
theorem dX2_port_70 : decode cX2_port 70 = .ok (.aload_n 0, 1) := dk_42 (dk_at dksX2_port_3 0 rfl rfl)
theorem dX2_port_71 : decode cX2_port 71 = .ok (.invokevirtual 221, 3) := dk_182 0 221 (dk_at dksX2_port_3 1 rfl rfl)
theorem dX2_port_74 : decode cX2_port 74 = .ok (.aload_n 0, 1) := dk_42 (dk_at dksX2_port_3 4 rfl rfl)
theorem dX2_port_75 : decode cX2_port 75 = .ok (.invokevirtual 217, 3) := dk_182 0 217 (dk_at dksX2_port_3 5 rfl rfl)
theorem dX2_port_78 : decode cX2_port 78 = .ok (.ifCond .eq 17, 3) := dk_153 0 17 (dk_at dksX2_port_3 8 rfl rfl)
theorem dX2_port_81 : decode cX2_port 81 = .ok (.aload_n 0, 1) := dk_42 (dk_at dksX2_port_3 11 rfl rfl)
theorem dX2_port_82 : decode cX2_port 82 = .ok (.getfield 192, 3) := dk_180 0 192 (dk_at dksX2_port_3 12 rfl rfl)
theorem dX2_port_85 : decode cX2_port 85 = .ok (.ifCond .eq 10, 3) := dk_153 0 10 (dk_at dksX2_port_3 15 rfl rfl)
theorem dX2_port_88 : decode cX2_port 88 = .ok (.aload_n 0, 1) := dk_42 (dk_at dksX2_port_3 18 rfl rfl)
theorem dX2_port_89 : decode cX2_port 89 = .ok (.invokevirtual 236, 3) := dk_182 0 236 (dk_at dksX2_port_3 19 rfl rfl)
theorem dX2_port_92 : decode cX2_port 92 = .ok (.goto (-18), 3) := dk_167 255 238 (dk_at dksX2_port_4 0 rfl rfl)
theorem dX2_port_95 : decode cX2_port 95 = .ok (.aload_n 0, 1) := dk_42 (dk_at dksX2_port_4 3 rfl rfl)
theorem dX2_port_96 : decode cX2_port 96 = .ok (.invokevirtual 217, 3) := dk_182 0 217 (dk_at dksX2_port_4 4 rfl rfl)
theorem dX2_port_99 : decode cX2_port 99 = .ok (.ifCond .eq 7, 3) := dk_153 0 7 (dk_at dksX2_port_4 7 rfl rfl)
theorem dX2_port_102 : decode cX2_port 102 = .ok (.aload_n 0, 1) := dk_42 (dk_at dksX2_port_4 10 rfl rfl)
theorem dX2_port_103 : decode cX2_port 103 = .ok (.invokevirtual 239, 3) := dk_182 0 239 (dk_at dksX2_port_4 11 rfl rfl)
theorem dX2_port_106 : decode cX2_port 106 = .ok (.aload_n 0, 1) := dk_42 (dk_at dksX2_port_4 14 rfl rfl)
theorem dX2_port_107 : decode cX2_port 107 = .ok (.invokevirtual 217, 3) := dk_182 0 217 (dk_at dksX2_port_4 15 rfl rfl)
theorem dX2_port_110 : decode cX2_port 110 = .ok (.ifCond .ne 5, 3) := dk_154 0 5 (dk_at dksX2_port_4 18 rfl rfl)
theorem dX2_port_113 : decode cX2_port 113 = .ok (.iconst (-1), 1) := dk_2 (dk_at dksX2_port_4 21 rfl rfl)
theorem dX2_port_114 : decode cX2_port 114 = .ok (.ireturn, 1) := dk_172 (dk_at dksX2_port_4 22 rfl rfl)
theorem dX2_port_115 : decode cX2_port 115 = .ok (.aload_n 0, 1) := dk_42 (dk_at dksX2_port_4 23 rfl rfl)
theorem dX2_port_116 : decode cX2_port 116 = .ok (.aload_n 0, 1) := dk_42 (dk_at dksX2_port_5 0 rfl rfl)
theorem dX2_port_117 : decode cX2_port 117 = .ok (.getfield 227, 3) := dk_180 0 227 (dk_at dksX2_port_5 1 rfl rfl)
theorem dX2_port_120 : decode cX2_port 120 = .ok (.putfield 233, 3) := dk_181 0 233 (dk_at dksX2_port_5 4 rfl rfl)
theorem dX2_port_123 : decode cX2_port 123 = .ok (.aload_n 0, 1) := dk_42 (dk_at dksX2_port_5 7 rfl rfl)
theorem dX2_port_124 : decode cX2_port 124 = .ok (.lconst 0, 1) := dk_9 (dk_at dksX2_port_5 8 rfl rfl)
theorem dX2_port_125 : decode cX2_port 125 = .ok (.putfield 242, 3) := dk_181 0 242 (dk_at dksX2_port_5 9 rfl rfl)
theorem dX2_port_128 : decode cX2_port 128 = .ok (.aload_n 0, 1) := dk_42 (dk_at dksX2_port_5 12 rfl rfl)
theorem dX2_port_129 : decode cX2_port 129 = .ok (.invokevirtual 161, 3) := dk_182 0 161 (dk_at dksX2_port_5 13 rfl rfl)
theorem dX2_port_132 : decode cX2_port 132 = .ok (.iconst 0, 1) := dk_3 (dk_at dksX2_port_5 16 rfl rfl)
theorem dX2_port_133 : decode cX2_port 133 = .ok (.istore_n 1, 1) := dk_60 (dk_at dksX2_port_5 17 rfl rfl)
theorem dX2_port_134 : decode cX2_port 134 = .ok (.iload_n 1, 1) := dk_27 (dk_at dksX2_port_5 18 rfl rfl)
theorem dX2_port_135 : decode cX2_port 135 = .ok (.bipush 6, 2) := dk_16 6 (dk_at dksX2_port_5 19 rfl rfl)
theorem dX2_port_137 : decode cX2_port 137 = .ok (.if_icmp .ge 16, 3) := dk_162 0 16 (dk_at dksX2_port_5 21 rfl rfl)
theorem dX2_port_140 : decode cX2_port 140 = .ok (.aload_n 0, 1) := dk_42 (dk_at dksX2_port_6 0 rfl rfl)
theorem dX2_port_141 : decode cX2_port 141 = .ok (.getfield 98, 3) := dk_180 0 98 (dk_at dksX2_port_6 1 rfl rfl)
theorem dX2_port_144 : decode cX2_port 144 = .ok (.iload_n 1, 1) := dk_27 (dk_at dksX2_port_6 4 rfl rfl)
theorem dX2_port_145 : decode cX2_port 145 = .ok (.iconst (-1), 1) := dk_2 (dk_at dksX2_port_6 5 rfl rfl)
theorem dX2_port_146 : decode cX2_port 146 = .ok (.iastore, 1) := dk_79 (dk_at dksX2_port_6 6 rfl rfl)
theorem dX2_port_147 : decode cX2_port 147 = .ok (.iinc 1 1, 3) := dk_132 1 1 (dk_at dksX2_port_6 7 rfl rfl)
theorem dX2_port_150 : decode cX2_port 150 = .ok (.goto (-16), 3) := dk_167 255 240 (dk_at dksX2_port_6 10 rfl rfl)
theorem dX2_port_153 : decode cX2_port 153 = .ok (.aload_n 0, 1) := dk_42 (dk_at dksX2_port_6 13 rfl rfl)
theorem dX2_port_154 : decode cX2_port 154 = .ok (.iconst 0, 1) := dk_3 (dk_at dksX2_port_6 14 rfl rfl)
theorem dX2_port_155 : decode cX2_port 155 = .ok (.putfield 245, 3) := dk_181 0 245 (dk_at dksX2_port_6 15 rfl rfl)
theorem dX2_port_158 : decode cX2_port 158 = .ok (.aload_n 0, 1) := dk_42 (dk_at dksX2_port_6 18 rfl rfl)
theorem dX2_port_159 : decode cX2_port 159 = .ok (.iconst 0, 1) := dk_3 (dk_at dksX2_port_6 19 rfl rfl)
theorem dX2_port_160 : decode cX2_port 160 = .ok (.putfield 248, 3) := dk_181 0 248 (dk_at dksX2_port_6 20 rfl rfl)
theorem dX2_port_163 : decode cX2_port 163 = .ok (.iconst 0, 1) := dk_3 (dk_at dksX2_port_6 23 rfl rfl)
theorem dX2_port_164 : decode cX2_port 164 = .ok (.istore_n 1, 1) := dk_60 (dk_at dksX2_port_7 0 rfl rfl)
theorem dX2_port_165 : decode cX2_port 165 = .ok (.iload_n 1, 1) := dk_27 (dk_at dksX2_port_7 1 rfl rfl)
theorem dX2_port_166 : decode cX2_port 166 = .ok (.iconst 3, 1) := dk_6 (dk_at dksX2_port_7 2 rfl rfl)
theorem dX2_port_167 : decode cX2_port 167 = .ok (.if_icmp .ge 16, 3) := dk_162 0 16 (dk_at dksX2_port_7 3 rfl rfl)
theorem dX2_port_170 : decode cX2_port 170 = .ok (.aload_n 0, 1) := dk_42 (dk_at dksX2_port_7 6 rfl rfl)
theorem dX2_port_171 : decode cX2_port 171 = .ok (.getfield 149, 3) := dk_180 0 149 (dk_at dksX2_port_7 7 rfl rfl)
theorem dX2_port_174 : decode cX2_port 174 = .ok (.iload_n 1, 1) := dk_27 (dk_at dksX2_port_7 10 rfl rfl)
theorem dX2_port_175 : decode cX2_port 175 = .ok (.iconst (-1), 1) := dk_2 (dk_at dksX2_port_7 11 rfl rfl)
theorem dX2_port_176 : decode cX2_port 176 = .ok (.iastore, 1) := dk_79 (dk_at dksX2_port_7 12 rfl rfl)
theorem dX2_port_177 : decode cX2_port 177 = .ok (.iinc 1 1, 3) := dk_132 1 1 (dk_at dksX2_port_7 13 rfl rfl)
theorem dX2_port_180 : decode cX2_port 180 = .ok (.goto (-15), 3) := dk_167 255 241 (dk_at dksX2_port_7 16 rfl rfl)
theorem dX2_port_183 : decode cX2_port 183 = .ok (.aload_n 0, 1) := dk_42 (dk_at dksX2_port_7 19 rfl rfl)
theorem dX2_port_184 : decode cX2_port 184 = .ok (.getfield 20, 3) := dk_180 0 20 (dk_at dksX2_port_7 20 rfl rfl)
theorem dX2_port_187 : decode cX2_port 187 = .ok (.aload_n 0, 1) := dk_42 (dk_at dksX2_port_7 23 rfl rfl)
theorem dX2_port_188 : decode cX2_port 188 = .ok (.getfield 233, 3) := dk_180 0 233 (dk_at dksX2_port_8 0 rfl rfl)
theorem dX2_port_191 : decode cX2_port 191 = .ok (.iaload, 1) := dk_46 (dk_at dksX2_port_8 3 rfl rfl)
theorem dX2_port_192 : decode cX2_port 192 = .ok (.ireturn, 1) := dk_172 (dk_at dksX2_port_8 4 rfl rfl)
abbrev cX2_goOn : ByteArray := prog_9_method_8_code
def yX2_goOn : MethodName := ⟨RX2, "goOn", "()V"⟩
def dkwX2_goOn_16 : List UInt8 := [160, 0, 7, 8, 167, 0, 4, 4, 181, 0, 192, 177]
abbrev dktX2_goOn_16 : List UInt8 := dkwX2_goOn_16 ++ []
def dkwX2_goOn_15 : List UInt8 := [153, 0, 7, 4, 167, 0, 4, 7, 181, 0, 192, 167, 0, 24, 42, 27, 16, 59, 159, 0, 9, 27, 16, 61]
abbrev dktX2_goOn_15 : List UInt8 := dkwX2_goOn_15 ++ dktX2_goOn_16
def dkwX2_goOn_14 : List UInt8 := [180, 0, 182, 42, 180, 0, 185, 100, 7, 163, 0, 17, 42, 42, 180, 0, 182, 182, 0, 188, 184, 0, 195]
abbrev dktX2_goOn_14 : List UInt8 := dkwX2_goOn_14 ++ dktX2_goOn_15
def dkwX2_goOn_13 : List UInt8 := [96, 16, 48, 100, 181, 0, 210, 42, 89, 180, 0, 182, 4, 96, 181, 0, 182, 167, 255, 196, 42, 42]
abbrev dktX2_goOn_13 : List UInt8 := dkwX2_goOn_13 ++ dktX2_goOn_14
def dkwX2_goOn_12 : List UInt8 := [180, 0, 185, 100, 7, 162, 0, 26, 42, 16, 10, 42, 180, 0, 210, 104, 42, 42, 180, 0, 182, 182, 0, 188]
abbrev dktX2_goOn_12 : List UInt8 := dkwX2_goOn_12 ++ dktX2_goOn_13
def dkwX2_goOn_11 : List UInt8 := [181, 0, 182, 42, 42, 180, 0, 182, 182, 0, 188, 184, 0, 207, 153, 0, 52, 42, 180, 0, 182, 42]
abbrev dktX2_goOn_11 : List UInt8 := dkwX2_goOn_11 ++ dktX2_goOn_12
def dkwX2_goOn_10 : List UInt8 := [181, 0, 192, 167, 0, 146, 27, 184, 0, 207, 153, 0, 118, 42, 3, 181, 0, 210, 42, 42, 180, 0, 185]
abbrev dktX2_goOn_10 : List UInt8 := dkwX2_goOn_10 ++ dktX2_goOn_11
def dkwX2_goOn_9 : List UInt8 := [164, 0, 7, 4, 167, 0, 18, 42, 180, 0, 199, 184, 0, 203, 153, 0, 7, 6, 167, 0, 4, 5]
abbrev dktX2_goOn_9 : List UInt8 := dkwX2_goOn_9 ++ dktX2_goOn_10
def dkwX2_goOn_8 : List UInt8 := [133, 129, 181, 0, 199, 132, 2, 1, 167, 255, 216, 42, 42, 180, 0, 182, 42, 180, 0, 185, 100, 16, 8]
abbrev dktX2_goOn_8 : List UInt8 := dkwX2_goOn_8 ++ dktX2_goOn_9
def dkwX2_goOn_7 : List UInt8 := [28, 42, 180, 0, 185, 16, 8, 96, 162, 0, 27, 42, 42, 180, 0, 199, 16, 8, 121, 42, 28, 182, 0, 188]
abbrev dktX2_goOn_7 : List UInt8 := dkwX2_goOn_7 ++ dktX2_goOn_8
def dkwX2_goOn_6 : List UInt8 := [181, 0, 182, 167, 255, 232, 42, 9, 181, 0, 199, 42, 180, 0, 185, 61, 28, 42, 180, 0, 182, 162, 0, 38]
abbrev dktX2_goOn_6 : List UInt8 := dkwX2_goOn_6 ++ dktX2_goOn_7
def dkwX2_goOn_5 : List UInt8 := [153, 0, 123, 42, 42, 180, 0, 182, 182, 0, 188, 184, 0, 195, 153, 0, 16, 42, 89, 180, 0, 182, 4, 96]
abbrev dktX2_goOn_5 : List UInt8 := dkwX2_goOn_5 ++ dktX2_goOn_6
def dkwX2_goOn_4 : List UInt8 := [42, 42, 180, 0, 164, 181, 0, 185, 42, 42, 180, 0, 164, 181, 0, 182, 167, 1, 17, 27, 184, 0, 195]
abbrev dktX2_goOn_4 : List UInt8 := dkwX2_goOn_4 ++ dktX2_goOn_5
def dkwX2_goOn_3 : List UInt8 := [180, 0, 185, 4, 96, 181, 0, 182, 42, 180, 0, 185, 42, 180, 0, 164, 161, 0, 27, 42, 3, 181, 0, 192]
abbrev dktX2_goOn_3 : List UInt8 := dkwX2_goOn_3 ++ dktX2_goOn_4
def dkwX2_goOn_2 : List UInt8 := [180, 0, 185, 4, 96, 181, 0, 185, 167, 255, 209, 42, 42, 180, 0, 185, 182, 0, 188, 60, 42, 42]
abbrev dktX2_goOn_2 : List UInt8 := dkwX2_goOn_2 ++ dktX2_goOn_3
def dkwX2_goOn_1 : List UInt8 := [182, 0, 188, 16, 32, 159, 0, 16, 42, 42, 180, 0, 185, 182, 0, 188, 16, 10, 160, 0, 16, 42, 89]
abbrev dktX2_goOn_1 : List UInt8 := dkwX2_goOn_1 ++ dktX2_goOn_2
def dkwX2_goOn_0 : List UInt8 := [42, 42, 180, 0, 182, 181, 0, 185, 42, 180, 0, 185, 42, 180, 0, 164, 162, 0, 42, 42, 42, 180, 0, 185]
abbrev dktX2_goOn_0 : List UInt8 := dkwX2_goOn_0 ++ dktX2_goOn_1
theorem dksX2_goOn_0 : cX2_goOn.data.toList.drop 0 = dktX2_goOn_0 := by decide +kernel
theorem dksX2_goOn_1 : cX2_goOn.data.toList.drop 24 = dktX2_goOn_1 := dk_seg dksX2_goOn_0 24 rfl rfl
theorem dksX2_goOn_2 : cX2_goOn.data.toList.drop 47 = dktX2_goOn_2 := dk_seg dksX2_goOn_1 23 rfl rfl
theorem dksX2_goOn_3 : cX2_goOn.data.toList.drop 69 = dktX2_goOn_3 := dk_seg dksX2_goOn_2 22 rfl rfl
theorem dksX2_goOn_4 : cX2_goOn.data.toList.drop 93 = dktX2_goOn_4 := dk_seg dksX2_goOn_3 24 rfl rfl
theorem dksX2_goOn_5 : cX2_goOn.data.toList.drop 116 = dktX2_goOn_5 := dk_seg dksX2_goOn_4 23 rfl rfl
theorem dksX2_goOn_6 : cX2_goOn.data.toList.drop 140 = dktX2_goOn_6 := dk_seg dksX2_goOn_5 24 rfl rfl
theorem dksX2_goOn_7 : cX2_goOn.data.toList.drop 164 = dktX2_goOn_7 := dk_seg dksX2_goOn_6 24 rfl rfl
theorem dksX2_goOn_8 : cX2_goOn.data.toList.drop 188 = dktX2_goOn_8 := dk_seg dksX2_goOn_7 24 rfl rfl
theorem dksX2_goOn_9 : cX2_goOn.data.toList.drop 211 = dktX2_goOn_9 := dk_seg dksX2_goOn_8 23 rfl rfl
theorem dksX2_goOn_10 : cX2_goOn.data.toList.drop 233 = dktX2_goOn_10 := dk_seg dksX2_goOn_9 22 rfl rfl
theorem dksX2_goOn_11 : cX2_goOn.data.toList.drop 256 = dktX2_goOn_11 := dk_seg dksX2_goOn_10 23 rfl rfl
theorem dksX2_goOn_12 : cX2_goOn.data.toList.drop 278 = dktX2_goOn_12 := dk_seg dksX2_goOn_11 22 rfl rfl
theorem dksX2_goOn_13 : cX2_goOn.data.toList.drop 302 = dktX2_goOn_13 := dk_seg dksX2_goOn_12 24 rfl rfl
theorem dksX2_goOn_14 : cX2_goOn.data.toList.drop 324 = dktX2_goOn_14 := dk_seg dksX2_goOn_13 22 rfl rfl
theorem dksX2_goOn_15 : cX2_goOn.data.toList.drop 347 = dktX2_goOn_15 := dk_seg dksX2_goOn_14 23 rfl rfl
theorem dksX2_goOn_16 : cX2_goOn.data.toList.drop 371 = dktX2_goOn_16 := dk_seg dksX2_goOn_15 24 rfl rfl
theorem dX2_goOn_0 : decode cX2_goOn 0 = .ok (.aload_n 0, 1) := dk_42 (dk_at dksX2_goOn_0 0 rfl rfl)
theorem dX2_goOn_1 : decode cX2_goOn 1 = .ok (.aload_n 0, 1) := dk_42 (dk_at dksX2_goOn_0 1 rfl rfl)
theorem dX2_goOn_2 : decode cX2_goOn 2 = .ok (.getfield 182, 3) := dk_180 0 182 (dk_at dksX2_goOn_0 2 rfl rfl)
theorem dX2_goOn_5 : decode cX2_goOn 5 = .ok (.putfield 185, 3) := dk_181 0 185 (dk_at dksX2_goOn_0 5 rfl rfl)
theorem dX2_goOn_8 : decode cX2_goOn 8 = .ok (.aload_n 0, 1) := dk_42 (dk_at dksX2_goOn_0 8 rfl rfl)
theorem dX2_goOn_9 : decode cX2_goOn 9 = .ok (.getfield 185, 3) := dk_180 0 185 (dk_at dksX2_goOn_0 9 rfl rfl)
theorem dX2_goOn_12 : decode cX2_goOn 12 = .ok (.aload_n 0, 1) := dk_42 (dk_at dksX2_goOn_0 12 rfl rfl)
theorem dX2_goOn_13 : decode cX2_goOn 13 = .ok (.getfield 164, 3) := dk_180 0 164 (dk_at dksX2_goOn_0 13 rfl rfl)
theorem dX2_goOn_16 : decode cX2_goOn 16 = .ok (.if_icmp .ge 42, 3) := dk_162 0 42 (dk_at dksX2_goOn_0 16 rfl rfl)
theorem dX2_goOn_19 : decode cX2_goOn 19 = .ok (.aload_n 0, 1) := dk_42 (dk_at dksX2_goOn_0 19 rfl rfl)
theorem dX2_goOn_20 : decode cX2_goOn 20 = .ok (.aload_n 0, 1) := dk_42 (dk_at dksX2_goOn_0 20 rfl rfl)
theorem dX2_goOn_21 : decode cX2_goOn 21 = .ok (.getfield 185, 3) := dk_180 0 185 (dk_at dksX2_goOn_0 21 rfl rfl)
theorem dX2_goOn_24 : decode cX2_goOn 24 = .ok (.invokevirtual 188, 3) := dk_182 0 188 (dk_at dksX2_goOn_1 0 rfl rfl)
theorem dX2_goOn_27 : decode cX2_goOn 27 = .ok (.bipush 32, 2) := dk_16 32 (dk_at dksX2_goOn_1 3 rfl rfl)
theorem dX2_goOn_29 : decode cX2_goOn 29 = .ok (.if_icmp .eq 16, 3) := dk_159 0 16 (dk_at dksX2_goOn_1 5 rfl rfl)
theorem dX2_goOn_32 : decode cX2_goOn 32 = .ok (.aload_n 0, 1) := dk_42 (dk_at dksX2_goOn_1 8 rfl rfl)
theorem dX2_goOn_33 : decode cX2_goOn 33 = .ok (.aload_n 0, 1) := dk_42 (dk_at dksX2_goOn_1 9 rfl rfl)
theorem dX2_goOn_34 : decode cX2_goOn 34 = .ok (.getfield 185, 3) := dk_180 0 185 (dk_at dksX2_goOn_1 10 rfl rfl)
theorem dX2_goOn_37 : decode cX2_goOn 37 = .ok (.invokevirtual 188, 3) := dk_182 0 188 (dk_at dksX2_goOn_1 13 rfl rfl)
theorem dX2_goOn_40 : decode cX2_goOn 40 = .ok (.bipush 10, 2) := dk_16 10 (dk_at dksX2_goOn_1 16 rfl rfl)
theorem dX2_goOn_42 : decode cX2_goOn 42 = .ok (.if_icmp .ne 16, 3) := dk_160 0 16 (dk_at dksX2_goOn_1 18 rfl rfl)
theorem dX2_goOn_45 : decode cX2_goOn 45 = .ok (.aload_n 0, 1) := dk_42 (dk_at dksX2_goOn_1 21 rfl rfl)
theorem dX2_goOn_46 : decode cX2_goOn 46 = .ok (.dup, 1) := dk_89 (dk_at dksX2_goOn_1 22 rfl rfl)
theorem dX2_goOn_47 : decode cX2_goOn 47 = .ok (.getfield 185, 3) := dk_180 0 185 (dk_at dksX2_goOn_2 0 rfl rfl)
theorem dX2_goOn_50 : decode cX2_goOn 50 = .ok (.iconst 1, 1) := dk_4 (dk_at dksX2_goOn_2 3 rfl rfl)
theorem dX2_goOn_51 : decode cX2_goOn 51 = .ok (.iadd, 1) := dk_96 (dk_at dksX2_goOn_2 4 rfl rfl)
theorem dX2_goOn_52 : decode cX2_goOn 52 = .ok (.putfield 185, 3) := dk_181 0 185 (dk_at dksX2_goOn_2 5 rfl rfl)
theorem dX2_goOn_55 : decode cX2_goOn 55 = .ok (.goto (-47), 3) := dk_167 255 209 (dk_at dksX2_goOn_2 8 rfl rfl)
theorem dX2_goOn_58 : decode cX2_goOn 58 = .ok (.aload_n 0, 1) := dk_42 (dk_at dksX2_goOn_2 11 rfl rfl)
theorem dX2_goOn_59 : decode cX2_goOn 59 = .ok (.aload_n 0, 1) := dk_42 (dk_at dksX2_goOn_2 12 rfl rfl)
theorem dX2_goOn_60 : decode cX2_goOn 60 = .ok (.getfield 185, 3) := dk_180 0 185 (dk_at dksX2_goOn_2 13 rfl rfl)
theorem dX2_goOn_63 : decode cX2_goOn 63 = .ok (.invokevirtual 188, 3) := dk_182 0 188 (dk_at dksX2_goOn_2 16 rfl rfl)
theorem dX2_goOn_66 : decode cX2_goOn 66 = .ok (.istore_n 1, 1) := dk_60 (dk_at dksX2_goOn_2 19 rfl rfl)
theorem dX2_goOn_67 : decode cX2_goOn 67 = .ok (.aload_n 0, 1) := dk_42 (dk_at dksX2_goOn_2 20 rfl rfl)
theorem dX2_goOn_68 : decode cX2_goOn 68 = .ok (.aload_n 0, 1) := dk_42 (dk_at dksX2_goOn_2 21 rfl rfl)
theorem dX2_goOn_69 : decode cX2_goOn 69 = .ok (.getfield 185, 3) := dk_180 0 185 (dk_at dksX2_goOn_3 0 rfl rfl)
theorem dX2_goOn_72 : decode cX2_goOn 72 = .ok (.iconst 1, 1) := dk_4 (dk_at dksX2_goOn_3 3 rfl rfl)
theorem dX2_goOn_73 : decode cX2_goOn 73 = .ok (.iadd, 1) := dk_96 (dk_at dksX2_goOn_3 4 rfl rfl)
theorem dX2_goOn_74 : decode cX2_goOn 74 = .ok (.putfield 182, 3) := dk_181 0 182 (dk_at dksX2_goOn_3 5 rfl rfl)
theorem dX2_goOn_77 : decode cX2_goOn 77 = .ok (.aload_n 0, 1) := dk_42 (dk_at dksX2_goOn_3 8 rfl rfl)
theorem dX2_goOn_78 : decode cX2_goOn 78 = .ok (.getfield 185, 3) := dk_180 0 185 (dk_at dksX2_goOn_3 9 rfl rfl)
theorem dX2_goOn_81 : decode cX2_goOn 81 = .ok (.aload_n 0, 1) := dk_42 (dk_at dksX2_goOn_3 12 rfl rfl)
theorem dX2_goOn_82 : decode cX2_goOn 82 = .ok (.getfield 164, 3) := dk_180 0 164 (dk_at dksX2_goOn_3 13 rfl rfl)
theorem dX2_goOn_85 : decode cX2_goOn 85 = .ok (.if_icmp .lt 27, 3) := dk_161 0 27 (dk_at dksX2_goOn_3 16 rfl rfl)
theorem dX2_goOn_88 : decode cX2_goOn 88 = .ok (.aload_n 0, 1) := dk_42 (dk_at dksX2_goOn_3 19 rfl rfl)
theorem dX2_goOn_89 : decode cX2_goOn 89 = .ok (.iconst 0, 1) := dk_3 (dk_at dksX2_goOn_3 20 rfl rfl)
theorem dX2_goOn_90 : decode cX2_goOn 90 = .ok (.putfield 192, 3) := dk_181 0 192 (dk_at dksX2_goOn_3 21 rfl rfl)
theorem dX2_goOn_93 : decode cX2_goOn 93 = .ok (.aload_n 0, 1) := dk_42 (dk_at dksX2_goOn_4 0 rfl rfl)
theorem dX2_goOn_94 : decode cX2_goOn 94 = .ok (.aload_n 0, 1) := dk_42 (dk_at dksX2_goOn_4 1 rfl rfl)
theorem dX2_goOn_95 : decode cX2_goOn 95 = .ok (.getfield 164, 3) := dk_180 0 164 (dk_at dksX2_goOn_4 2 rfl rfl)
theorem dX2_goOn_98 : decode cX2_goOn 98 = .ok (.putfield 185, 3) := dk_181 0 185 (dk_at dksX2_goOn_4 5 rfl rfl)
theorem dX2_goOn_101 : decode cX2_goOn 101 = .ok (.aload_n 0, 1) := dk_42 (dk_at dksX2_goOn_4 8 rfl rfl)
theorem dX2_goOn_102 : decode cX2_goOn 102 = .ok (.aload_n 0, 1) := dk_42 (dk_at dksX2_goOn_4 9 rfl rfl)
theorem dX2_goOn_103 : decode cX2_goOn 103 = .ok (.getfield 164, 3) := dk_180 0 164 (dk_at dksX2_goOn_4 10 rfl rfl)
theorem dX2_goOn_106 : decode cX2_goOn 106 = .ok (.putfield 182, 3) := dk_181 0 182 (dk_at dksX2_goOn_4 13 rfl rfl)
theorem dX2_goOn_109 : decode cX2_goOn 109 = .ok (.goto 273, 3) := dk_167 1 17 (dk_at dksX2_goOn_4 16 rfl rfl)
theorem dX2_goOn_112 : decode cX2_goOn 112 = .ok (.iload_n 1, 1) := dk_27 (dk_at dksX2_goOn_4 19 rfl rfl)
theorem dX2_goOn_113 : decode cX2_goOn 113 = .ok (.invokestatic 195, 3) := dk_184 0 195 (dk_at dksX2_goOn_4 20 rfl rfl)
theorem dX2_goOn_116 : decode cX2_goOn 116 = .ok (.ifCond .eq 123, 3) := dk_153 0 123 (dk_at dksX2_goOn_5 0 rfl rfl)
theorem dX2_goOn_119 : decode cX2_goOn 119 = .ok (.aload_n 0, 1) := dk_42 (dk_at dksX2_goOn_5 3 rfl rfl)
theorem dX2_goOn_120 : decode cX2_goOn 120 = .ok (.aload_n 0, 1) := dk_42 (dk_at dksX2_goOn_5 4 rfl rfl)
theorem dX2_goOn_121 : decode cX2_goOn 121 = .ok (.getfield 182, 3) := dk_180 0 182 (dk_at dksX2_goOn_5 5 rfl rfl)
theorem dX2_goOn_124 : decode cX2_goOn 124 = .ok (.invokevirtual 188, 3) := dk_182 0 188 (dk_at dksX2_goOn_5 8 rfl rfl)
theorem dX2_goOn_127 : decode cX2_goOn 127 = .ok (.invokestatic 195, 3) := dk_184 0 195 (dk_at dksX2_goOn_5 11 rfl rfl)
theorem dX2_goOn_130 : decode cX2_goOn 130 = .ok (.ifCond .eq 16, 3) := dk_153 0 16 (dk_at dksX2_goOn_5 14 rfl rfl)
theorem dX2_goOn_133 : decode cX2_goOn 133 = .ok (.aload_n 0, 1) := dk_42 (dk_at dksX2_goOn_5 17 rfl rfl)
theorem dX2_goOn_134 : decode cX2_goOn 134 = .ok (.dup, 1) := dk_89 (dk_at dksX2_goOn_5 18 rfl rfl)
theorem dX2_goOn_135 : decode cX2_goOn 135 = .ok (.getfield 182, 3) := dk_180 0 182 (dk_at dksX2_goOn_5 19 rfl rfl)
theorem dX2_goOn_138 : decode cX2_goOn 138 = .ok (.iconst 1, 1) := dk_4 (dk_at dksX2_goOn_5 22 rfl rfl)
theorem dX2_goOn_139 : decode cX2_goOn 139 = .ok (.iadd, 1) := dk_96 (dk_at dksX2_goOn_5 23 rfl rfl)
theorem dX2_goOn_140 : decode cX2_goOn 140 = .ok (.putfield 182, 3) := dk_181 0 182 (dk_at dksX2_goOn_6 0 rfl rfl)
theorem dX2_goOn_143 : decode cX2_goOn 143 = .ok (.goto (-24), 3) := dk_167 255 232 (dk_at dksX2_goOn_6 3 rfl rfl)
theorem dX2_goOn_146 : decode cX2_goOn 146 = .ok (.aload_n 0, 1) := dk_42 (dk_at dksX2_goOn_6 6 rfl rfl)
theorem dX2_goOn_147 : decode cX2_goOn 147 = .ok (.lconst 0, 1) := dk_9 (dk_at dksX2_goOn_6 7 rfl rfl)
theorem dX2_goOn_148 : decode cX2_goOn 148 = .ok (.putfield 199, 3) := dk_181 0 199 (dk_at dksX2_goOn_6 8 rfl rfl)
theorem dX2_goOn_151 : decode cX2_goOn 151 = .ok (.aload_n 0, 1) := dk_42 (dk_at dksX2_goOn_6 11 rfl rfl)
theorem dX2_goOn_152 : decode cX2_goOn 152 = .ok (.getfield 185, 3) := dk_180 0 185 (dk_at dksX2_goOn_6 12 rfl rfl)
theorem dX2_goOn_155 : decode cX2_goOn 155 = .ok (.istore_n 2, 1) := dk_61 (dk_at dksX2_goOn_6 15 rfl rfl)
theorem dX2_goOn_156 : decode cX2_goOn 156 = .ok (.iload_n 2, 1) := dk_28 (dk_at dksX2_goOn_6 16 rfl rfl)
theorem dX2_goOn_157 : decode cX2_goOn 157 = .ok (.aload_n 0, 1) := dk_42 (dk_at dksX2_goOn_6 17 rfl rfl)
theorem dX2_goOn_158 : decode cX2_goOn 158 = .ok (.getfield 182, 3) := dk_180 0 182 (dk_at dksX2_goOn_6 18 rfl rfl)
theorem dX2_goOn_161 : decode cX2_goOn 161 = .ok (.if_icmp .ge 38, 3) := dk_162 0 38 (dk_at dksX2_goOn_6 21 rfl rfl)
theorem dX2_goOn_164 : decode cX2_goOn 164 = .ok (.iload_n 2, 1) := dk_28 (dk_at dksX2_goOn_7 0 rfl rfl)
theorem dX2_goOn_165 : decode cX2_goOn 165 = .ok (.aload_n 0, 1) := dk_42 (dk_at dksX2_goOn_7 1 rfl rfl)
theorem dX2_goOn_166 : decode cX2_goOn 166 = .ok (.getfield 185, 3) := dk_180 0 185 (dk_at dksX2_goOn_7 2 rfl rfl)
theorem dX2_goOn_169 : decode cX2_goOn 169 = .ok (.bipush 8, 2) := dk_16 8 (dk_at dksX2_goOn_7 5 rfl rfl)
theorem dX2_goOn_171 : decode cX2_goOn 171 = .ok (.iadd, 1) := dk_96 (dk_at dksX2_goOn_7 7 rfl rfl)
theorem dX2_goOn_172 : decode cX2_goOn 172 = .ok (.if_icmp .ge 27, 3) := dk_162 0 27 (dk_at dksX2_goOn_7 8 rfl rfl)
theorem dX2_goOn_175 : decode cX2_goOn 175 = .ok (.aload_n 0, 1) := dk_42 (dk_at dksX2_goOn_7 11 rfl rfl)
theorem dX2_goOn_176 : decode cX2_goOn 176 = .ok (.aload_n 0, 1) := dk_42 (dk_at dksX2_goOn_7 12 rfl rfl)
theorem dX2_goOn_177 : decode cX2_goOn 177 = .ok (.getfield 199, 3) := dk_180 0 199 (dk_at dksX2_goOn_7 13 rfl rfl)
theorem dX2_goOn_180 : decode cX2_goOn 180 = .ok (.bipush 8, 2) := dk_16 8 (dk_at dksX2_goOn_7 16 rfl rfl)
theorem dX2_goOn_182 : decode cX2_goOn 182 = .ok (.lshl, 1) := dk_121 (dk_at dksX2_goOn_7 18 rfl rfl)
theorem dX2_goOn_183 : decode cX2_goOn 183 = .ok (.aload_n 0, 1) := dk_42 (dk_at dksX2_goOn_7 19 rfl rfl)
theorem dX2_goOn_184 : decode cX2_goOn 184 = .ok (.iload_n 2, 1) := dk_28 (dk_at dksX2_goOn_7 20 rfl rfl)
theorem dX2_goOn_185 : decode cX2_goOn 185 = .ok (.invokevirtual 188, 3) := dk_182 0 188 (dk_at dksX2_goOn_7 21 rfl rfl)
theorem dX2_goOn_188 : decode cX2_goOn 188 = .ok (.i2l, 1) := dk_133 (dk_at dksX2_goOn_8 0 rfl rfl)
theorem dX2_goOn_189 : decode cX2_goOn 189 = .ok (.lor, 1) := dk_129 (dk_at dksX2_goOn_8 1 rfl rfl)
theorem dX2_goOn_190 : decode cX2_goOn 190 = .ok (.putfield 199, 3) := dk_181 0 199 (dk_at dksX2_goOn_8 2 rfl rfl)
theorem dX2_goOn_193 : decode cX2_goOn 193 = .ok (.iinc 2 1, 3) := dk_132 2 1 (dk_at dksX2_goOn_8 5 rfl rfl)
theorem dX2_goOn_196 : decode cX2_goOn 196 = .ok (.goto (-40), 3) := dk_167 255 216 (dk_at dksX2_goOn_8 8 rfl rfl)
theorem dX2_goOn_199 : decode cX2_goOn 199 = .ok (.aload_n 0, 1) := dk_42 (dk_at dksX2_goOn_8 11 rfl rfl)
theorem dX2_goOn_200 : decode cX2_goOn 200 = .ok (.aload_n 0, 1) := dk_42 (dk_at dksX2_goOn_8 12 rfl rfl)
theorem dX2_goOn_201 : decode cX2_goOn 201 = .ok (.getfield 182, 3) := dk_180 0 182 (dk_at dksX2_goOn_8 13 rfl rfl)
theorem dX2_goOn_204 : decode cX2_goOn 204 = .ok (.aload_n 0, 1) := dk_42 (dk_at dksX2_goOn_8 16 rfl rfl)
theorem dX2_goOn_205 : decode cX2_goOn 205 = .ok (.getfield 185, 3) := dk_180 0 185 (dk_at dksX2_goOn_8 17 rfl rfl)
theorem dX2_goOn_208 : decode cX2_goOn 208 = .ok (.isub, 1) := dk_100 (dk_at dksX2_goOn_8 20 rfl rfl)
theorem dX2_goOn_209 : decode cX2_goOn 209 = .ok (.bipush 8, 2) := dk_16 8 (dk_at dksX2_goOn_8 21 rfl rfl)
theorem dX2_goOn_211 : decode cX2_goOn 211 = .ok (.if_icmp .le 7, 3) := dk_164 0 7 (dk_at dksX2_goOn_9 0 rfl rfl)
theorem dX2_goOn_214 : decode cX2_goOn 214 = .ok (.iconst 1, 1) := dk_4 (dk_at dksX2_goOn_9 3 rfl rfl)
theorem dX2_goOn_215 : decode cX2_goOn 215 = .ok (.goto 18, 3) := dk_167 0 18 (dk_at dksX2_goOn_9 4 rfl rfl)
theorem dX2_goOn_218 : decode cX2_goOn 218 = .ok (.aload_n 0, 1) := dk_42 (dk_at dksX2_goOn_9 7 rfl rfl)
theorem dX2_goOn_219 : decode cX2_goOn 219 = .ok (.getfield 199, 3) := dk_180 0 199 (dk_at dksX2_goOn_9 8 rfl rfl)
theorem dX2_goOn_222 : decode cX2_goOn 222 = .ok (.invokestatic 203, 3) := dk_184 0 203 (dk_at dksX2_goOn_9 11 rfl rfl)
theorem dX2_goOn_225 : decode cX2_goOn 225 = .ok (.ifCond .eq 7, 3) := dk_153 0 7 (dk_at dksX2_goOn_9 14 rfl rfl)
theorem dX2_goOn_228 : decode cX2_goOn 228 = .ok (.iconst 3, 1) := dk_6 (dk_at dksX2_goOn_9 17 rfl rfl)
theorem dX2_goOn_229 : decode cX2_goOn 229 = .ok (.goto 4, 3) := dk_167 0 4 (dk_at dksX2_goOn_9 18 rfl rfl)
theorem dX2_goOn_232 : decode cX2_goOn 232 = .ok (.iconst 2, 1) := dk_5 (dk_at dksX2_goOn_9 21 rfl rfl)
theorem dX2_goOn_233 : decode cX2_goOn 233 = .ok (.putfield 192, 3) := dk_181 0 192 (dk_at dksX2_goOn_10 0 rfl rfl)
theorem dX2_goOn_236 : decode cX2_goOn 236 = .ok (.goto 146, 3) := dk_167 0 146 (dk_at dksX2_goOn_10 3 rfl rfl)
theorem dX2_goOn_239 : decode cX2_goOn 239 = .ok (.iload_n 1, 1) := dk_27 (dk_at dksX2_goOn_10 6 rfl rfl)
theorem dX2_goOn_240 : decode cX2_goOn 240 = .ok (.invokestatic 207, 3) := dk_184 0 207 (dk_at dksX2_goOn_10 7 rfl rfl)
theorem dX2_goOn_243 : decode cX2_goOn 243 = .ok (.ifCond .eq 118, 3) := dk_153 0 118 (dk_at dksX2_goOn_10 10 rfl rfl)
theorem dX2_goOn_246 : decode cX2_goOn 246 = .ok (.aload_n 0, 1) := dk_42 (dk_at dksX2_goOn_10 13 rfl rfl)
theorem dX2_goOn_247 : decode cX2_goOn 247 = .ok (.iconst 0, 1) := dk_3 (dk_at dksX2_goOn_10 14 rfl rfl)
theorem dX2_goOn_248 : decode cX2_goOn 248 = .ok (.putfield 210, 3) := dk_181 0 210 (dk_at dksX2_goOn_10 15 rfl rfl)
theorem dX2_goOn_251 : decode cX2_goOn 251 = .ok (.aload_n 0, 1) := dk_42 (dk_at dksX2_goOn_10 18 rfl rfl)
theorem dX2_goOn_252 : decode cX2_goOn 252 = .ok (.aload_n 0, 1) := dk_42 (dk_at dksX2_goOn_10 19 rfl rfl)
theorem dX2_goOn_253 : decode cX2_goOn 253 = .ok (.getfield 185, 3) := dk_180 0 185 (dk_at dksX2_goOn_10 20 rfl rfl)
theorem dX2_goOn_256 : decode cX2_goOn 256 = .ok (.putfield 182, 3) := dk_181 0 182 (dk_at dksX2_goOn_11 0 rfl rfl)
theorem dX2_goOn_259 : decode cX2_goOn 259 = .ok (.aload_n 0, 1) := dk_42 (dk_at dksX2_goOn_11 3 rfl rfl)
theorem dX2_goOn_260 : decode cX2_goOn 260 = .ok (.aload_n 0, 1) := dk_42 (dk_at dksX2_goOn_11 4 rfl rfl)
theorem dX2_goOn_261 : decode cX2_goOn 261 = .ok (.getfield 182, 3) := dk_180 0 182 (dk_at dksX2_goOn_11 5 rfl rfl)
theorem dX2_goOn_264 : decode cX2_goOn 264 = .ok (.invokevirtual 188, 3) := dk_182 0 188 (dk_at dksX2_goOn_11 8 rfl rfl)
theorem dX2_goOn_267 : decode cX2_goOn 267 = .ok (.invokestatic 207, 3) := dk_184 0 207 (dk_at dksX2_goOn_11 11 rfl rfl)
theorem dX2_goOn_270 : decode cX2_goOn 270 = .ok (.ifCond .eq 52, 3) := dk_153 0 52 (dk_at dksX2_goOn_11 14 rfl rfl)
theorem dX2_goOn_273 : decode cX2_goOn 273 = .ok (.aload_n 0, 1) := dk_42 (dk_at dksX2_goOn_11 17 rfl rfl)
theorem dX2_goOn_274 : decode cX2_goOn 274 = .ok (.getfield 182, 3) := dk_180 0 182 (dk_at dksX2_goOn_11 18 rfl rfl)
theorem dX2_goOn_277 : decode cX2_goOn 277 = .ok (.aload_n 0, 1) := dk_42 (dk_at dksX2_goOn_11 21 rfl rfl)
theorem dX2_goOn_278 : decode cX2_goOn 278 = .ok (.getfield 185, 3) := dk_180 0 185 (dk_at dksX2_goOn_12 0 rfl rfl)
theorem dX2_goOn_281 : decode cX2_goOn 281 = .ok (.isub, 1) := dk_100 (dk_at dksX2_goOn_12 3 rfl rfl)
theorem dX2_goOn_282 : decode cX2_goOn 282 = .ok (.iconst 4, 1) := dk_7 (dk_at dksX2_goOn_12 4 rfl rfl)
theorem dX2_goOn_283 : decode cX2_goOn 283 = .ok (.if_icmp .ge 26, 3) := dk_162 0 26 (dk_at dksX2_goOn_12 5 rfl rfl)
theorem dX2_goOn_286 : decode cX2_goOn 286 = .ok (.aload_n 0, 1) := dk_42 (dk_at dksX2_goOn_12 8 rfl rfl)
theorem dX2_goOn_287 : decode cX2_goOn 287 = .ok (.bipush 10, 2) := dk_16 10 (dk_at dksX2_goOn_12 9 rfl rfl)
theorem dX2_goOn_289 : decode cX2_goOn 289 = .ok (.aload_n 0, 1) := dk_42 (dk_at dksX2_goOn_12 11 rfl rfl)
theorem dX2_goOn_290 : decode cX2_goOn 290 = .ok (.getfield 210, 3) := dk_180 0 210 (dk_at dksX2_goOn_12 12 rfl rfl)
theorem dX2_goOn_293 : decode cX2_goOn 293 = .ok (.imul, 1) := dk_104 (dk_at dksX2_goOn_12 15 rfl rfl)
theorem dX2_goOn_294 : decode cX2_goOn 294 = .ok (.aload_n 0, 1) := dk_42 (dk_at dksX2_goOn_12 16 rfl rfl)
theorem dX2_goOn_295 : decode cX2_goOn 295 = .ok (.aload_n 0, 1) := dk_42 (dk_at dksX2_goOn_12 17 rfl rfl)
theorem dX2_goOn_296 : decode cX2_goOn 296 = .ok (.getfield 182, 3) := dk_180 0 182 (dk_at dksX2_goOn_12 18 rfl rfl)
theorem dX2_goOn_299 : decode cX2_goOn 299 = .ok (.invokevirtual 188, 3) := dk_182 0 188 (dk_at dksX2_goOn_12 21 rfl rfl)
theorem dX2_goOn_302 : decode cX2_goOn 302 = .ok (.iadd, 1) := dk_96 (dk_at dksX2_goOn_13 0 rfl rfl)
theorem dX2_goOn_303 : decode cX2_goOn 303 = .ok (.bipush 48, 2) := dk_16 48 (dk_at dksX2_goOn_13 1 rfl rfl)
theorem dX2_goOn_305 : decode cX2_goOn 305 = .ok (.isub, 1) := dk_100 (dk_at dksX2_goOn_13 3 rfl rfl)
theorem dX2_goOn_306 : decode cX2_goOn 306 = .ok (.putfield 210, 3) := dk_181 0 210 (dk_at dksX2_goOn_13 4 rfl rfl)
theorem dX2_goOn_309 : decode cX2_goOn 309 = .ok (.aload_n 0, 1) := dk_42 (dk_at dksX2_goOn_13 7 rfl rfl)
theorem dX2_goOn_310 : decode cX2_goOn 310 = .ok (.dup, 1) := dk_89 (dk_at dksX2_goOn_13 8 rfl rfl)
theorem dX2_goOn_311 : decode cX2_goOn 311 = .ok (.getfield 182, 3) := dk_180 0 182 (dk_at dksX2_goOn_13 9 rfl rfl)
theorem dX2_goOn_314 : decode cX2_goOn 314 = .ok (.iconst 1, 1) := dk_4 (dk_at dksX2_goOn_13 12 rfl rfl)
theorem dX2_goOn_315 : decode cX2_goOn 315 = .ok (.iadd, 1) := dk_96 (dk_at dksX2_goOn_13 13 rfl rfl)
theorem dX2_goOn_316 : decode cX2_goOn 316 = .ok (.putfield 182, 3) := dk_181 0 182 (dk_at dksX2_goOn_13 14 rfl rfl)
theorem dX2_goOn_319 : decode cX2_goOn 319 = .ok (.goto (-60), 3) := dk_167 255 196 (dk_at dksX2_goOn_13 17 rfl rfl)
theorem dX2_goOn_322 : decode cX2_goOn 322 = .ok (.aload_n 0, 1) := dk_42 (dk_at dksX2_goOn_13 20 rfl rfl)
theorem dX2_goOn_323 : decode cX2_goOn 323 = .ok (.aload_n 0, 1) := dk_42 (dk_at dksX2_goOn_13 21 rfl rfl)
theorem dX2_goOn_324 : decode cX2_goOn 324 = .ok (.getfield 182, 3) := dk_180 0 182 (dk_at dksX2_goOn_14 0 rfl rfl)
theorem dX2_goOn_327 : decode cX2_goOn 327 = .ok (.aload_n 0, 1) := dk_42 (dk_at dksX2_goOn_14 3 rfl rfl)
theorem dX2_goOn_328 : decode cX2_goOn 328 = .ok (.getfield 185, 3) := dk_180 0 185 (dk_at dksX2_goOn_14 4 rfl rfl)
theorem dX2_goOn_331 : decode cX2_goOn 331 = .ok (.isub, 1) := dk_100 (dk_at dksX2_goOn_14 7 rfl rfl)
theorem dX2_goOn_332 : decode cX2_goOn 332 = .ok (.iconst 4, 1) := dk_7 (dk_at dksX2_goOn_14 8 rfl rfl)
theorem dX2_goOn_333 : decode cX2_goOn 333 = .ok (.if_icmp .gt 17, 3) := dk_163 0 17 (dk_at dksX2_goOn_14 9 rfl rfl)
theorem dX2_goOn_336 : decode cX2_goOn 336 = .ok (.aload_n 0, 1) := dk_42 (dk_at dksX2_goOn_14 12 rfl rfl)
theorem dX2_goOn_337 : decode cX2_goOn 337 = .ok (.aload_n 0, 1) := dk_42 (dk_at dksX2_goOn_14 13 rfl rfl)
theorem dX2_goOn_338 : decode cX2_goOn 338 = .ok (.getfield 182, 3) := dk_180 0 182 (dk_at dksX2_goOn_14 14 rfl rfl)
theorem dX2_goOn_341 : decode cX2_goOn 341 = .ok (.invokevirtual 188, 3) := dk_182 0 188 (dk_at dksX2_goOn_14 17 rfl rfl)
theorem dX2_goOn_344 : decode cX2_goOn 344 = .ok (.invokestatic 195, 3) := dk_184 0 195 (dk_at dksX2_goOn_14 20 rfl rfl)
theorem dX2_goOn_347 : decode cX2_goOn 347 = .ok (.ifCond .eq 7, 3) := dk_153 0 7 (dk_at dksX2_goOn_15 0 rfl rfl)
theorem dX2_goOn_350 : decode cX2_goOn 350 = .ok (.iconst 1, 1) := dk_4 (dk_at dksX2_goOn_15 3 rfl rfl)
theorem dX2_goOn_351 : decode cX2_goOn 351 = .ok (.goto 4, 3) := dk_167 0 4 (dk_at dksX2_goOn_15 4 rfl rfl)
theorem dX2_goOn_354 : decode cX2_goOn 354 = .ok (.iconst 4, 1) := dk_7 (dk_at dksX2_goOn_15 7 rfl rfl)
theorem dX2_goOn_355 : decode cX2_goOn 355 = .ok (.putfield 192, 3) := dk_181 0 192 (dk_at dksX2_goOn_15 8 rfl rfl)
theorem dX2_goOn_358 : decode cX2_goOn 358 = .ok (.goto 24, 3) := dk_167 0 24 (dk_at dksX2_goOn_15 11 rfl rfl)
theorem dX2_goOn_361 : decode cX2_goOn 361 = .ok (.aload_n 0, 1) := dk_42 (dk_at dksX2_goOn_15 14 rfl rfl)
theorem dX2_goOn_362 : decode cX2_goOn 362 = .ok (.iload_n 1, 1) := dk_27 (dk_at dksX2_goOn_15 15 rfl rfl)
theorem dX2_goOn_363 : decode cX2_goOn 363 = .ok (.bipush 59, 2) := dk_16 59 (dk_at dksX2_goOn_15 16 rfl rfl)
theorem dX2_goOn_365 : decode cX2_goOn 365 = .ok (.if_icmp .eq 9, 3) := dk_159 0 9 (dk_at dksX2_goOn_15 18 rfl rfl)
theorem dX2_goOn_368 : decode cX2_goOn 368 = .ok (.iload_n 1, 1) := dk_27 (dk_at dksX2_goOn_15 21 rfl rfl)
theorem dX2_goOn_369 : decode cX2_goOn 369 = .ok (.bipush 61, 2) := dk_16 61 (dk_at dksX2_goOn_15 22 rfl rfl)
theorem dX2_goOn_371 : decode cX2_goOn 371 = .ok (.if_icmp .ne 7, 3) := dk_160 0 7 (dk_at dksX2_goOn_16 0 rfl rfl)
theorem dX2_goOn_374 : decode cX2_goOn 374 = .ok (.iconst 5, 1) := dk_8 (dk_at dksX2_goOn_16 3 rfl rfl)
theorem dX2_goOn_375 : decode cX2_goOn 375 = .ok (.goto 4, 3) := dk_167 0 4 (dk_at dksX2_goOn_16 4 rfl rfl)
theorem dX2_goOn_378 : decode cX2_goOn 378 = .ok (.iconst 1, 1) := dk_4 (dk_at dksX2_goOn_16 7 rfl rfl)
theorem dX2_goOn_379 : decode cX2_goOn 379 = .ok (.putfield 192, 3) := dk_181 0 192 (dk_at dksX2_goOn_16 8 rfl rfl)
theorem dX2_goOn_382 : decode cX2_goOn 382 = .ok (.return_, 1) := dk_177 (dk_at dksX2_goOn_16 11 rfl rfl)
abbrev cX2_sign : ByteArray := prog_9_method_2_code
def yX2_sign : MethodName := ⟨RX2, "sign", "(I)I"⟩
def dkwX2_sign_0 : List UInt8 := [27, 42, 180, 0, 164, 162, 0, 16, 42, 180, 0, 13, 27, 51, 17, 0, 255, 126, 167, 0, 4, 3, 172]
abbrev dktX2_sign_0 : List UInt8 := dkwX2_sign_0 ++ []
theorem dksX2_sign_0 : cX2_sign.data.toList.drop 0 = dktX2_sign_0 := by decide +kernel
theorem dX2_sign_0 : decode cX2_sign 0 = .ok (.iload_n 1, 1) := dk_27 (dk_at dksX2_sign_0 0 rfl rfl)
theorem dX2_sign_1 : decode cX2_sign 1 = .ok (.aload_n 0, 1) := dk_42 (dk_at dksX2_sign_0 1 rfl rfl)
theorem dX2_sign_2 : decode cX2_sign 2 = .ok (.getfield 164, 3) := dk_180 0 164 (dk_at dksX2_sign_0 2 rfl rfl)
theorem dX2_sign_5 : decode cX2_sign 5 = .ok (.if_icmp .ge 16, 3) := dk_162 0 16 (dk_at dksX2_sign_0 5 rfl rfl)
theorem dX2_sign_8 : decode cX2_sign 8 = .ok (.aload_n 0, 1) := dk_42 (dk_at dksX2_sign_0 8 rfl rfl)
theorem dX2_sign_9 : decode cX2_sign 9 = .ok (.getfield 13, 3) := dk_180 0 13 (dk_at dksX2_sign_0 9 rfl rfl)
theorem dX2_sign_12 : decode cX2_sign 12 = .ok (.iload_n 1, 1) := dk_27 (dk_at dksX2_sign_0 12 rfl rfl)
theorem dX2_sign_13 : decode cX2_sign 13 = .ok (.baload, 1) := dk_51 (dk_at dksX2_sign_0 13 rfl rfl)
theorem dX2_sign_14 : decode cX2_sign 14 = .ok (.sipush 255, 3) := dk_17 0 255 (dk_at dksX2_sign_0 14 rfl rfl)
theorem dX2_sign_17 : decode cX2_sign 17 = .ok (.iand, 1) := dk_126 (dk_at dksX2_sign_0 17 rfl rfl)
theorem dX2_sign_18 : decode cX2_sign 18 = .ok (.goto 4, 3) := dk_167 0 4 (dk_at dksX2_sign_0 18 rfl rfl)
theorem dX2_sign_21 : decode cX2_sign 21 = .ok (.iconst 0, 1) := dk_3 (dk_at dksX2_sign_0 21 rfl rfl)
theorem dX2_sign_22 : decode cX2_sign 22 = .ok (.ireturn, 1) := dk_172 (dk_at dksX2_sign_0 22 rfl rfl)
abbrev cX2_isLetter : ByteArray := prog_9_method_3_code
def yX2_isLetter : MethodName := ⟨RX2, "isLetter", "(I)Z"⟩
def dkwX2_isLetter_0 : List UInt8 := [26, 16, 97, 161, 0, 13, 26, 16, 122, 163, 0, 7, 4, 167, 0, 4, 3, 172]
abbrev dktX2_isLetter_0 : List UInt8 := dkwX2_isLetter_0 ++ []
theorem dksX2_isLetter_0 : cX2_isLetter.data.toList.drop 0 = dktX2_isLetter_0 := by decide +kernel
theorem dX2_isLetter_0 : decode cX2_isLetter 0 = .ok (.iload_n 0, 1) := dk_26 (dk_at dksX2_isLetter_0 0 rfl rfl)
theorem dX2_isLetter_1 : decode cX2_isLetter 1 = .ok (.bipush 97, 2) := dk_16 97 (dk_at dksX2_isLetter_0 1 rfl rfl)
theorem dX2_isLetter_3 : decode cX2_isLetter 3 = .ok (.if_icmp .lt 13, 3) := dk_161 0 13 (dk_at dksX2_isLetter_0 3 rfl rfl)
theorem dX2_isLetter_6 : decode cX2_isLetter 6 = .ok (.iload_n 0, 1) := dk_26 (dk_at dksX2_isLetter_0 6 rfl rfl)
theorem dX2_isLetter_7 : decode cX2_isLetter 7 = .ok (.bipush 122, 2) := dk_16 122 (dk_at dksX2_isLetter_0 7 rfl rfl)
theorem dX2_isLetter_9 : decode cX2_isLetter 9 = .ok (.if_icmp .gt 7, 3) := dk_163 0 7 (dk_at dksX2_isLetter_0 9 rfl rfl)
theorem dX2_isLetter_12 : decode cX2_isLetter 12 = .ok (.iconst 1, 1) := dk_4 (dk_at dksX2_isLetter_0 12 rfl rfl)
theorem dX2_isLetter_13 : decode cX2_isLetter 13 = .ok (.goto 4, 3) := dk_167 0 4 (dk_at dksX2_isLetter_0 13 rfl rfl)
theorem dX2_isLetter_16 : decode cX2_isLetter 16 = .ok (.iconst 0, 1) := dk_3 (dk_at dksX2_isLetter_0 16 rfl rfl)
theorem dX2_isLetter_17 : decode cX2_isLetter 17 = .ok (.ireturn, 1) := dk_172 (dk_at dksX2_isLetter_0 17 rfl rfl)
abbrev cX2_isKept : ByteArray := prog_9_method_7_code
def yX2_isKept : MethodName := ⟨RX2, "isKept", "(J)Z"⟩
def dkwX2_isKept_2 : List UInt8 := [4, 167, 0, 4, 3, 172]
abbrev dktX2_isKept_2 : List UInt8 := dkwX2_isKept_2 ++ []
def dkwX2_isKept_1 : List UInt8 := [30, 20, 0, 176, 148, 153, 0, 19, 30, 20, 0, 178, 148, 153, 0, 11, 30, 20, 0, 180, 148, 154, 0, 7]
abbrev dktX2_isKept_1 : List UInt8 := dkwX2_isKept_1 ++ dktX2_isKept_2
def dkwX2_isKept_0 : List UInt8 := [30, 20, 0, 170, 148, 153, 0, 43, 30, 20, 0, 172, 148, 153, 0, 35, 30, 20, 0, 174, 148, 153, 0, 27]
abbrev dktX2_isKept_0 : List UInt8 := dkwX2_isKept_0 ++ dktX2_isKept_1
theorem dksX2_isKept_0 : cX2_isKept.data.toList.drop 0 = dktX2_isKept_0 := by decide +kernel
theorem dksX2_isKept_1 : cX2_isKept.data.toList.drop 24 = dktX2_isKept_1 := dk_seg dksX2_isKept_0 24 rfl rfl
theorem dksX2_isKept_2 : cX2_isKept.data.toList.drop 48 = dktX2_isKept_2 := dk_seg dksX2_isKept_1 24 rfl rfl
theorem dX2_isKept_0 : decode cX2_isKept 0 = .ok (.lload_n 0, 1) := dk_30 (dk_at dksX2_isKept_0 0 rfl rfl)
theorem dX2_isKept_1 : decode cX2_isKept 1 = .ok (.ldc2_w 170, 3) := dk_20 0 170 (dk_at dksX2_isKept_0 1 rfl rfl)
theorem dX2_isKept_4 : decode cX2_isKept 4 = .ok (.lcmp, 1) := dk_148 (dk_at dksX2_isKept_0 4 rfl rfl)
theorem dX2_isKept_5 : decode cX2_isKept 5 = .ok (.ifCond .eq 43, 3) := dk_153 0 43 (dk_at dksX2_isKept_0 5 rfl rfl)
theorem dX2_isKept_8 : decode cX2_isKept 8 = .ok (.lload_n 0, 1) := dk_30 (dk_at dksX2_isKept_0 8 rfl rfl)
theorem dX2_isKept_9 : decode cX2_isKept 9 = .ok (.ldc2_w 172, 3) := dk_20 0 172 (dk_at dksX2_isKept_0 9 rfl rfl)
theorem dX2_isKept_12 : decode cX2_isKept 12 = .ok (.lcmp, 1) := dk_148 (dk_at dksX2_isKept_0 12 rfl rfl)
theorem dX2_isKept_13 : decode cX2_isKept 13 = .ok (.ifCond .eq 35, 3) := dk_153 0 35 (dk_at dksX2_isKept_0 13 rfl rfl)
theorem dX2_isKept_16 : decode cX2_isKept 16 = .ok (.lload_n 0, 1) := dk_30 (dk_at dksX2_isKept_0 16 rfl rfl)
theorem dX2_isKept_17 : decode cX2_isKept 17 = .ok (.ldc2_w 174, 3) := dk_20 0 174 (dk_at dksX2_isKept_0 17 rfl rfl)
theorem dX2_isKept_20 : decode cX2_isKept 20 = .ok (.lcmp, 1) := dk_148 (dk_at dksX2_isKept_0 20 rfl rfl)
theorem dX2_isKept_21 : decode cX2_isKept 21 = .ok (.ifCond .eq 27, 3) := dk_153 0 27 (dk_at dksX2_isKept_0 21 rfl rfl)
theorem dX2_isKept_24 : decode cX2_isKept 24 = .ok (.lload_n 0, 1) := dk_30 (dk_at dksX2_isKept_1 0 rfl rfl)
theorem dX2_isKept_25 : decode cX2_isKept 25 = .ok (.ldc2_w 176, 3) := dk_20 0 176 (dk_at dksX2_isKept_1 1 rfl rfl)
theorem dX2_isKept_28 : decode cX2_isKept 28 = .ok (.lcmp, 1) := dk_148 (dk_at dksX2_isKept_1 4 rfl rfl)
theorem dX2_isKept_29 : decode cX2_isKept 29 = .ok (.ifCond .eq 19, 3) := dk_153 0 19 (dk_at dksX2_isKept_1 5 rfl rfl)
theorem dX2_isKept_32 : decode cX2_isKept 32 = .ok (.lload_n 0, 1) := dk_30 (dk_at dksX2_isKept_1 8 rfl rfl)
theorem dX2_isKept_33 : decode cX2_isKept 33 = .ok (.ldc2_w 178, 3) := dk_20 0 178 (dk_at dksX2_isKept_1 9 rfl rfl)
theorem dX2_isKept_36 : decode cX2_isKept 36 = .ok (.lcmp, 1) := dk_148 (dk_at dksX2_isKept_1 12 rfl rfl)
theorem dX2_isKept_37 : decode cX2_isKept 37 = .ok (.ifCond .eq 11, 3) := dk_153 0 11 (dk_at dksX2_isKept_1 13 rfl rfl)
theorem dX2_isKept_40 : decode cX2_isKept 40 = .ok (.lload_n 0, 1) := dk_30 (dk_at dksX2_isKept_1 16 rfl rfl)
theorem dX2_isKept_41 : decode cX2_isKept 41 = .ok (.ldc2_w 180, 3) := dk_20 0 180 (dk_at dksX2_isKept_1 17 rfl rfl)
theorem dX2_isKept_44 : decode cX2_isKept 44 = .ok (.lcmp, 1) := dk_148 (dk_at dksX2_isKept_1 20 rfl rfl)
theorem dX2_isKept_45 : decode cX2_isKept 45 = .ok (.ifCond .ne 7, 3) := dk_154 0 7 (dk_at dksX2_isKept_1 21 rfl rfl)
theorem dX2_isKept_48 : decode cX2_isKept 48 = .ok (.iconst 1, 1) := dk_4 (dk_at dksX2_isKept_2 0 rfl rfl)
theorem dX2_isKept_49 : decode cX2_isKept 49 = .ok (.goto 4, 3) := dk_167 0 4 (dk_at dksX2_isKept_2 1 rfl rfl)
theorem dX2_isKept_52 : decode cX2_isKept 52 = .ok (.iconst 0, 1) := dk_3 (dk_at dksX2_isKept_2 4 rfl rfl)
theorem dX2_isKept_53 : decode cX2_isKept 53 = .ok (.ireturn, 1) := dk_172 (dk_at dksX2_isKept_2 5 rfl rfl)
abbrev cX2_isDigit : ByteArray := prog_9_method_4_code
def yX2_isDigit : MethodName := ⟨RX2, "isDigit", "(I)Z"⟩
def dkwX2_isDigit_0 : List UInt8 := [26, 16, 48, 161, 0, 13, 26, 16, 57, 163, 0, 7, 4, 167, 0, 4, 3, 172]
abbrev dktX2_isDigit_0 : List UInt8 := dkwX2_isDigit_0 ++ []
theorem dksX2_isDigit_0 : cX2_isDigit.data.toList.drop 0 = dktX2_isDigit_0 := by decide +kernel
theorem dX2_isDigit_0 : decode cX2_isDigit 0 = .ok (.iload_n 0, 1) := dk_26 (dk_at dksX2_isDigit_0 0 rfl rfl)
theorem dX2_isDigit_1 : decode cX2_isDigit 1 = .ok (.bipush 48, 2) := dk_16 48 (dk_at dksX2_isDigit_0 1 rfl rfl)
theorem dX2_isDigit_3 : decode cX2_isDigit 3 = .ok (.if_icmp .lt 13, 3) := dk_161 0 13 (dk_at dksX2_isDigit_0 3 rfl rfl)
theorem dX2_isDigit_6 : decode cX2_isDigit 6 = .ok (.iload_n 0, 1) := dk_26 (dk_at dksX2_isDigit_0 6 rfl rfl)
theorem dX2_isDigit_7 : decode cX2_isDigit 7 = .ok (.bipush 57, 2) := dk_16 57 (dk_at dksX2_isDigit_0 7 rfl rfl)
theorem dX2_isDigit_9 : decode cX2_isDigit 9 = .ok (.if_icmp .gt 7, 3) := dk_163 0 7 (dk_at dksX2_isDigit_0 9 rfl rfl)
theorem dX2_isDigit_12 : decode cX2_isDigit 12 = .ok (.iconst 1, 1) := dk_4 (dk_at dksX2_isDigit_0 12 rfl rfl)
theorem dX2_isDigit_13 : decode cX2_isDigit 13 = .ok (.goto 4, 3) := dk_167 0 4 (dk_at dksX2_isDigit_0 13 rfl rfl)
theorem dX2_isDigit_16 : decode cX2_isDigit 16 = .ok (.iconst 0, 1) := dk_3 (dk_at dksX2_isDigit_0 16 rfl rfl)
theorem dX2_isDigit_17 : decode cX2_isDigit 17 = .ok (.ireturn, 1) := dk_172 (dk_at dksX2_isDigit_0 17 rfl rfl)
abbrev cX2_isGood : ByteArray := prog_9_method_6_code
def yX2_isGood : MethodName := ⟨RX2, "isGood", "()Z"⟩
def dkwX2_isGood_0 : List UInt8 := [42, 180, 0, 167, 154, 0, 7, 4, 167, 0, 4, 3, 172]
abbrev dktX2_isGood_0 : List UInt8 := dkwX2_isGood_0 ++ []
theorem dksX2_isGood_0 : cX2_isGood.data.toList.drop 0 = dktX2_isGood_0 := by decide +kernel
theorem dX2_isGood_0 : decode cX2_isGood 0 = .ok (.aload_n 0, 1) := dk_42 (dk_at dksX2_isGood_0 0 rfl rfl)
theorem dX2_isGood_1 : decode cX2_isGood 1 = .ok (.getfield 167, 3) := dk_180 0 167 (dk_at dksX2_isGood_0 1 rfl rfl)
theorem dX2_isGood_4 : decode cX2_isGood 4 = .ok (.ifCond .ne 7, 3) := dk_154 0 7 (dk_at dksX2_isGood_0 4 rfl rfl)
theorem dX2_isGood_7 : decode cX2_isGood 7 = .ok (.iconst 1, 1) := dk_4 (dk_at dksX2_isGood_0 7 rfl rfl)
theorem dX2_isGood_8 : decode cX2_isGood 8 = .ok (.goto 4, 3) := dk_167 0 4 (dk_at dksX2_isGood_0 8 rfl rfl)
theorem dX2_isGood_11 : decode cX2_isGood 11 = .ok (.iconst 0, 1) := dk_3 (dk_at dksX2_isGood_0 11 rfl rfl)
theorem dX2_isGood_12 : decode cX2_isGood 12 = .ok (.ireturn, 1) := dk_172 (dk_at dksX2_isGood_0 12 rfl rfl)
abbrev cX2_readLine : ByteArray := prog_9_method_17_code
def yX2_readLine : MethodName := ⟨RX2, "readLine", "()V"⟩
def dkwX2_readLine_5 : List UInt8 := [42, 16, 59, 182, 1, 17, 182, 1, 20, 177]
abbrev dktX2_readLine_5 : List UInt8 := dkwX2_readLine_5 ++ []
def dkwX2_readLine_4 : List UInt8 := [180, 0, 227, 42, 4, 16, 6, 182, 1, 10, 79, 31, 20, 0, 180, 148, 154, 0, 7, 42, 182, 1, 14, 42]
abbrev dktX2_readLine_4 : List UInt8 := dkwX2_readLine_4 ++ dktX2_readLine_5
def dkwX2_readLine_3 : List UInt8 := [31, 20, 0, 178, 148, 154, 0, 29, 42, 180, 0, 64, 42, 180, 0, 227, 4, 84, 42, 180, 0, 33, 42]
abbrev dktX2_readLine_3 : List UInt8 := dkwX2_readLine_3 ++ dktX2_readLine_4
def dkwX2_readLine_2 : List UInt8 := [31, 20, 0, 172, 148, 154, 0, 7, 42, 182, 1, 4, 31, 20, 0, 174, 148, 154, 0, 7, 42, 182, 1, 7]
abbrev dktX2_readLine_2 : List UInt8 := dkwX2_readLine_2 ++ dktX2_readLine_3
def dkwX2_readLine_1 : List UInt8 := [42, 182, 0, 217, 154, 0, 4, 177, 42, 182, 0, 221, 31, 20, 0, 170, 148, 154, 0, 7, 42, 182, 1, 1]
abbrev dktX2_readLine_1 : List UInt8 := dkwX2_readLine_1 ++ dktX2_readLine_2
def dkwX2_readLine_0 : List UInt8 := [42, 180, 0, 199, 64, 42, 180, 0, 192, 6, 160, 0, 10, 42, 182, 0, 254, 153, 0, 7, 42, 182, 0, 224]
abbrev dktX2_readLine_0 : List UInt8 := dkwX2_readLine_0 ++ dktX2_readLine_1
theorem dksX2_readLine_0 : cX2_readLine.data.toList.drop 0 = dktX2_readLine_0 := by decide +kernel
theorem dksX2_readLine_1 : cX2_readLine.data.toList.drop 24 = dktX2_readLine_1 := dk_seg dksX2_readLine_0 24 rfl rfl
theorem dksX2_readLine_2 : cX2_readLine.data.toList.drop 48 = dktX2_readLine_2 := dk_seg dksX2_readLine_1 24 rfl rfl
theorem dksX2_readLine_3 : cX2_readLine.data.toList.drop 72 = dktX2_readLine_3 := dk_seg dksX2_readLine_2 24 rfl rfl
theorem dksX2_readLine_4 : cX2_readLine.data.toList.drop 95 = dktX2_readLine_4 := dk_seg dksX2_readLine_3 23 rfl rfl
theorem dksX2_readLine_5 : cX2_readLine.data.toList.drop 119 = dktX2_readLine_5 := dk_seg dksX2_readLine_4 24 rfl rfl
theorem dX2_readLine_0 : decode cX2_readLine 0 = .ok (.aload_n 0, 1) := dk_42 (dk_at dksX2_readLine_0 0 rfl rfl)
theorem dX2_readLine_1 : decode cX2_readLine 1 = .ok (.getfield 199, 3) := dk_180 0 199 (dk_at dksX2_readLine_0 1 rfl rfl)
theorem dX2_readLine_4 : decode cX2_readLine 4 = .ok (.lstore_n 1, 1) := dk_64 (dk_at dksX2_readLine_0 4 rfl rfl)
theorem dX2_readLine_5 : decode cX2_readLine 5 = .ok (.aload_n 0, 1) := dk_42 (dk_at dksX2_readLine_0 5 rfl rfl)
theorem dX2_readLine_6 : decode cX2_readLine 6 = .ok (.getfield 192, 3) := dk_180 0 192 (dk_at dksX2_readLine_0 6 rfl rfl)
theorem dX2_readLine_9 : decode cX2_readLine 9 = .ok (.iconst 3, 1) := dk_6 (dk_at dksX2_readLine_0 9 rfl rfl)
theorem dX2_readLine_10 : decode cX2_readLine 10 = .ok (.if_icmp .ne 10, 3) := dk_160 0 10 (dk_at dksX2_readLine_0 10 rfl rfl)
theorem dX2_readLine_13 : decode cX2_readLine 13 = .ok (.aload_n 0, 1) := dk_42 (dk_at dksX2_readLine_0 13 rfl rfl)
theorem dX2_readLine_14 : decode cX2_readLine 14 = .ok (.invokevirtual 254, 3) := dk_182 0 254 (dk_at dksX2_readLine_0 14 rfl rfl)
theorem dX2_readLine_17 : decode cX2_readLine 17 = .ok (.ifCond .eq 7, 3) := dk_153 0 7 (dk_at dksX2_readLine_0 17 rfl rfl)
theorem dX2_readLine_20 : decode cX2_readLine 20 = .ok (.aload_n 0, 1) := dk_42 (dk_at dksX2_readLine_0 20 rfl rfl)
theorem dX2_readLine_21 : decode cX2_readLine 21 = .ok (.invokevirtual 224, 3) := dk_182 0 224 (dk_at dksX2_readLine_0 21 rfl rfl)
theorem dX2_readLine_24 : decode cX2_readLine 24 = .ok (.aload_n 0, 1) := dk_42 (dk_at dksX2_readLine_1 0 rfl rfl)
theorem dX2_readLine_25 : decode cX2_readLine 25 = .ok (.invokevirtual 217, 3) := dk_182 0 217 (dk_at dksX2_readLine_1 1 rfl rfl)
theorem dX2_readLine_28 : decode cX2_readLine 28 = .ok (.ifCond .ne 4, 3) := dk_154 0 4 (dk_at dksX2_readLine_1 4 rfl rfl)
theorem dX2_readLine_31 : decode cX2_readLine 31 = .ok (.return_, 1) := dk_177 (dk_at dksX2_readLine_1 7 rfl rfl)
theorem dX2_readLine_32 : decode cX2_readLine 32 = .ok (.aload_n 0, 1) := dk_42 (dk_at dksX2_readLine_1 8 rfl rfl)
theorem dX2_readLine_33 : decode cX2_readLine 33 = .ok (.invokevirtual 221, 3) := dk_182 0 221 (dk_at dksX2_readLine_1 9 rfl rfl)
theorem dX2_readLine_36 : decode cX2_readLine 36 = .ok (.lload_n 1, 1) := dk_31 (dk_at dksX2_readLine_1 12 rfl rfl)
theorem dX2_readLine_37 : decode cX2_readLine 37 = .ok (.ldc2_w 170, 3) := dk_20 0 170 (dk_at dksX2_readLine_1 13 rfl rfl)
theorem dX2_readLine_40 : decode cX2_readLine 40 = .ok (.lcmp, 1) := dk_148 (dk_at dksX2_readLine_1 16 rfl rfl)
theorem dX2_readLine_41 : decode cX2_readLine 41 = .ok (.ifCond .ne 7, 3) := dk_154 0 7 (dk_at dksX2_readLine_1 17 rfl rfl)
theorem dX2_readLine_44 : decode cX2_readLine 44 = .ok (.aload_n 0, 1) := dk_42 (dk_at dksX2_readLine_1 20 rfl rfl)
theorem dX2_readLine_45 : decode cX2_readLine 45 = .ok (.invokevirtual 257, 3) := dk_182 1 1 (dk_at dksX2_readLine_1 21 rfl rfl)
theorem dX2_readLine_48 : decode cX2_readLine 48 = .ok (.lload_n 1, 1) := dk_31 (dk_at dksX2_readLine_2 0 rfl rfl)
theorem dX2_readLine_49 : decode cX2_readLine 49 = .ok (.ldc2_w 172, 3) := dk_20 0 172 (dk_at dksX2_readLine_2 1 rfl rfl)
theorem dX2_readLine_52 : decode cX2_readLine 52 = .ok (.lcmp, 1) := dk_148 (dk_at dksX2_readLine_2 4 rfl rfl)
theorem dX2_readLine_53 : decode cX2_readLine 53 = .ok (.ifCond .ne 7, 3) := dk_154 0 7 (dk_at dksX2_readLine_2 5 rfl rfl)
theorem dX2_readLine_56 : decode cX2_readLine 56 = .ok (.aload_n 0, 1) := dk_42 (dk_at dksX2_readLine_2 8 rfl rfl)
theorem dX2_readLine_57 : decode cX2_readLine 57 = .ok (.invokevirtual 260, 3) := dk_182 1 4 (dk_at dksX2_readLine_2 9 rfl rfl)
theorem dX2_readLine_60 : decode cX2_readLine 60 = .ok (.lload_n 1, 1) := dk_31 (dk_at dksX2_readLine_2 12 rfl rfl)
theorem dX2_readLine_61 : decode cX2_readLine 61 = .ok (.ldc2_w 174, 3) := dk_20 0 174 (dk_at dksX2_readLine_2 13 rfl rfl)
theorem dX2_readLine_64 : decode cX2_readLine 64 = .ok (.lcmp, 1) := dk_148 (dk_at dksX2_readLine_2 16 rfl rfl)
theorem dX2_readLine_65 : decode cX2_readLine 65 = .ok (.ifCond .ne 7, 3) := dk_154 0 7 (dk_at dksX2_readLine_2 17 rfl rfl)
theorem dX2_readLine_68 : decode cX2_readLine 68 = .ok (.aload_n 0, 1) := dk_42 (dk_at dksX2_readLine_2 20 rfl rfl)
theorem dX2_readLine_69 : decode cX2_readLine 69 = .ok (.invokevirtual 263, 3) := dk_182 1 7 (dk_at dksX2_readLine_2 21 rfl rfl)
theorem dX2_readLine_72 : decode cX2_readLine 72 = .ok (.lload_n 1, 1) := dk_31 (dk_at dksX2_readLine_3 0 rfl rfl)
theorem dX2_readLine_73 : decode cX2_readLine 73 = .ok (.ldc2_w 178, 3) := dk_20 0 178 (dk_at dksX2_readLine_3 1 rfl rfl)
theorem dX2_readLine_76 : decode cX2_readLine 76 = .ok (.lcmp, 1) := dk_148 (dk_at dksX2_readLine_3 4 rfl rfl)
theorem dX2_readLine_77 : decode cX2_readLine 77 = .ok (.ifCond .ne 29, 3) := dk_154 0 29 (dk_at dksX2_readLine_3 5 rfl rfl)
theorem dX2_readLine_80 : decode cX2_readLine 80 = .ok (.aload_n 0, 1) := dk_42 (dk_at dksX2_readLine_3 8 rfl rfl)
theorem dX2_readLine_81 : decode cX2_readLine 81 = .ok (.getfield 64, 3) := dk_180 0 64 (dk_at dksX2_readLine_3 9 rfl rfl)
theorem dX2_readLine_84 : decode cX2_readLine 84 = .ok (.aload_n 0, 1) := dk_42 (dk_at dksX2_readLine_3 12 rfl rfl)
theorem dX2_readLine_85 : decode cX2_readLine 85 = .ok (.getfield 227, 3) := dk_180 0 227 (dk_at dksX2_readLine_3 13 rfl rfl)
theorem dX2_readLine_88 : decode cX2_readLine 88 = .ok (.iconst 1, 1) := dk_4 (dk_at dksX2_readLine_3 16 rfl rfl)
theorem dX2_readLine_89 : decode cX2_readLine 89 = .ok (.bastore, 1) := dk_84 (dk_at dksX2_readLine_3 17 rfl rfl)
theorem dX2_readLine_90 : decode cX2_readLine 90 = .ok (.aload_n 0, 1) := dk_42 (dk_at dksX2_readLine_3 18 rfl rfl)
theorem dX2_readLine_91 : decode cX2_readLine 91 = .ok (.getfield 33, 3) := dk_180 0 33 (dk_at dksX2_readLine_3 19 rfl rfl)
theorem dX2_readLine_94 : decode cX2_readLine 94 = .ok (.aload_n 0, 1) := dk_42 (dk_at dksX2_readLine_3 22 rfl rfl)
theorem dX2_readLine_95 : decode cX2_readLine 95 = .ok (.getfield 227, 3) := dk_180 0 227 (dk_at dksX2_readLine_4 0 rfl rfl)
theorem dX2_readLine_98 : decode cX2_readLine 98 = .ok (.aload_n 0, 1) := dk_42 (dk_at dksX2_readLine_4 3 rfl rfl)
theorem dX2_readLine_99 : decode cX2_readLine 99 = .ok (.iconst 1, 1) := dk_4 (dk_at dksX2_readLine_4 4 rfl rfl)
theorem dX2_readLine_100 : decode cX2_readLine 100 = .ok (.bipush 6, 2) := dk_16 6 (dk_at dksX2_readLine_4 5 rfl rfl)
theorem dX2_readLine_102 : decode cX2_readLine 102 = .ok (.invokevirtual 266, 3) := dk_182 1 10 (dk_at dksX2_readLine_4 7 rfl rfl)
theorem dX2_readLine_105 : decode cX2_readLine 105 = .ok (.iastore, 1) := dk_79 (dk_at dksX2_readLine_4 10 rfl rfl)
theorem dX2_readLine_106 : decode cX2_readLine 106 = .ok (.lload_n 1, 1) := dk_31 (dk_at dksX2_readLine_4 11 rfl rfl)
theorem dX2_readLine_107 : decode cX2_readLine 107 = .ok (.ldc2_w 180, 3) := dk_20 0 180 (dk_at dksX2_readLine_4 12 rfl rfl)
theorem dX2_readLine_110 : decode cX2_readLine 110 = .ok (.lcmp, 1) := dk_148 (dk_at dksX2_readLine_4 15 rfl rfl)
theorem dX2_readLine_111 : decode cX2_readLine 111 = .ok (.ifCond .ne 7, 3) := dk_154 0 7 (dk_at dksX2_readLine_4 16 rfl rfl)
theorem dX2_readLine_114 : decode cX2_readLine 114 = .ok (.aload_n 0, 1) := dk_42 (dk_at dksX2_readLine_4 19 rfl rfl)
theorem dX2_readLine_115 : decode cX2_readLine 115 = .ok (.invokevirtual 270, 3) := dk_182 1 14 (dk_at dksX2_readLine_4 20 rfl rfl)
theorem dX2_readLine_118 : decode cX2_readLine 118 = .ok (.aload_n 0, 1) := dk_42 (dk_at dksX2_readLine_4 23 rfl rfl)
theorem dX2_readLine_119 : decode cX2_readLine 119 = .ok (.aload_n 0, 1) := dk_42 (dk_at dksX2_readLine_5 0 rfl rfl)
theorem dX2_readLine_120 : decode cX2_readLine 120 = .ok (.bipush 59, 2) := dk_16 59 (dk_at dksX2_readLine_5 1 rfl rfl)
theorem dX2_readLine_122 : decode cX2_readLine 122 = .ok (.invokevirtual 273, 3) := dk_182 1 17 (dk_at dksX2_readLine_5 3 rfl rfl)
theorem dX2_readLine_125 : decode cX2_readLine 125 = .ok (.invokevirtual 276, 3) := dk_182 1 20 (dk_at dksX2_readLine_5 6 rfl rfl)
theorem dX2_readLine_128 : decode cX2_readLine 128 = .ok (.return_, 1) := dk_177 (dk_at dksX2_readLine_5 9 rfl rfl)
abbrev cX2_isFull : ByteArray := prog_9_method_16_code
def yX2_isFull : MethodName := ⟨RX2, "isFull", "()Z"⟩
def dkwX2_isFull_5 : List UInt8 := [153, 0, 15, 42, 180, 0, 36, 42, 180, 0, 227, 46, 158, 0, 7, 4, 167, 0, 4, 3, 172]
abbrev dktX2_isFull_5 : List UInt8 := dkwX2_isFull_5 ++ []
def dkwX2_isFull_4 : List UInt8 := [182, 0, 251, 153, 0, 13, 42, 180, 0, 64, 42, 180, 0, 227, 51, 172, 42, 20, 0, 180, 182, 0, 251]
abbrev dktX2_isFull_4 : List UInt8 := dkwX2_isFull_4 ++ dktX2_isFull_5
def dkwX2_isFull_3 : List UInt8 := [180, 0, 27, 42, 180, 0, 227, 46, 16, 8, 160, 0, 7, 4, 167, 0, 4, 3, 172, 42, 20, 0, 178]
abbrev dktX2_isFull_3 : List UInt8 := dkwX2_isFull_3 ++ dktX2_isFull_4
def dkwX2_isFull_2 : List UInt8 := [46, 16, 12, 160, 0, 7, 4, 167, 0, 4, 3, 172, 42, 20, 0, 174, 182, 0, 251, 153, 0, 23, 42]
abbrev dktX2_isFull_2 : List UInt8 := dkwX2_isFull_2 ++ dktX2_isFull_3
def dkwX2_isFull_1 : List UInt8 := [4, 167, 0, 4, 3, 172, 42, 20, 0, 172, 182, 0, 251, 153, 0, 23, 42, 180, 0, 24, 42, 180, 0, 227]
abbrev dktX2_isFull_1 : List UInt8 := dkwX2_isFull_1 ++ dktX2_isFull_2
def dkwX2_isFull_0 : List UInt8 := [42, 20, 0, 170, 182, 0, 251, 153, 0, 23, 42, 180, 0, 20, 42, 180, 0, 227, 46, 16, 8, 160, 0, 7]
abbrev dktX2_isFull_0 : List UInt8 := dkwX2_isFull_0 ++ dktX2_isFull_1
theorem dksX2_isFull_0 : cX2_isFull.data.toList.drop 0 = dktX2_isFull_0 := by decide +kernel
theorem dksX2_isFull_1 : cX2_isFull.data.toList.drop 24 = dktX2_isFull_1 := dk_seg dksX2_isFull_0 24 rfl rfl
theorem dksX2_isFull_2 : cX2_isFull.data.toList.drop 48 = dktX2_isFull_2 := dk_seg dksX2_isFull_1 24 rfl rfl
theorem dksX2_isFull_3 : cX2_isFull.data.toList.drop 71 = dktX2_isFull_3 := dk_seg dksX2_isFull_2 23 rfl rfl
theorem dksX2_isFull_4 : cX2_isFull.data.toList.drop 94 = dktX2_isFull_4 := dk_seg dksX2_isFull_3 23 rfl rfl
theorem dksX2_isFull_5 : cX2_isFull.data.toList.drop 117 = dktX2_isFull_5 := dk_seg dksX2_isFull_4 23 rfl rfl
theorem dX2_isFull_0 : decode cX2_isFull 0 = .ok (.aload_n 0, 1) := dk_42 (dk_at dksX2_isFull_0 0 rfl rfl)
theorem dX2_isFull_1 : decode cX2_isFull 1 = .ok (.ldc2_w 170, 3) := dk_20 0 170 (dk_at dksX2_isFull_0 1 rfl rfl)
theorem dX2_isFull_4 : decode cX2_isFull 4 = .ok (.invokevirtual 251, 3) := dk_182 0 251 (dk_at dksX2_isFull_0 4 rfl rfl)
theorem dX2_isFull_7 : decode cX2_isFull 7 = .ok (.ifCond .eq 23, 3) := dk_153 0 23 (dk_at dksX2_isFull_0 7 rfl rfl)
theorem dX2_isFull_10 : decode cX2_isFull 10 = .ok (.aload_n 0, 1) := dk_42 (dk_at dksX2_isFull_0 10 rfl rfl)
theorem dX2_isFull_11 : decode cX2_isFull 11 = .ok (.getfield 20, 3) := dk_180 0 20 (dk_at dksX2_isFull_0 11 rfl rfl)
theorem dX2_isFull_14 : decode cX2_isFull 14 = .ok (.aload_n 0, 1) := dk_42 (dk_at dksX2_isFull_0 14 rfl rfl)
theorem dX2_isFull_15 : decode cX2_isFull 15 = .ok (.getfield 227, 3) := dk_180 0 227 (dk_at dksX2_isFull_0 15 rfl rfl)
theorem dX2_isFull_18 : decode cX2_isFull 18 = .ok (.iaload, 1) := dk_46 (dk_at dksX2_isFull_0 18 rfl rfl)
theorem dX2_isFull_19 : decode cX2_isFull 19 = .ok (.bipush 8, 2) := dk_16 8 (dk_at dksX2_isFull_0 19 rfl rfl)
theorem dX2_isFull_21 : decode cX2_isFull 21 = .ok (.if_icmp .ne 7, 3) := dk_160 0 7 (dk_at dksX2_isFull_0 21 rfl rfl)
theorem dX2_isFull_24 : decode cX2_isFull 24 = .ok (.iconst 1, 1) := dk_4 (dk_at dksX2_isFull_1 0 rfl rfl)
theorem dX2_isFull_25 : decode cX2_isFull 25 = .ok (.goto 4, 3) := dk_167 0 4 (dk_at dksX2_isFull_1 1 rfl rfl)
theorem dX2_isFull_28 : decode cX2_isFull 28 = .ok (.iconst 0, 1) := dk_3 (dk_at dksX2_isFull_1 4 rfl rfl)
theorem dX2_isFull_29 : decode cX2_isFull 29 = .ok (.ireturn, 1) := dk_172 (dk_at dksX2_isFull_1 5 rfl rfl)
theorem dX2_isFull_30 : decode cX2_isFull 30 = .ok (.aload_n 0, 1) := dk_42 (dk_at dksX2_isFull_1 6 rfl rfl)
theorem dX2_isFull_31 : decode cX2_isFull 31 = .ok (.ldc2_w 172, 3) := dk_20 0 172 (dk_at dksX2_isFull_1 7 rfl rfl)
theorem dX2_isFull_34 : decode cX2_isFull 34 = .ok (.invokevirtual 251, 3) := dk_182 0 251 (dk_at dksX2_isFull_1 10 rfl rfl)
theorem dX2_isFull_37 : decode cX2_isFull 37 = .ok (.ifCond .eq 23, 3) := dk_153 0 23 (dk_at dksX2_isFull_1 13 rfl rfl)
theorem dX2_isFull_40 : decode cX2_isFull 40 = .ok (.aload_n 0, 1) := dk_42 (dk_at dksX2_isFull_1 16 rfl rfl)
theorem dX2_isFull_41 : decode cX2_isFull 41 = .ok (.getfield 24, 3) := dk_180 0 24 (dk_at dksX2_isFull_1 17 rfl rfl)
theorem dX2_isFull_44 : decode cX2_isFull 44 = .ok (.aload_n 0, 1) := dk_42 (dk_at dksX2_isFull_1 20 rfl rfl)
theorem dX2_isFull_45 : decode cX2_isFull 45 = .ok (.getfield 227, 3) := dk_180 0 227 (dk_at dksX2_isFull_1 21 rfl rfl)
theorem dX2_isFull_48 : decode cX2_isFull 48 = .ok (.iaload, 1) := dk_46 (dk_at dksX2_isFull_2 0 rfl rfl)
theorem dX2_isFull_49 : decode cX2_isFull 49 = .ok (.bipush 12, 2) := dk_16 12 (dk_at dksX2_isFull_2 1 rfl rfl)
theorem dX2_isFull_51 : decode cX2_isFull 51 = .ok (.if_icmp .ne 7, 3) := dk_160 0 7 (dk_at dksX2_isFull_2 3 rfl rfl)
theorem dX2_isFull_54 : decode cX2_isFull 54 = .ok (.iconst 1, 1) := dk_4 (dk_at dksX2_isFull_2 6 rfl rfl)
theorem dX2_isFull_55 : decode cX2_isFull 55 = .ok (.goto 4, 3) := dk_167 0 4 (dk_at dksX2_isFull_2 7 rfl rfl)
theorem dX2_isFull_58 : decode cX2_isFull 58 = .ok (.iconst 0, 1) := dk_3 (dk_at dksX2_isFull_2 10 rfl rfl)
theorem dX2_isFull_59 : decode cX2_isFull 59 = .ok (.ireturn, 1) := dk_172 (dk_at dksX2_isFull_2 11 rfl rfl)
theorem dX2_isFull_60 : decode cX2_isFull 60 = .ok (.aload_n 0, 1) := dk_42 (dk_at dksX2_isFull_2 12 rfl rfl)
theorem dX2_isFull_61 : decode cX2_isFull 61 = .ok (.ldc2_w 174, 3) := dk_20 0 174 (dk_at dksX2_isFull_2 13 rfl rfl)
theorem dX2_isFull_64 : decode cX2_isFull 64 = .ok (.invokevirtual 251, 3) := dk_182 0 251 (dk_at dksX2_isFull_2 16 rfl rfl)
theorem dX2_isFull_67 : decode cX2_isFull 67 = .ok (.ifCond .eq 23, 3) := dk_153 0 23 (dk_at dksX2_isFull_2 19 rfl rfl)
theorem dX2_isFull_70 : decode cX2_isFull 70 = .ok (.aload_n 0, 1) := dk_42 (dk_at dksX2_isFull_2 22 rfl rfl)
theorem dX2_isFull_71 : decode cX2_isFull 71 = .ok (.getfield 27, 3) := dk_180 0 27 (dk_at dksX2_isFull_3 0 rfl rfl)
theorem dX2_isFull_74 : decode cX2_isFull 74 = .ok (.aload_n 0, 1) := dk_42 (dk_at dksX2_isFull_3 3 rfl rfl)
theorem dX2_isFull_75 : decode cX2_isFull 75 = .ok (.getfield 227, 3) := dk_180 0 227 (dk_at dksX2_isFull_3 4 rfl rfl)
theorem dX2_isFull_78 : decode cX2_isFull 78 = .ok (.iaload, 1) := dk_46 (dk_at dksX2_isFull_3 7 rfl rfl)
theorem dX2_isFull_79 : decode cX2_isFull 79 = .ok (.bipush 8, 2) := dk_16 8 (dk_at dksX2_isFull_3 8 rfl rfl)
theorem dX2_isFull_81 : decode cX2_isFull 81 = .ok (.if_icmp .ne 7, 3) := dk_160 0 7 (dk_at dksX2_isFull_3 10 rfl rfl)
theorem dX2_isFull_84 : decode cX2_isFull 84 = .ok (.iconst 1, 1) := dk_4 (dk_at dksX2_isFull_3 13 rfl rfl)
theorem dX2_isFull_85 : decode cX2_isFull 85 = .ok (.goto 4, 3) := dk_167 0 4 (dk_at dksX2_isFull_3 14 rfl rfl)
theorem dX2_isFull_88 : decode cX2_isFull 88 = .ok (.iconst 0, 1) := dk_3 (dk_at dksX2_isFull_3 17 rfl rfl)
theorem dX2_isFull_89 : decode cX2_isFull 89 = .ok (.ireturn, 1) := dk_172 (dk_at dksX2_isFull_3 18 rfl rfl)
theorem dX2_isFull_90 : decode cX2_isFull 90 = .ok (.aload_n 0, 1) := dk_42 (dk_at dksX2_isFull_3 19 rfl rfl)
theorem dX2_isFull_91 : decode cX2_isFull 91 = .ok (.ldc2_w 178, 3) := dk_20 0 178 (dk_at dksX2_isFull_3 20 rfl rfl)
theorem dX2_isFull_94 : decode cX2_isFull 94 = .ok (.invokevirtual 251, 3) := dk_182 0 251 (dk_at dksX2_isFull_4 0 rfl rfl)
theorem dX2_isFull_97 : decode cX2_isFull 97 = .ok (.ifCond .eq 13, 3) := dk_153 0 13 (dk_at dksX2_isFull_4 3 rfl rfl)
theorem dX2_isFull_100 : decode cX2_isFull 100 = .ok (.aload_n 0, 1) := dk_42 (dk_at dksX2_isFull_4 6 rfl rfl)
theorem dX2_isFull_101 : decode cX2_isFull 101 = .ok (.getfield 64, 3) := dk_180 0 64 (dk_at dksX2_isFull_4 7 rfl rfl)
theorem dX2_isFull_104 : decode cX2_isFull 104 = .ok (.aload_n 0, 1) := dk_42 (dk_at dksX2_isFull_4 10 rfl rfl)
theorem dX2_isFull_105 : decode cX2_isFull 105 = .ok (.getfield 227, 3) := dk_180 0 227 (dk_at dksX2_isFull_4 11 rfl rfl)
theorem dX2_isFull_108 : decode cX2_isFull 108 = .ok (.baload, 1) := dk_51 (dk_at dksX2_isFull_4 14 rfl rfl)
theorem dX2_isFull_109 : decode cX2_isFull 109 = .ok (.ireturn, 1) := dk_172 (dk_at dksX2_isFull_4 15 rfl rfl)
theorem dX2_isFull_110 : decode cX2_isFull 110 = .ok (.aload_n 0, 1) := dk_42 (dk_at dksX2_isFull_4 16 rfl rfl)
theorem dX2_isFull_111 : decode cX2_isFull 111 = .ok (.ldc2_w 180, 3) := dk_20 0 180 (dk_at dksX2_isFull_4 17 rfl rfl)
theorem dX2_isFull_114 : decode cX2_isFull 114 = .ok (.invokevirtual 251, 3) := dk_182 0 251 (dk_at dksX2_isFull_4 20 rfl rfl)
theorem dX2_isFull_117 : decode cX2_isFull 117 = .ok (.ifCond .eq 15, 3) := dk_153 0 15 (dk_at dksX2_isFull_5 0 rfl rfl)
theorem dX2_isFull_120 : decode cX2_isFull 120 = .ok (.aload_n 0, 1) := dk_42 (dk_at dksX2_isFull_5 3 rfl rfl)
theorem dX2_isFull_121 : decode cX2_isFull 121 = .ok (.getfield 36, 3) := dk_180 0 36 (dk_at dksX2_isFull_5 4 rfl rfl)
theorem dX2_isFull_124 : decode cX2_isFull 124 = .ok (.aload_n 0, 1) := dk_42 (dk_at dksX2_isFull_5 7 rfl rfl)
theorem dX2_isFull_125 : decode cX2_isFull 125 = .ok (.getfield 227, 3) := dk_180 0 227 (dk_at dksX2_isFull_5 8 rfl rfl)
theorem dX2_isFull_128 : decode cX2_isFull 128 = .ok (.iaload, 1) := dk_46 (dk_at dksX2_isFull_5 11 rfl rfl)
theorem dX2_isFull_129 : decode cX2_isFull 129 = .ok (.ifCond .le 7, 3) := dk_158 0 7 (dk_at dksX2_isFull_5 12 rfl rfl)
theorem dX2_isFull_132 : decode cX2_isFull 132 = .ok (.iconst 1, 1) := dk_4 (dk_at dksX2_isFull_5 15 rfl rfl)
theorem dX2_isFull_133 : decode cX2_isFull 133 = .ok (.goto 4, 3) := dk_167 0 4 (dk_at dksX2_isFull_5 16 rfl rfl)
theorem dX2_isFull_136 : decode cX2_isFull 136 = .ok (.iconst 0, 1) := dk_3 (dk_at dksX2_isFull_5 19 rfl rfl)
theorem dX2_isFull_137 : decode cX2_isFull 137 = .ok (.ireturn, 1) := dk_172 (dk_at dksX2_isFull_5 20 rfl rfl)
abbrev cX2_isWord : ByteArray := prog_9_method_10_code
def yX2_isWord : MethodName := ⟨RX2, "isWord", "(J)Z"⟩
def dkwX2_isWord_0 : List UInt8 := [42, 180, 0, 192, 6, 160, 0, 16, 42, 180, 0, 199, 31, 148, 154, 0, 7, 4, 167, 0, 4, 3, 172]
abbrev dktX2_isWord_0 : List UInt8 := dkwX2_isWord_0 ++ []
theorem dksX2_isWord_0 : cX2_isWord.data.toList.drop 0 = dktX2_isWord_0 := by decide +kernel
theorem dX2_isWord_0 : decode cX2_isWord 0 = .ok (.aload_n 0, 1) := dk_42 (dk_at dksX2_isWord_0 0 rfl rfl)
theorem dX2_isWord_1 : decode cX2_isWord 1 = .ok (.getfield 192, 3) := dk_180 0 192 (dk_at dksX2_isWord_0 1 rfl rfl)
theorem dX2_isWord_4 : decode cX2_isWord 4 = .ok (.iconst 3, 1) := dk_6 (dk_at dksX2_isWord_0 4 rfl rfl)
theorem dX2_isWord_5 : decode cX2_isWord 5 = .ok (.if_icmp .ne 16, 3) := dk_160 0 16 (dk_at dksX2_isWord_0 5 rfl rfl)
theorem dX2_isWord_8 : decode cX2_isWord 8 = .ok (.aload_n 0, 1) := dk_42 (dk_at dksX2_isWord_0 8 rfl rfl)
theorem dX2_isWord_9 : decode cX2_isWord 9 = .ok (.getfield 199, 3) := dk_180 0 199 (dk_at dksX2_isWord_0 9 rfl rfl)
theorem dX2_isWord_12 : decode cX2_isWord 12 = .ok (.lload_n 1, 1) := dk_31 (dk_at dksX2_isWord_0 12 rfl rfl)
theorem dX2_isWord_13 : decode cX2_isWord 13 = .ok (.lcmp, 1) := dk_148 (dk_at dksX2_isWord_0 13 rfl rfl)
theorem dX2_isWord_14 : decode cX2_isWord 14 = .ok (.ifCond .ne 7, 3) := dk_154 0 7 (dk_at dksX2_isWord_0 14 rfl rfl)
theorem dX2_isWord_17 : decode cX2_isWord 17 = .ok (.iconst 1, 1) := dk_4 (dk_at dksX2_isWord_0 17 rfl rfl)
theorem dX2_isWord_18 : decode cX2_isWord 18 = .ok (.goto 4, 3) := dk_167 0 4 (dk_at dksX2_isWord_0 18 rfl rfl)
theorem dX2_isWord_21 : decode cX2_isWord 21 = .ok (.iconst 0, 1) := dk_3 (dk_at dksX2_isWord_0 21 rfl rfl)
theorem dX2_isWord_22 : decode cX2_isWord 22 = .ok (.ireturn, 1) := dk_172 (dk_at dksX2_isWord_0 22 rfl rfl)
abbrev cX2_misplaced : ByteArray := prog_9_method_11_code
def yX2_misplaced : MethodName := ⟨RX2, "misplaced", "()V"⟩
def dkwX2_misplaced_0 : List UInt8 := [42, 42, 180, 0, 192, 4, 160, 0, 7, 4, 167, 0, 4, 5, 42, 180, 0, 185, 182, 0, 213, 177]
abbrev dktX2_misplaced_0 : List UInt8 := dkwX2_misplaced_0 ++ []
theorem dksX2_misplaced_0 : cX2_misplaced.data.toList.drop 0 = dktX2_misplaced_0 := by decide +kernel
theorem dX2_misplaced_0 : decode cX2_misplaced 0 = .ok (.aload_n 0, 1) := dk_42 (dk_at dksX2_misplaced_0 0 rfl rfl)
theorem dX2_misplaced_1 : decode cX2_misplaced 1 = .ok (.aload_n 0, 1) := dk_42 (dk_at dksX2_misplaced_0 1 rfl rfl)
theorem dX2_misplaced_2 : decode cX2_misplaced 2 = .ok (.getfield 192, 3) := dk_180 0 192 (dk_at dksX2_misplaced_0 2 rfl rfl)
theorem dX2_misplaced_5 : decode cX2_misplaced 5 = .ok (.iconst 1, 1) := dk_4 (dk_at dksX2_misplaced_0 5 rfl rfl)
theorem dX2_misplaced_6 : decode cX2_misplaced 6 = .ok (.if_icmp .ne 7, 3) := dk_160 0 7 (dk_at dksX2_misplaced_0 6 rfl rfl)
theorem dX2_misplaced_9 : decode cX2_misplaced 9 = .ok (.iconst 1, 1) := dk_4 (dk_at dksX2_misplaced_0 9 rfl rfl)
theorem dX2_misplaced_10 : decode cX2_misplaced 10 = .ok (.goto 4, 3) := dk_167 0 4 (dk_at dksX2_misplaced_0 10 rfl rfl)
theorem dX2_misplaced_13 : decode cX2_misplaced 13 = .ok (.iconst 2, 1) := dk_5 (dk_at dksX2_misplaced_0 13 rfl rfl)
theorem dX2_misplaced_14 : decode cX2_misplaced 14 = .ok (.aload_n 0, 1) := dk_42 (dk_at dksX2_misplaced_0 14 rfl rfl)
theorem dX2_misplaced_15 : decode cX2_misplaced 15 = .ok (.getfield 185, 3) := dk_180 0 185 (dk_at dksX2_misplaced_0 15 rfl rfl)
theorem dX2_misplaced_18 : decode cX2_misplaced 18 = .ok (.invokevirtual 213, 3) := dk_182 0 213 (dk_at dksX2_misplaced_0 18 rfl rfl)
theorem dX2_misplaced_21 : decode cX2_misplaced 21 = .ok (.return_, 1) := dk_177 (dk_at dksX2_misplaced_0 21 rfl rfl)
abbrev cX2_fails : ByteArray := prog_9_method_5_code
def yX2_fails : MethodName := ⟨RX2, "fails", "(II)V"⟩
def dkwX2_fails_0 : List UInt8 := [42, 180, 0, 167, 158, 0, 4, 177, 42, 27, 181, 0, 167, 42, 28, 181, 0, 16, 177]
abbrev dktX2_fails_0 : List UInt8 := dkwX2_fails_0 ++ []
theorem dksX2_fails_0 : cX2_fails.data.toList.drop 0 = dktX2_fails_0 := by decide +kernel
theorem dX2_fails_0 : decode cX2_fails 0 = .ok (.aload_n 0, 1) := dk_42 (dk_at dksX2_fails_0 0 rfl rfl)
theorem dX2_fails_1 : decode cX2_fails 1 = .ok (.getfield 167, 3) := dk_180 0 167 (dk_at dksX2_fails_0 1 rfl rfl)
theorem dX2_fails_4 : decode cX2_fails 4 = .ok (.ifCond .le 4, 3) := dk_158 0 4 (dk_at dksX2_fails_0 4 rfl rfl)
theorem dX2_fails_7 : decode cX2_fails 7 = .ok (.return_, 1) := dk_177 (dk_at dksX2_fails_0 7 rfl rfl)
theorem dX2_fails_8 : decode cX2_fails 8 = .ok (.aload_n 0, 1) := dk_42 (dk_at dksX2_fails_0 8 rfl rfl)
theorem dX2_fails_9 : decode cX2_fails 9 = .ok (.iload_n 1, 1) := dk_27 (dk_at dksX2_fails_0 9 rfl rfl)
theorem dX2_fails_10 : decode cX2_fails 10 = .ok (.putfield 167, 3) := dk_181 0 167 (dk_at dksX2_fails_0 10 rfl rfl)
theorem dX2_fails_13 : decode cX2_fails 13 = .ok (.aload_n 0, 1) := dk_42 (dk_at dksX2_fails_0 13 rfl rfl)
theorem dX2_fails_14 : decode cX2_fails 14 = .ok (.iload_n 2, 1) := dk_28 (dk_at dksX2_fails_0 14 rfl rfl)
theorem dX2_fails_15 : decode cX2_fails 15 = .ok (.putfield 16, 3) := dk_181 0 16 (dk_at dksX2_fails_0 15 rfl rfl)
theorem dX2_fails_18 : decode cX2_fails 18 = .ok (.return_, 1) := dk_177 (dk_at dksX2_fails_0 18 rfl rfl)
abbrev cX2_readWord : ByteArray := prog_9_method_21_code
def yX2_readWord : MethodName := ⟨RX2, "readWord", "()V"⟩
def dkwX2_readWord_3 : List UInt8 := [96, 79, 177]
abbrev dktX2_readWord_3 : List UInt8 := dkwX2_readWord_3 ++ []
def dkwX2_readWord_2 : List UInt8 := [182, 1, 10, 16, 50, 100, 79, 132, 2, 1, 167, 255, 228, 42, 180, 0, 20, 42, 180, 0, 227, 92, 46, 4]
abbrev dktX2_readWord_2 : List UInt8 := dkwX2_readWord_2 ++ dktX2_readWord_3
def dkwX2_readWord_1 : List UInt8 := [182, 1, 31, 80, 3, 61, 28, 6, 162, 0, 29, 42, 180, 0, 42, 6, 27, 104, 28, 96, 42, 3, 16, 99]
abbrev dktX2_readWord_1 : List UInt8 := dkwX2_readWord_1 ++ dktX2_readWord_2
def dkwX2_readWord_0 : List UInt8 := [16, 8, 42, 180, 0, 227, 104, 42, 180, 0, 20, 42, 180, 0, 227, 46, 96, 60, 42, 180, 0, 67, 27, 42]
abbrev dktX2_readWord_0 : List UInt8 := dkwX2_readWord_0 ++ dktX2_readWord_1
theorem dksX2_readWord_0 : cX2_readWord.data.toList.drop 0 = dktX2_readWord_0 := by decide +kernel
theorem dksX2_readWord_1 : cX2_readWord.data.toList.drop 24 = dktX2_readWord_1 := dk_seg dksX2_readWord_0 24 rfl rfl
theorem dksX2_readWord_2 : cX2_readWord.data.toList.drop 48 = dktX2_readWord_2 := dk_seg dksX2_readWord_1 24 rfl rfl
theorem dksX2_readWord_3 : cX2_readWord.data.toList.drop 72 = dktX2_readWord_3 := dk_seg dksX2_readWord_2 24 rfl rfl
theorem dX2_readWord_0 : decode cX2_readWord 0 = .ok (.bipush 8, 2) := dk_16 8 (dk_at dksX2_readWord_0 0 rfl rfl)
theorem dX2_readWord_2 : decode cX2_readWord 2 = .ok (.aload_n 0, 1) := dk_42 (dk_at dksX2_readWord_0 2 rfl rfl)
theorem dX2_readWord_3 : decode cX2_readWord 3 = .ok (.getfield 227, 3) := dk_180 0 227 (dk_at dksX2_readWord_0 3 rfl rfl)
theorem dX2_readWord_6 : decode cX2_readWord 6 = .ok (.imul, 1) := dk_104 (dk_at dksX2_readWord_0 6 rfl rfl)
theorem dX2_readWord_7 : decode cX2_readWord 7 = .ok (.aload_n 0, 1) := dk_42 (dk_at dksX2_readWord_0 7 rfl rfl)
theorem dX2_readWord_8 : decode cX2_readWord 8 = .ok (.getfield 20, 3) := dk_180 0 20 (dk_at dksX2_readWord_0 8 rfl rfl)
theorem dX2_readWord_11 : decode cX2_readWord 11 = .ok (.aload_n 0, 1) := dk_42 (dk_at dksX2_readWord_0 11 rfl rfl)
theorem dX2_readWord_12 : decode cX2_readWord 12 = .ok (.getfield 227, 3) := dk_180 0 227 (dk_at dksX2_readWord_0 12 rfl rfl)
theorem dX2_readWord_15 : decode cX2_readWord 15 = .ok (.iaload, 1) := dk_46 (dk_at dksX2_readWord_0 15 rfl rfl)
theorem dX2_readWord_16 : decode cX2_readWord 16 = .ok (.iadd, 1) := dk_96 (dk_at dksX2_readWord_0 16 rfl rfl)
theorem dX2_readWord_17 : decode cX2_readWord 17 = .ok (.istore_n 1, 1) := dk_60 (dk_at dksX2_readWord_0 17 rfl rfl)
theorem dX2_readWord_18 : decode cX2_readWord 18 = .ok (.aload_n 0, 1) := dk_42 (dk_at dksX2_readWord_0 18 rfl rfl)
theorem dX2_readWord_19 : decode cX2_readWord 19 = .ok (.getfield 67, 3) := dk_180 0 67 (dk_at dksX2_readWord_0 19 rfl rfl)
theorem dX2_readWord_22 : decode cX2_readWord 22 = .ok (.iload_n 1, 1) := dk_27 (dk_at dksX2_readWord_0 22 rfl rfl)
theorem dX2_readWord_23 : decode cX2_readWord 23 = .ok (.aload_n 0, 1) := dk_42 (dk_at dksX2_readWord_0 23 rfl rfl)
theorem dX2_readWord_24 : decode cX2_readWord 24 = .ok (.invokevirtual 287, 3) := dk_182 1 31 (dk_at dksX2_readWord_1 0 rfl rfl)
theorem dX2_readWord_27 : decode cX2_readWord 27 = .ok (.lastore, 1) := dk_80 (dk_at dksX2_readWord_1 3 rfl rfl)
theorem dX2_readWord_28 : decode cX2_readWord 28 = .ok (.iconst 0, 1) := dk_3 (dk_at dksX2_readWord_1 4 rfl rfl)
theorem dX2_readWord_29 : decode cX2_readWord 29 = .ok (.istore_n 2, 1) := dk_61 (dk_at dksX2_readWord_1 5 rfl rfl)
theorem dX2_readWord_30 : decode cX2_readWord 30 = .ok (.iload_n 2, 1) := dk_28 (dk_at dksX2_readWord_1 6 rfl rfl)
theorem dX2_readWord_31 : decode cX2_readWord 31 = .ok (.iconst 3, 1) := dk_6 (dk_at dksX2_readWord_1 7 rfl rfl)
theorem dX2_readWord_32 : decode cX2_readWord 32 = .ok (.if_icmp .ge 29, 3) := dk_162 0 29 (dk_at dksX2_readWord_1 8 rfl rfl)
theorem dX2_readWord_35 : decode cX2_readWord 35 = .ok (.aload_n 0, 1) := dk_42 (dk_at dksX2_readWord_1 11 rfl rfl)
theorem dX2_readWord_36 : decode cX2_readWord 36 = .ok (.getfield 42, 3) := dk_180 0 42 (dk_at dksX2_readWord_1 12 rfl rfl)
theorem dX2_readWord_39 : decode cX2_readWord 39 = .ok (.iconst 3, 1) := dk_6 (dk_at dksX2_readWord_1 15 rfl rfl)
theorem dX2_readWord_40 : decode cX2_readWord 40 = .ok (.iload_n 1, 1) := dk_27 (dk_at dksX2_readWord_1 16 rfl rfl)
theorem dX2_readWord_41 : decode cX2_readWord 41 = .ok (.imul, 1) := dk_104 (dk_at dksX2_readWord_1 17 rfl rfl)
theorem dX2_readWord_42 : decode cX2_readWord 42 = .ok (.iload_n 2, 1) := dk_28 (dk_at dksX2_readWord_1 18 rfl rfl)
theorem dX2_readWord_43 : decode cX2_readWord 43 = .ok (.iadd, 1) := dk_96 (dk_at dksX2_readWord_1 19 rfl rfl)
theorem dX2_readWord_44 : decode cX2_readWord 44 = .ok (.aload_n 0, 1) := dk_42 (dk_at dksX2_readWord_1 20 rfl rfl)
theorem dX2_readWord_45 : decode cX2_readWord 45 = .ok (.iconst 0, 1) := dk_3 (dk_at dksX2_readWord_1 21 rfl rfl)
theorem dX2_readWord_46 : decode cX2_readWord 46 = .ok (.bipush 99, 2) := dk_16 99 (dk_at dksX2_readWord_1 22 rfl rfl)
theorem dX2_readWord_48 : decode cX2_readWord 48 = .ok (.invokevirtual 266, 3) := dk_182 1 10 (dk_at dksX2_readWord_2 0 rfl rfl)
theorem dX2_readWord_51 : decode cX2_readWord 51 = .ok (.bipush 50, 2) := dk_16 50 (dk_at dksX2_readWord_2 3 rfl rfl)
theorem dX2_readWord_53 : decode cX2_readWord 53 = .ok (.isub, 1) := dk_100 (dk_at dksX2_readWord_2 5 rfl rfl)
theorem dX2_readWord_54 : decode cX2_readWord 54 = .ok (.iastore, 1) := dk_79 (dk_at dksX2_readWord_2 6 rfl rfl)
theorem dX2_readWord_55 : decode cX2_readWord 55 = .ok (.iinc 2 1, 3) := dk_132 2 1 (dk_at dksX2_readWord_2 7 rfl rfl)
theorem dX2_readWord_58 : decode cX2_readWord 58 = .ok (.goto (-28), 3) := dk_167 255 228 (dk_at dksX2_readWord_2 10 rfl rfl)
theorem dX2_readWord_61 : decode cX2_readWord 61 = .ok (.aload_n 0, 1) := dk_42 (dk_at dksX2_readWord_2 13 rfl rfl)
theorem dX2_readWord_62 : decode cX2_readWord 62 = .ok (.getfield 20, 3) := dk_180 0 20 (dk_at dksX2_readWord_2 14 rfl rfl)
theorem dX2_readWord_65 : decode cX2_readWord 65 = .ok (.aload_n 0, 1) := dk_42 (dk_at dksX2_readWord_2 17 rfl rfl)
theorem dX2_readWord_66 : decode cX2_readWord 66 = .ok (.getfield 227, 3) := dk_180 0 227 (dk_at dksX2_readWord_2 18 rfl rfl)
theorem dX2_readWord_69 : decode cX2_readWord 69 = .ok (.dup2, 1) := dk_92 (dk_at dksX2_readWord_2 21 rfl rfl)
theorem dX2_readWord_70 : decode cX2_readWord 70 = .ok (.iaload, 1) := dk_46 (dk_at dksX2_readWord_2 22 rfl rfl)
theorem dX2_readWord_71 : decode cX2_readWord 71 = .ok (.iconst 1, 1) := dk_4 (dk_at dksX2_readWord_2 23 rfl rfl)
theorem dX2_readWord_72 : decode cX2_readWord 72 = .ok (.iadd, 1) := dk_96 (dk_at dksX2_readWord_3 0 rfl rfl)
theorem dX2_readWord_73 : decode cX2_readWord 73 = .ok (.iastore, 1) := dk_79 (dk_at dksX2_readWord_3 1 rfl rfl)
theorem dX2_readWord_74 : decode cX2_readWord 74 = .ok (.return_, 1) := dk_177 (dk_at dksX2_readWord_3 2 rfl rfl)
abbrev cX2_fresh : ByteArray := prog_9_method_20_code
def yX2_fresh : MethodName := ⟨RX2, "fresh", "()J"⟩
def dkwX2_fresh_3 : List UInt8 := [173]
abbrev dktX2_fresh_3 : List UInt8 := dkwX2_fresh_3 ++ []
def dkwX2_fresh_2 : List UInt8 := [42, 180, 0, 185, 182, 0, 213, 42, 180, 0, 199, 64, 42, 182, 0, 217, 153, 0, 7, 42, 182, 0, 221, 31]
abbrev dktX2_fresh_2 : List UInt8 := dkwX2_fresh_2 ++ dktX2_fresh_3
def dkwX2_fresh_1 : List UInt8 := [42, 42, 180, 0, 199, 182, 1, 24, 156, 0, 14, 42, 42, 180, 0, 199, 182, 1, 28, 155, 0, 12, 42, 6]
abbrev dktX2_fresh_1 : List UInt8 := dkwX2_fresh_1 ++ dktX2_fresh_2
def dkwX2_fresh_0 : List UInt8 := [42, 182, 0, 217, 154, 0, 5, 9, 173, 42, 180, 0, 192, 5, 159, 0, 10, 42, 182, 0, 224, 167, 0, 34]
abbrev dktX2_fresh_0 : List UInt8 := dkwX2_fresh_0 ++ dktX2_fresh_1
theorem dksX2_fresh_0 : cX2_fresh.data.toList.drop 0 = dktX2_fresh_0 := by decide +kernel
theorem dksX2_fresh_1 : cX2_fresh.data.toList.drop 24 = dktX2_fresh_1 := dk_seg dksX2_fresh_0 24 rfl rfl
theorem dksX2_fresh_2 : cX2_fresh.data.toList.drop 48 = dktX2_fresh_2 := dk_seg dksX2_fresh_1 24 rfl rfl
theorem dksX2_fresh_3 : cX2_fresh.data.toList.drop 72 = dktX2_fresh_3 := dk_seg dksX2_fresh_2 24 rfl rfl
theorem dX2_fresh_0 : decode cX2_fresh 0 = .ok (.aload_n 0, 1) := dk_42 (dk_at dksX2_fresh_0 0 rfl rfl)
theorem dX2_fresh_1 : decode cX2_fresh 1 = .ok (.invokevirtual 217, 3) := dk_182 0 217 (dk_at dksX2_fresh_0 1 rfl rfl)
theorem dX2_fresh_4 : decode cX2_fresh 4 = .ok (.ifCond .ne 5, 3) := dk_154 0 5 (dk_at dksX2_fresh_0 4 rfl rfl)
theorem dX2_fresh_7 : decode cX2_fresh 7 = .ok (.lconst 0, 1) := dk_9 (dk_at dksX2_fresh_0 7 rfl rfl)
theorem dX2_fresh_8 : decode cX2_fresh 8 = .ok (.lreturn, 1) := dk_173 (dk_at dksX2_fresh_0 8 rfl rfl)
theorem dX2_fresh_9 : decode cX2_fresh 9 = .ok (.aload_n 0, 1) := dk_42 (dk_at dksX2_fresh_0 9 rfl rfl)
theorem dX2_fresh_10 : decode cX2_fresh 10 = .ok (.getfield 192, 3) := dk_180 0 192 (dk_at dksX2_fresh_0 10 rfl rfl)
theorem dX2_fresh_13 : decode cX2_fresh 13 = .ok (.iconst 2, 1) := dk_5 (dk_at dksX2_fresh_0 13 rfl rfl)
theorem dX2_fresh_14 : decode cX2_fresh 14 = .ok (.if_icmp .eq 10, 3) := dk_159 0 10 (dk_at dksX2_fresh_0 14 rfl rfl)
theorem dX2_fresh_17 : decode cX2_fresh 17 = .ok (.aload_n 0, 1) := dk_42 (dk_at dksX2_fresh_0 17 rfl rfl)
theorem dX2_fresh_18 : decode cX2_fresh 18 = .ok (.invokevirtual 224, 3) := dk_182 0 224 (dk_at dksX2_fresh_0 18 rfl rfl)
theorem dX2_fresh_21 : decode cX2_fresh 21 = .ok (.goto 34, 3) := dk_167 0 34 (dk_at dksX2_fresh_0 21 rfl rfl)
theorem dX2_fresh_24 : decode cX2_fresh 24 = .ok (.aload_n 0, 1) := dk_42 (dk_at dksX2_fresh_1 0 rfl rfl)
theorem dX2_fresh_25 : decode cX2_fresh 25 = .ok (.aload_n 0, 1) := dk_42 (dk_at dksX2_fresh_1 1 rfl rfl)
theorem dX2_fresh_26 : decode cX2_fresh 26 = .ok (.getfield 199, 3) := dk_180 0 199 (dk_at dksX2_fresh_1 2 rfl rfl)
theorem dX2_fresh_29 : decode cX2_fresh 29 = .ok (.invokevirtual 280, 3) := dk_182 1 24 (dk_at dksX2_fresh_1 5 rfl rfl)
theorem dX2_fresh_32 : decode cX2_fresh 32 = .ok (.ifCond .ge 14, 3) := dk_156 0 14 (dk_at dksX2_fresh_1 8 rfl rfl)
theorem dX2_fresh_35 : decode cX2_fresh 35 = .ok (.aload_n 0, 1) := dk_42 (dk_at dksX2_fresh_1 11 rfl rfl)
theorem dX2_fresh_36 : decode cX2_fresh 36 = .ok (.aload_n 0, 1) := dk_42 (dk_at dksX2_fresh_1 12 rfl rfl)
theorem dX2_fresh_37 : decode cX2_fresh 37 = .ok (.getfield 199, 3) := dk_180 0 199 (dk_at dksX2_fresh_1 13 rfl rfl)
theorem dX2_fresh_40 : decode cX2_fresh 40 = .ok (.invokevirtual 284, 3) := dk_182 1 28 (dk_at dksX2_fresh_1 16 rfl rfl)
theorem dX2_fresh_43 : decode cX2_fresh 43 = .ok (.ifCond .lt 12, 3) := dk_155 0 12 (dk_at dksX2_fresh_1 19 rfl rfl)
theorem dX2_fresh_46 : decode cX2_fresh 46 = .ok (.aload_n 0, 1) := dk_42 (dk_at dksX2_fresh_1 22 rfl rfl)
theorem dX2_fresh_47 : decode cX2_fresh 47 = .ok (.iconst 3, 1) := dk_6 (dk_at dksX2_fresh_1 23 rfl rfl)
theorem dX2_fresh_48 : decode cX2_fresh 48 = .ok (.aload_n 0, 1) := dk_42 (dk_at dksX2_fresh_2 0 rfl rfl)
theorem dX2_fresh_49 : decode cX2_fresh 49 = .ok (.getfield 185, 3) := dk_180 0 185 (dk_at dksX2_fresh_2 1 rfl rfl)
theorem dX2_fresh_52 : decode cX2_fresh 52 = .ok (.invokevirtual 213, 3) := dk_182 0 213 (dk_at dksX2_fresh_2 4 rfl rfl)
theorem dX2_fresh_55 : decode cX2_fresh 55 = .ok (.aload_n 0, 1) := dk_42 (dk_at dksX2_fresh_2 7 rfl rfl)
theorem dX2_fresh_56 : decode cX2_fresh 56 = .ok (.getfield 199, 3) := dk_180 0 199 (dk_at dksX2_fresh_2 8 rfl rfl)
theorem dX2_fresh_59 : decode cX2_fresh 59 = .ok (.lstore_n 1, 1) := dk_64 (dk_at dksX2_fresh_2 11 rfl rfl)
theorem dX2_fresh_60 : decode cX2_fresh 60 = .ok (.aload_n 0, 1) := dk_42 (dk_at dksX2_fresh_2 12 rfl rfl)
theorem dX2_fresh_61 : decode cX2_fresh 61 = .ok (.invokevirtual 217, 3) := dk_182 0 217 (dk_at dksX2_fresh_2 13 rfl rfl)
theorem dX2_fresh_64 : decode cX2_fresh 64 = .ok (.ifCond .eq 7, 3) := dk_153 0 7 (dk_at dksX2_fresh_2 16 rfl rfl)
theorem dX2_fresh_67 : decode cX2_fresh 67 = .ok (.aload_n 0, 1) := dk_42 (dk_at dksX2_fresh_2 19 rfl rfl)
theorem dX2_fresh_68 : decode cX2_fresh 68 = .ok (.invokevirtual 221, 3) := dk_182 0 221 (dk_at dksX2_fresh_2 20 rfl rfl)
theorem dX2_fresh_71 : decode cX2_fresh 71 = .ok (.lload_n 1, 1) := dk_31 (dk_at dksX2_fresh_2 23 rfl rfl)
theorem dX2_fresh_72 : decode cX2_fresh 72 = .ok (.lreturn, 1) := dk_173 (dk_at dksX2_fresh_3 0 rfl rfl)
abbrev cX2_wordOf : ByteArray := prog_9_method_18_code
def yX2_wordOf : MethodName := ⟨RX2, "wordOf", "(J)I"⟩
def dkwX2_wordOf_1 : List UInt8 := [180, 0, 227, 104, 29, 96, 47, 31, 148, 154, 0, 5, 29, 172, 132, 3, 1, 167, 255, 219, 2, 172]
abbrev dktX2_wordOf_1 : List UInt8 := dkwX2_wordOf_1 ++ []
def dkwX2_wordOf_0 : List UInt8 := [3, 62, 29, 42, 180, 0, 20, 42, 180, 0, 227, 46, 162, 0, 30, 42, 180, 0, 67, 16, 8, 42]
abbrev dktX2_wordOf_0 : List UInt8 := dkwX2_wordOf_0 ++ dktX2_wordOf_1
theorem dksX2_wordOf_0 : cX2_wordOf.data.toList.drop 0 = dktX2_wordOf_0 := by decide +kernel
theorem dksX2_wordOf_1 : cX2_wordOf.data.toList.drop 22 = dktX2_wordOf_1 := dk_seg dksX2_wordOf_0 22 rfl rfl
theorem dX2_wordOf_0 : decode cX2_wordOf 0 = .ok (.iconst 0, 1) := dk_3 (dk_at dksX2_wordOf_0 0 rfl rfl)
theorem dX2_wordOf_1 : decode cX2_wordOf 1 = .ok (.istore_n 3, 1) := dk_62 (dk_at dksX2_wordOf_0 1 rfl rfl)
theorem dX2_wordOf_2 : decode cX2_wordOf 2 = .ok (.iload_n 3, 1) := dk_29 (dk_at dksX2_wordOf_0 2 rfl rfl)
theorem dX2_wordOf_3 : decode cX2_wordOf 3 = .ok (.aload_n 0, 1) := dk_42 (dk_at dksX2_wordOf_0 3 rfl rfl)
theorem dX2_wordOf_4 : decode cX2_wordOf 4 = .ok (.getfield 20, 3) := dk_180 0 20 (dk_at dksX2_wordOf_0 4 rfl rfl)
theorem dX2_wordOf_7 : decode cX2_wordOf 7 = .ok (.aload_n 0, 1) := dk_42 (dk_at dksX2_wordOf_0 7 rfl rfl)
theorem dX2_wordOf_8 : decode cX2_wordOf 8 = .ok (.getfield 227, 3) := dk_180 0 227 (dk_at dksX2_wordOf_0 8 rfl rfl)
theorem dX2_wordOf_11 : decode cX2_wordOf 11 = .ok (.iaload, 1) := dk_46 (dk_at dksX2_wordOf_0 11 rfl rfl)
theorem dX2_wordOf_12 : decode cX2_wordOf 12 = .ok (.if_icmp .ge 30, 3) := dk_162 0 30 (dk_at dksX2_wordOf_0 12 rfl rfl)
theorem dX2_wordOf_15 : decode cX2_wordOf 15 = .ok (.aload_n 0, 1) := dk_42 (dk_at dksX2_wordOf_0 15 rfl rfl)
theorem dX2_wordOf_16 : decode cX2_wordOf 16 = .ok (.getfield 67, 3) := dk_180 0 67 (dk_at dksX2_wordOf_0 16 rfl rfl)
theorem dX2_wordOf_19 : decode cX2_wordOf 19 = .ok (.bipush 8, 2) := dk_16 8 (dk_at dksX2_wordOf_0 19 rfl rfl)
theorem dX2_wordOf_21 : decode cX2_wordOf 21 = .ok (.aload_n 0, 1) := dk_42 (dk_at dksX2_wordOf_0 21 rfl rfl)
theorem dX2_wordOf_22 : decode cX2_wordOf 22 = .ok (.getfield 227, 3) := dk_180 0 227 (dk_at dksX2_wordOf_1 0 rfl rfl)
theorem dX2_wordOf_25 : decode cX2_wordOf 25 = .ok (.imul, 1) := dk_104 (dk_at dksX2_wordOf_1 3 rfl rfl)
theorem dX2_wordOf_26 : decode cX2_wordOf 26 = .ok (.iload_n 3, 1) := dk_29 (dk_at dksX2_wordOf_1 4 rfl rfl)
theorem dX2_wordOf_27 : decode cX2_wordOf 27 = .ok (.iadd, 1) := dk_96 (dk_at dksX2_wordOf_1 5 rfl rfl)
theorem dX2_wordOf_28 : decode cX2_wordOf 28 = .ok (.laload, 1) := dk_47 (dk_at dksX2_wordOf_1 6 rfl rfl)
theorem dX2_wordOf_29 : decode cX2_wordOf 29 = .ok (.lload_n 1, 1) := dk_31 (dk_at dksX2_wordOf_1 7 rfl rfl)
theorem dX2_wordOf_30 : decode cX2_wordOf 30 = .ok (.lcmp, 1) := dk_148 (dk_at dksX2_wordOf_1 8 rfl rfl)
theorem dX2_wordOf_31 : decode cX2_wordOf 31 = .ok (.ifCond .ne 5, 3) := dk_154 0 5 (dk_at dksX2_wordOf_1 9 rfl rfl)
theorem dX2_wordOf_34 : decode cX2_wordOf 34 = .ok (.iload_n 3, 1) := dk_29 (dk_at dksX2_wordOf_1 12 rfl rfl)
theorem dX2_wordOf_35 : decode cX2_wordOf 35 = .ok (.ireturn, 1) := dk_172 (dk_at dksX2_wordOf_1 13 rfl rfl)
theorem dX2_wordOf_36 : decode cX2_wordOf 36 = .ok (.iinc 3 1, 3) := dk_132 3 1 (dk_at dksX2_wordOf_1 14 rfl rfl)
theorem dX2_wordOf_39 : decode cX2_wordOf 39 = .ok (.goto (-37), 3) := dk_167 255 219 (dk_at dksX2_wordOf_1 17 rfl rfl)
theorem dX2_wordOf_42 : decode cX2_wordOf 42 = .ok (.iconst (-1), 1) := dk_2 (dk_at dksX2_wordOf_1 20 rfl rfl)
theorem dX2_wordOf_43 : decode cX2_wordOf 43 = .ok (.ireturn, 1) := dk_172 (dk_at dksX2_wordOf_1 21 rfl rfl)
abbrev cX2_ruleOf : ByteArray := prog_9_method_19_code
def yX2_ruleOf : MethodName := ⟨RX2, "ruleOf", "(J)I"⟩
def dkwX2_ruleOf_1 : List UInt8 := [180, 0, 227, 104, 29, 96, 47, 31, 148, 154, 0, 5, 29, 172, 132, 3, 1, 167, 255, 219, 2, 172]
abbrev dktX2_ruleOf_1 : List UInt8 := dkwX2_ruleOf_1 ++ []
def dkwX2_ruleOf_0 : List UInt8 := [3, 62, 29, 42, 180, 0, 27, 42, 180, 0, 227, 46, 162, 0, 30, 42, 180, 0, 71, 16, 8, 42]
abbrev dktX2_ruleOf_0 : List UInt8 := dkwX2_ruleOf_0 ++ dktX2_ruleOf_1
theorem dksX2_ruleOf_0 : cX2_ruleOf.data.toList.drop 0 = dktX2_ruleOf_0 := by decide +kernel
theorem dksX2_ruleOf_1 : cX2_ruleOf.data.toList.drop 22 = dktX2_ruleOf_1 := dk_seg dksX2_ruleOf_0 22 rfl rfl
theorem dX2_ruleOf_0 : decode cX2_ruleOf 0 = .ok (.iconst 0, 1) := dk_3 (dk_at dksX2_ruleOf_0 0 rfl rfl)
theorem dX2_ruleOf_1 : decode cX2_ruleOf 1 = .ok (.istore_n 3, 1) := dk_62 (dk_at dksX2_ruleOf_0 1 rfl rfl)
theorem dX2_ruleOf_2 : decode cX2_ruleOf 2 = .ok (.iload_n 3, 1) := dk_29 (dk_at dksX2_ruleOf_0 2 rfl rfl)
theorem dX2_ruleOf_3 : decode cX2_ruleOf 3 = .ok (.aload_n 0, 1) := dk_42 (dk_at dksX2_ruleOf_0 3 rfl rfl)
theorem dX2_ruleOf_4 : decode cX2_ruleOf 4 = .ok (.getfield 27, 3) := dk_180 0 27 (dk_at dksX2_ruleOf_0 4 rfl rfl)
theorem dX2_ruleOf_7 : decode cX2_ruleOf 7 = .ok (.aload_n 0, 1) := dk_42 (dk_at dksX2_ruleOf_0 7 rfl rfl)
theorem dX2_ruleOf_8 : decode cX2_ruleOf 8 = .ok (.getfield 227, 3) := dk_180 0 227 (dk_at dksX2_ruleOf_0 8 rfl rfl)
theorem dX2_ruleOf_11 : decode cX2_ruleOf 11 = .ok (.iaload, 1) := dk_46 (dk_at dksX2_ruleOf_0 11 rfl rfl)
theorem dX2_ruleOf_12 : decode cX2_ruleOf 12 = .ok (.if_icmp .ge 30, 3) := dk_162 0 30 (dk_at dksX2_ruleOf_0 12 rfl rfl)
theorem dX2_ruleOf_15 : decode cX2_ruleOf 15 = .ok (.aload_n 0, 1) := dk_42 (dk_at dksX2_ruleOf_0 15 rfl rfl)
theorem dX2_ruleOf_16 : decode cX2_ruleOf 16 = .ok (.getfield 71, 3) := dk_180 0 71 (dk_at dksX2_ruleOf_0 16 rfl rfl)
theorem dX2_ruleOf_19 : decode cX2_ruleOf 19 = .ok (.bipush 8, 2) := dk_16 8 (dk_at dksX2_ruleOf_0 19 rfl rfl)
theorem dX2_ruleOf_21 : decode cX2_ruleOf 21 = .ok (.aload_n 0, 1) := dk_42 (dk_at dksX2_ruleOf_0 21 rfl rfl)
theorem dX2_ruleOf_22 : decode cX2_ruleOf 22 = .ok (.getfield 227, 3) := dk_180 0 227 (dk_at dksX2_ruleOf_1 0 rfl rfl)
theorem dX2_ruleOf_25 : decode cX2_ruleOf 25 = .ok (.imul, 1) := dk_104 (dk_at dksX2_ruleOf_1 3 rfl rfl)
theorem dX2_ruleOf_26 : decode cX2_ruleOf 26 = .ok (.iload_n 3, 1) := dk_29 (dk_at dksX2_ruleOf_1 4 rfl rfl)
theorem dX2_ruleOf_27 : decode cX2_ruleOf 27 = .ok (.iadd, 1) := dk_96 (dk_at dksX2_ruleOf_1 5 rfl rfl)
theorem dX2_ruleOf_28 : decode cX2_ruleOf 28 = .ok (.laload, 1) := dk_47 (dk_at dksX2_ruleOf_1 6 rfl rfl)
theorem dX2_ruleOf_29 : decode cX2_ruleOf 29 = .ok (.lload_n 1, 1) := dk_31 (dk_at dksX2_ruleOf_1 7 rfl rfl)
theorem dX2_ruleOf_30 : decode cX2_ruleOf 30 = .ok (.lcmp, 1) := dk_148 (dk_at dksX2_ruleOf_1 8 rfl rfl)
theorem dX2_ruleOf_31 : decode cX2_ruleOf 31 = .ok (.ifCond .ne 5, 3) := dk_154 0 5 (dk_at dksX2_ruleOf_1 9 rfl rfl)
theorem dX2_ruleOf_34 : decode cX2_ruleOf 34 = .ok (.iload_n 3, 1) := dk_29 (dk_at dksX2_ruleOf_1 12 rfl rfl)
theorem dX2_ruleOf_35 : decode cX2_ruleOf 35 = .ok (.ireturn, 1) := dk_172 (dk_at dksX2_ruleOf_1 13 rfl rfl)
theorem dX2_ruleOf_36 : decode cX2_ruleOf 36 = .ok (.iinc 3 1, 3) := dk_132 3 1 (dk_at dksX2_ruleOf_1 14 rfl rfl)
theorem dX2_ruleOf_39 : decode cX2_ruleOf 39 = .ok (.goto (-37), 3) := dk_167 255 219 (dk_at dksX2_ruleOf_1 17 rfl rfl)
theorem dX2_ruleOf_42 : decode cX2_ruleOf 42 = .ok (.iconst (-1), 1) := dk_2 (dk_at dksX2_ruleOf_1 20 rfl rfl)
theorem dX2_ruleOf_43 : decode cX2_ruleOf 43 = .ok (.ireturn, 1) := dk_172 (dk_at dksX2_ruleOf_1 21 rfl rfl)
abbrev cX2_numeral : ByteArray := prog_9_method_13_code
def yX2_numeral : MethodName := ⟨RX2, "numeral", "(II)I"⟩
def dkwX2_numeral_3 : List UInt8 := [182, 0, 217, 153, 0, 7, 29, 167, 0, 4, 27, 172]
abbrev dktX2_numeral_3 : List UInt8 := dkwX2_numeral_3 ++ []
def dkwX2_numeral_2 : List UInt8 := [42, 180, 0, 185, 182, 0, 213, 42, 180, 0, 210, 62, 42, 182, 0, 217, 153, 0, 7, 42, 182, 0, 221, 42]
abbrev dktX2_numeral_2 : List UInt8 := dkwX2_numeral_2 ++ dktX2_numeral_3
def dkwX2_numeral_1 : List UInt8 := [182, 0, 217, 153, 0, 28, 42, 180, 0, 210, 27, 161, 0, 11, 42, 180, 0, 210, 28, 164, 0, 12, 42, 7]
abbrev dktX2_numeral_1 : List UInt8 := dkwX2_numeral_1 ++ dktX2_numeral_2
def dkwX2_numeral_0 : List UInt8 := [42, 182, 0, 217, 154, 0, 5, 27, 172, 42, 180, 0, 192, 7, 159, 0, 7, 42, 182, 0, 224, 42]
abbrev dktX2_numeral_0 : List UInt8 := dkwX2_numeral_0 ++ dktX2_numeral_1
theorem dksX2_numeral_0 : cX2_numeral.data.toList.drop 0 = dktX2_numeral_0 := by decide +kernel
theorem dksX2_numeral_1 : cX2_numeral.data.toList.drop 22 = dktX2_numeral_1 := dk_seg dksX2_numeral_0 22 rfl rfl
theorem dksX2_numeral_2 : cX2_numeral.data.toList.drop 46 = dktX2_numeral_2 := dk_seg dksX2_numeral_1 24 rfl rfl
theorem dksX2_numeral_3 : cX2_numeral.data.toList.drop 70 = dktX2_numeral_3 := dk_seg dksX2_numeral_2 24 rfl rfl
theorem dX2_numeral_0 : decode cX2_numeral 0 = .ok (.aload_n 0, 1) := dk_42 (dk_at dksX2_numeral_0 0 rfl rfl)
theorem dX2_numeral_1 : decode cX2_numeral 1 = .ok (.invokevirtual 217, 3) := dk_182 0 217 (dk_at dksX2_numeral_0 1 rfl rfl)
theorem dX2_numeral_4 : decode cX2_numeral 4 = .ok (.ifCond .ne 5, 3) := dk_154 0 5 (dk_at dksX2_numeral_0 4 rfl rfl)
theorem dX2_numeral_7 : decode cX2_numeral 7 = .ok (.iload_n 1, 1) := dk_27 (dk_at dksX2_numeral_0 7 rfl rfl)
theorem dX2_numeral_8 : decode cX2_numeral 8 = .ok (.ireturn, 1) := dk_172 (dk_at dksX2_numeral_0 8 rfl rfl)
theorem dX2_numeral_9 : decode cX2_numeral 9 = .ok (.aload_n 0, 1) := dk_42 (dk_at dksX2_numeral_0 9 rfl rfl)
theorem dX2_numeral_10 : decode cX2_numeral 10 = .ok (.getfield 192, 3) := dk_180 0 192 (dk_at dksX2_numeral_0 10 rfl rfl)
theorem dX2_numeral_13 : decode cX2_numeral 13 = .ok (.iconst 4, 1) := dk_7 (dk_at dksX2_numeral_0 13 rfl rfl)
theorem dX2_numeral_14 : decode cX2_numeral 14 = .ok (.if_icmp .eq 7, 3) := dk_159 0 7 (dk_at dksX2_numeral_0 14 rfl rfl)
theorem dX2_numeral_17 : decode cX2_numeral 17 = .ok (.aload_n 0, 1) := dk_42 (dk_at dksX2_numeral_0 17 rfl rfl)
theorem dX2_numeral_18 : decode cX2_numeral 18 = .ok (.invokevirtual 224, 3) := dk_182 0 224 (dk_at dksX2_numeral_0 18 rfl rfl)
theorem dX2_numeral_21 : decode cX2_numeral 21 = .ok (.aload_n 0, 1) := dk_42 (dk_at dksX2_numeral_0 21 rfl rfl)
theorem dX2_numeral_22 : decode cX2_numeral 22 = .ok (.invokevirtual 217, 3) := dk_182 0 217 (dk_at dksX2_numeral_1 0 rfl rfl)
theorem dX2_numeral_25 : decode cX2_numeral 25 = .ok (.ifCond .eq 28, 3) := dk_153 0 28 (dk_at dksX2_numeral_1 3 rfl rfl)
theorem dX2_numeral_28 : decode cX2_numeral 28 = .ok (.aload_n 0, 1) := dk_42 (dk_at dksX2_numeral_1 6 rfl rfl)
theorem dX2_numeral_29 : decode cX2_numeral 29 = .ok (.getfield 210, 3) := dk_180 0 210 (dk_at dksX2_numeral_1 7 rfl rfl)
theorem dX2_numeral_32 : decode cX2_numeral 32 = .ok (.iload_n 1, 1) := dk_27 (dk_at dksX2_numeral_1 10 rfl rfl)
theorem dX2_numeral_33 : decode cX2_numeral 33 = .ok (.if_icmp .lt 11, 3) := dk_161 0 11 (dk_at dksX2_numeral_1 11 rfl rfl)
theorem dX2_numeral_36 : decode cX2_numeral 36 = .ok (.aload_n 0, 1) := dk_42 (dk_at dksX2_numeral_1 14 rfl rfl)
theorem dX2_numeral_37 : decode cX2_numeral 37 = .ok (.getfield 210, 3) := dk_180 0 210 (dk_at dksX2_numeral_1 15 rfl rfl)
theorem dX2_numeral_40 : decode cX2_numeral 40 = .ok (.iload_n 2, 1) := dk_28 (dk_at dksX2_numeral_1 18 rfl rfl)
theorem dX2_numeral_41 : decode cX2_numeral 41 = .ok (.if_icmp .le 12, 3) := dk_164 0 12 (dk_at dksX2_numeral_1 19 rfl rfl)
theorem dX2_numeral_44 : decode cX2_numeral 44 = .ok (.aload_n 0, 1) := dk_42 (dk_at dksX2_numeral_1 22 rfl rfl)
theorem dX2_numeral_45 : decode cX2_numeral 45 = .ok (.iconst 4, 1) := dk_7 (dk_at dksX2_numeral_1 23 rfl rfl)
theorem dX2_numeral_46 : decode cX2_numeral 46 = .ok (.aload_n 0, 1) := dk_42 (dk_at dksX2_numeral_2 0 rfl rfl)
theorem dX2_numeral_47 : decode cX2_numeral 47 = .ok (.getfield 185, 3) := dk_180 0 185 (dk_at dksX2_numeral_2 1 rfl rfl)
theorem dX2_numeral_50 : decode cX2_numeral 50 = .ok (.invokevirtual 213, 3) := dk_182 0 213 (dk_at dksX2_numeral_2 4 rfl rfl)
theorem dX2_numeral_53 : decode cX2_numeral 53 = .ok (.aload_n 0, 1) := dk_42 (dk_at dksX2_numeral_2 7 rfl rfl)
theorem dX2_numeral_54 : decode cX2_numeral 54 = .ok (.getfield 210, 3) := dk_180 0 210 (dk_at dksX2_numeral_2 8 rfl rfl)
theorem dX2_numeral_57 : decode cX2_numeral 57 = .ok (.istore_n 3, 1) := dk_62 (dk_at dksX2_numeral_2 11 rfl rfl)
theorem dX2_numeral_58 : decode cX2_numeral 58 = .ok (.aload_n 0, 1) := dk_42 (dk_at dksX2_numeral_2 12 rfl rfl)
theorem dX2_numeral_59 : decode cX2_numeral 59 = .ok (.invokevirtual 217, 3) := dk_182 0 217 (dk_at dksX2_numeral_2 13 rfl rfl)
theorem dX2_numeral_62 : decode cX2_numeral 62 = .ok (.ifCond .eq 7, 3) := dk_153 0 7 (dk_at dksX2_numeral_2 16 rfl rfl)
theorem dX2_numeral_65 : decode cX2_numeral 65 = .ok (.aload_n 0, 1) := dk_42 (dk_at dksX2_numeral_2 19 rfl rfl)
theorem dX2_numeral_66 : decode cX2_numeral 66 = .ok (.invokevirtual 221, 3) := dk_182 0 221 (dk_at dksX2_numeral_2 20 rfl rfl)
theorem dX2_numeral_69 : decode cX2_numeral 69 = .ok (.aload_n 0, 1) := dk_42 (dk_at dksX2_numeral_2 23 rfl rfl)
theorem dX2_numeral_70 : decode cX2_numeral 70 = .ok (.invokevirtual 217, 3) := dk_182 0 217 (dk_at dksX2_numeral_3 0 rfl rfl)
theorem dX2_numeral_73 : decode cX2_numeral 73 = .ok (.ifCond .eq 7, 3) := dk_153 0 7 (dk_at dksX2_numeral_3 3 rfl rfl)
theorem dX2_numeral_76 : decode cX2_numeral 76 = .ok (.iload_n 3, 1) := dk_29 (dk_at dksX2_numeral_3 6 rfl rfl)
theorem dX2_numeral_77 : decode cX2_numeral 77 = .ok (.goto 4, 3) := dk_167 0 4 (dk_at dksX2_numeral_3 7 rfl rfl)
theorem dX2_numeral_80 : decode cX2_numeral 80 = .ok (.iload_n 1, 1) := dk_27 (dk_at dksX2_numeral_3 10 rfl rfl)
theorem dX2_numeral_81 : decode cX2_numeral 81 = .ok (.ireturn, 1) := dk_172 (dk_at dksX2_numeral_3 11 rfl rfl)
abbrev cX2_readPair : ByteArray := prog_9_method_23_code
def yX2_readPair : MethodName := ⟨RX2, "readPair", "()V"⟩
def dkwX2_readPair_5 : List UInt8 := [79, 177]
abbrev dktX2_readPair_5 : List UInt8 := dkwX2_readPair_5 ++ []
def dkwX2_readPair_4 : List UInt8 := [154, 0, 4, 177, 42, 180, 0, 60, 21, 4, 4, 84, 42, 180, 0, 24, 42, 180, 0, 227, 92, 46, 4, 96]
abbrev dktX2_readPair_4 : List UInt8 := dkwX2_readPair_4 ++ dktX2_readPair_5
def dkwX2_readPair_3 : List UInt8 := [21, 5, 96, 42, 3, 16, 99, 182, 1, 10, 16, 50, 100, 79, 132, 5, 1, 167, 255, 225, 42, 182, 0, 217]
abbrev dktX2_readPair_3 : List UInt8 := dkwX2_readPair_3 ++ dktX2_readPair_4
def dkwX2_readPair_2 : List UInt8 := [42, 6, 28, 182, 0, 213, 3, 54, 5, 21, 5, 6, 162, 0, 31, 42, 180, 0, 45, 6, 21, 4, 104]
abbrev dktX2_readPair_2 : List UInt8 := dkwX2_readPair_2 ++ dktX2_readPair_3
def dkwX2_readPair_1 : List UInt8 := [27, 104, 96, 29, 96, 54, 4, 42, 182, 0, 217, 153, 0, 19, 42, 180, 0, 60, 21, 4, 51, 153, 0, 9]
abbrev dktX2_readPair_1 : List UInt8 := dkwX2_readPair_1 ++ dktX2_readPair_2
def dkwX2_readPair_0 : List UInt8 := [42, 182, 1, 35, 60, 42, 180, 0, 185, 61, 42, 182, 1, 35, 62, 16, 64, 42, 180, 0, 227, 104, 16, 8]
abbrev dktX2_readPair_0 : List UInt8 := dkwX2_readPair_0 ++ dktX2_readPair_1
theorem dksX2_readPair_0 : cX2_readPair.data.toList.drop 0 = dktX2_readPair_0 := by decide +kernel
theorem dksX2_readPair_1 : cX2_readPair.data.toList.drop 24 = dktX2_readPair_1 := dk_seg dksX2_readPair_0 24 rfl rfl
theorem dksX2_readPair_2 : cX2_readPair.data.toList.drop 48 = dktX2_readPair_2 := dk_seg dksX2_readPair_1 24 rfl rfl
theorem dksX2_readPair_3 : cX2_readPair.data.toList.drop 71 = dktX2_readPair_3 := dk_seg dksX2_readPair_2 23 rfl rfl
theorem dksX2_readPair_4 : cX2_readPair.data.toList.drop 95 = dktX2_readPair_4 := dk_seg dksX2_readPair_3 24 rfl rfl
theorem dksX2_readPair_5 : cX2_readPair.data.toList.drop 119 = dktX2_readPair_5 := dk_seg dksX2_readPair_4 24 rfl rfl
theorem dX2_readPair_0 : decode cX2_readPair 0 = .ok (.aload_n 0, 1) := dk_42 (dk_at dksX2_readPair_0 0 rfl rfl)
theorem dX2_readPair_1 : decode cX2_readPair 1 = .ok (.invokevirtual 291, 3) := dk_182 1 35 (dk_at dksX2_readPair_0 1 rfl rfl)
theorem dX2_readPair_4 : decode cX2_readPair 4 = .ok (.istore_n 1, 1) := dk_60 (dk_at dksX2_readPair_0 4 rfl rfl)
theorem dX2_readPair_5 : decode cX2_readPair 5 = .ok (.aload_n 0, 1) := dk_42 (dk_at dksX2_readPair_0 5 rfl rfl)
theorem dX2_readPair_6 : decode cX2_readPair 6 = .ok (.getfield 185, 3) := dk_180 0 185 (dk_at dksX2_readPair_0 6 rfl rfl)
theorem dX2_readPair_9 : decode cX2_readPair 9 = .ok (.istore_n 2, 1) := dk_61 (dk_at dksX2_readPair_0 9 rfl rfl)
theorem dX2_readPair_10 : decode cX2_readPair 10 = .ok (.aload_n 0, 1) := dk_42 (dk_at dksX2_readPair_0 10 rfl rfl)
theorem dX2_readPair_11 : decode cX2_readPair 11 = .ok (.invokevirtual 291, 3) := dk_182 1 35 (dk_at dksX2_readPair_0 11 rfl rfl)
theorem dX2_readPair_14 : decode cX2_readPair 14 = .ok (.istore_n 3, 1) := dk_62 (dk_at dksX2_readPair_0 14 rfl rfl)
theorem dX2_readPair_15 : decode cX2_readPair 15 = .ok (.bipush 64, 2) := dk_16 64 (dk_at dksX2_readPair_0 15 rfl rfl)
theorem dX2_readPair_17 : decode cX2_readPair 17 = .ok (.aload_n 0, 1) := dk_42 (dk_at dksX2_readPair_0 17 rfl rfl)
theorem dX2_readPair_18 : decode cX2_readPair 18 = .ok (.getfield 227, 3) := dk_180 0 227 (dk_at dksX2_readPair_0 18 rfl rfl)
theorem dX2_readPair_21 : decode cX2_readPair 21 = .ok (.imul, 1) := dk_104 (dk_at dksX2_readPair_0 21 rfl rfl)
theorem dX2_readPair_22 : decode cX2_readPair 22 = .ok (.bipush 8, 2) := dk_16 8 (dk_at dksX2_readPair_0 22 rfl rfl)
theorem dX2_readPair_24 : decode cX2_readPair 24 = .ok (.iload_n 1, 1) := dk_27 (dk_at dksX2_readPair_1 0 rfl rfl)
theorem dX2_readPair_25 : decode cX2_readPair 25 = .ok (.imul, 1) := dk_104 (dk_at dksX2_readPair_1 1 rfl rfl)
theorem dX2_readPair_26 : decode cX2_readPair 26 = .ok (.iadd, 1) := dk_96 (dk_at dksX2_readPair_1 2 rfl rfl)
theorem dX2_readPair_27 : decode cX2_readPair 27 = .ok (.iload_n 3, 1) := dk_29 (dk_at dksX2_readPair_1 3 rfl rfl)
theorem dX2_readPair_28 : decode cX2_readPair 28 = .ok (.iadd, 1) := dk_96 (dk_at dksX2_readPair_1 4 rfl rfl)
theorem dX2_readPair_29 : decode cX2_readPair 29 = .ok (.istore 4, 2) := dk_54 4 (dk_at dksX2_readPair_1 5 rfl rfl)
theorem dX2_readPair_31 : decode cX2_readPair 31 = .ok (.aload_n 0, 1) := dk_42 (dk_at dksX2_readPair_1 7 rfl rfl)
theorem dX2_readPair_32 : decode cX2_readPair 32 = .ok (.invokevirtual 217, 3) := dk_182 0 217 (dk_at dksX2_readPair_1 8 rfl rfl)
theorem dX2_readPair_35 : decode cX2_readPair 35 = .ok (.ifCond .eq 19, 3) := dk_153 0 19 (dk_at dksX2_readPair_1 11 rfl rfl)
theorem dX2_readPair_38 : decode cX2_readPair 38 = .ok (.aload_n 0, 1) := dk_42 (dk_at dksX2_readPair_1 14 rfl rfl)
theorem dX2_readPair_39 : decode cX2_readPair 39 = .ok (.getfield 60, 3) := dk_180 0 60 (dk_at dksX2_readPair_1 15 rfl rfl)
theorem dX2_readPair_42 : decode cX2_readPair 42 = .ok (.iload 4, 2) := dk_21 4 (dk_at dksX2_readPair_1 18 rfl rfl)
theorem dX2_readPair_44 : decode cX2_readPair 44 = .ok (.baload, 1) := dk_51 (dk_at dksX2_readPair_1 20 rfl rfl)
theorem dX2_readPair_45 : decode cX2_readPair 45 = .ok (.ifCond .eq 9, 3) := dk_153 0 9 (dk_at dksX2_readPair_1 21 rfl rfl)
theorem dX2_readPair_48 : decode cX2_readPair 48 = .ok (.aload_n 0, 1) := dk_42 (dk_at dksX2_readPair_2 0 rfl rfl)
theorem dX2_readPair_49 : decode cX2_readPair 49 = .ok (.iconst 3, 1) := dk_6 (dk_at dksX2_readPair_2 1 rfl rfl)
theorem dX2_readPair_50 : decode cX2_readPair 50 = .ok (.iload_n 2, 1) := dk_28 (dk_at dksX2_readPair_2 2 rfl rfl)
theorem dX2_readPair_51 : decode cX2_readPair 51 = .ok (.invokevirtual 213, 3) := dk_182 0 213 (dk_at dksX2_readPair_2 3 rfl rfl)
theorem dX2_readPair_54 : decode cX2_readPair 54 = .ok (.iconst 0, 1) := dk_3 (dk_at dksX2_readPair_2 6 rfl rfl)
theorem dX2_readPair_55 : decode cX2_readPair 55 = .ok (.istore 5, 2) := dk_54 5 (dk_at dksX2_readPair_2 7 rfl rfl)
theorem dX2_readPair_57 : decode cX2_readPair 57 = .ok (.iload 5, 2) := dk_21 5 (dk_at dksX2_readPair_2 9 rfl rfl)
theorem dX2_readPair_59 : decode cX2_readPair 59 = .ok (.iconst 3, 1) := dk_6 (dk_at dksX2_readPair_2 11 rfl rfl)
theorem dX2_readPair_60 : decode cX2_readPair 60 = .ok (.if_icmp .ge 31, 3) := dk_162 0 31 (dk_at dksX2_readPair_2 12 rfl rfl)
theorem dX2_readPair_63 : decode cX2_readPair 63 = .ok (.aload_n 0, 1) := dk_42 (dk_at dksX2_readPair_2 15 rfl rfl)
theorem dX2_readPair_64 : decode cX2_readPair 64 = .ok (.getfield 45, 3) := dk_180 0 45 (dk_at dksX2_readPair_2 16 rfl rfl)
theorem dX2_readPair_67 : decode cX2_readPair 67 = .ok (.iconst 3, 1) := dk_6 (dk_at dksX2_readPair_2 19 rfl rfl)
theorem dX2_readPair_68 : decode cX2_readPair 68 = .ok (.iload 4, 2) := dk_21 4 (dk_at dksX2_readPair_2 20 rfl rfl)
theorem dX2_readPair_70 : decode cX2_readPair 70 = .ok (.imul, 1) := dk_104 (dk_at dksX2_readPair_2 22 rfl rfl)
theorem dX2_readPair_71 : decode cX2_readPair 71 = .ok (.iload 5, 2) := dk_21 5 (dk_at dksX2_readPair_3 0 rfl rfl)
theorem dX2_readPair_73 : decode cX2_readPair 73 = .ok (.iadd, 1) := dk_96 (dk_at dksX2_readPair_3 2 rfl rfl)
theorem dX2_readPair_74 : decode cX2_readPair 74 = .ok (.aload_n 0, 1) := dk_42 (dk_at dksX2_readPair_3 3 rfl rfl)
theorem dX2_readPair_75 : decode cX2_readPair 75 = .ok (.iconst 0, 1) := dk_3 (dk_at dksX2_readPair_3 4 rfl rfl)
theorem dX2_readPair_76 : decode cX2_readPair 76 = .ok (.bipush 99, 2) := dk_16 99 (dk_at dksX2_readPair_3 5 rfl rfl)
theorem dX2_readPair_78 : decode cX2_readPair 78 = .ok (.invokevirtual 266, 3) := dk_182 1 10 (dk_at dksX2_readPair_3 7 rfl rfl)
theorem dX2_readPair_81 : decode cX2_readPair 81 = .ok (.bipush 50, 2) := dk_16 50 (dk_at dksX2_readPair_3 10 rfl rfl)
theorem dX2_readPair_83 : decode cX2_readPair 83 = .ok (.isub, 1) := dk_100 (dk_at dksX2_readPair_3 12 rfl rfl)
theorem dX2_readPair_84 : decode cX2_readPair 84 = .ok (.iastore, 1) := dk_79 (dk_at dksX2_readPair_3 13 rfl rfl)
theorem dX2_readPair_85 : decode cX2_readPair 85 = .ok (.iinc 5 1, 3) := dk_132 5 1 (dk_at dksX2_readPair_3 14 rfl rfl)
theorem dX2_readPair_88 : decode cX2_readPair 88 = .ok (.goto (-31), 3) := dk_167 255 225 (dk_at dksX2_readPair_3 17 rfl rfl)
theorem dX2_readPair_91 : decode cX2_readPair 91 = .ok (.aload_n 0, 1) := dk_42 (dk_at dksX2_readPair_3 20 rfl rfl)
theorem dX2_readPair_92 : decode cX2_readPair 92 = .ok (.invokevirtual 217, 3) := dk_182 0 217 (dk_at dksX2_readPair_3 21 rfl rfl)
theorem dX2_readPair_95 : decode cX2_readPair 95 = .ok (.ifCond .ne 4, 3) := dk_154 0 4 (dk_at dksX2_readPair_4 0 rfl rfl)
theorem dX2_readPair_98 : decode cX2_readPair 98 = .ok (.return_, 1) := dk_177 (dk_at dksX2_readPair_4 3 rfl rfl)
theorem dX2_readPair_99 : decode cX2_readPair 99 = .ok (.aload_n 0, 1) := dk_42 (dk_at dksX2_readPair_4 4 rfl rfl)
theorem dX2_readPair_100 : decode cX2_readPair 100 = .ok (.getfield 60, 3) := dk_180 0 60 (dk_at dksX2_readPair_4 5 rfl rfl)
theorem dX2_readPair_103 : decode cX2_readPair 103 = .ok (.iload 4, 2) := dk_21 4 (dk_at dksX2_readPair_4 8 rfl rfl)
theorem dX2_readPair_105 : decode cX2_readPair 105 = .ok (.iconst 1, 1) := dk_4 (dk_at dksX2_readPair_4 10 rfl rfl)
theorem dX2_readPair_106 : decode cX2_readPair 106 = .ok (.bastore, 1) := dk_84 (dk_at dksX2_readPair_4 11 rfl rfl)
theorem dX2_readPair_107 : decode cX2_readPair 107 = .ok (.aload_n 0, 1) := dk_42 (dk_at dksX2_readPair_4 12 rfl rfl)
theorem dX2_readPair_108 : decode cX2_readPair 108 = .ok (.getfield 24, 3) := dk_180 0 24 (dk_at dksX2_readPair_4 13 rfl rfl)
theorem dX2_readPair_111 : decode cX2_readPair 111 = .ok (.aload_n 0, 1) := dk_42 (dk_at dksX2_readPair_4 16 rfl rfl)
theorem dX2_readPair_112 : decode cX2_readPair 112 = .ok (.getfield 227, 3) := dk_180 0 227 (dk_at dksX2_readPair_4 17 rfl rfl)
theorem dX2_readPair_115 : decode cX2_readPair 115 = .ok (.dup2, 1) := dk_92 (dk_at dksX2_readPair_4 20 rfl rfl)
theorem dX2_readPair_116 : decode cX2_readPair 116 = .ok (.iaload, 1) := dk_46 (dk_at dksX2_readPair_4 21 rfl rfl)
theorem dX2_readPair_117 : decode cX2_readPair 117 = .ok (.iconst 1, 1) := dk_4 (dk_at dksX2_readPair_4 22 rfl rfl)
theorem dX2_readPair_118 : decode cX2_readPair 118 = .ok (.iadd, 1) := dk_96 (dk_at dksX2_readPair_4 23 rfl rfl)
theorem dX2_readPair_119 : decode cX2_readPair 119 = .ok (.iastore, 1) := dk_79 (dk_at dksX2_readPair_5 0 rfl rfl)
theorem dX2_readPair_120 : decode cX2_readPair 120 = .ok (.return_, 1) := dk_177 (dk_at dksX2_readPair_5 1 rfl rfl)
abbrev cX2_known : ByteArray := prog_9_method_22_code
def yX2_known : MethodName := ⟨RX2, "known", "()I"⟩
def dkwX2_known_2 : List UInt8 := [182, 0, 217, 153, 0, 7, 42, 182, 0, 221, 27, 156, 0, 7, 3, 167, 0, 4, 27, 172]
abbrev dktX2_known_2 : List UInt8 := dkwX2_known_2 ++ []
def dkwX2_known_1 : List UInt8 := [159, 0, 10, 42, 182, 0, 224, 167, 0, 16, 27, 156, 0, 12, 42, 8, 42, 180, 0, 185, 182, 0, 213, 42]
abbrev dktX2_known_1 : List UInt8 := dkwX2_known_1 ++ dktX2_known_2
def dkwX2_known_0 : List UInt8 := [42, 182, 0, 217, 154, 0, 5, 3, 172, 42, 42, 180, 0, 199, 182, 1, 24, 60, 42, 180, 0, 192, 5]
abbrev dktX2_known_0 : List UInt8 := dkwX2_known_0 ++ dktX2_known_1
theorem dksX2_known_0 : cX2_known.data.toList.drop 0 = dktX2_known_0 := by decide +kernel
theorem dksX2_known_1 : cX2_known.data.toList.drop 23 = dktX2_known_1 := dk_seg dksX2_known_0 23 rfl rfl
theorem dksX2_known_2 : cX2_known.data.toList.drop 47 = dktX2_known_2 := dk_seg dksX2_known_1 24 rfl rfl
theorem dX2_known_0 : decode cX2_known 0 = .ok (.aload_n 0, 1) := dk_42 (dk_at dksX2_known_0 0 rfl rfl)
theorem dX2_known_1 : decode cX2_known 1 = .ok (.invokevirtual 217, 3) := dk_182 0 217 (dk_at dksX2_known_0 1 rfl rfl)
theorem dX2_known_4 : decode cX2_known 4 = .ok (.ifCond .ne 5, 3) := dk_154 0 5 (dk_at dksX2_known_0 4 rfl rfl)
theorem dX2_known_7 : decode cX2_known 7 = .ok (.iconst 0, 1) := dk_3 (dk_at dksX2_known_0 7 rfl rfl)
theorem dX2_known_8 : decode cX2_known 8 = .ok (.ireturn, 1) := dk_172 (dk_at dksX2_known_0 8 rfl rfl)
theorem dX2_known_9 : decode cX2_known 9 = .ok (.aload_n 0, 1) := dk_42 (dk_at dksX2_known_0 9 rfl rfl)
theorem dX2_known_10 : decode cX2_known 10 = .ok (.aload_n 0, 1) := dk_42 (dk_at dksX2_known_0 10 rfl rfl)
theorem dX2_known_11 : decode cX2_known 11 = .ok (.getfield 199, 3) := dk_180 0 199 (dk_at dksX2_known_0 11 rfl rfl)
theorem dX2_known_14 : decode cX2_known 14 = .ok (.invokevirtual 280, 3) := dk_182 1 24 (dk_at dksX2_known_0 14 rfl rfl)
theorem dX2_known_17 : decode cX2_known 17 = .ok (.istore_n 1, 1) := dk_60 (dk_at dksX2_known_0 17 rfl rfl)
theorem dX2_known_18 : decode cX2_known 18 = .ok (.aload_n 0, 1) := dk_42 (dk_at dksX2_known_0 18 rfl rfl)
theorem dX2_known_19 : decode cX2_known 19 = .ok (.getfield 192, 3) := dk_180 0 192 (dk_at dksX2_known_0 19 rfl rfl)
theorem dX2_known_22 : decode cX2_known 22 = .ok (.iconst 2, 1) := dk_5 (dk_at dksX2_known_0 22 rfl rfl)
theorem dX2_known_23 : decode cX2_known 23 = .ok (.if_icmp .eq 10, 3) := dk_159 0 10 (dk_at dksX2_known_1 0 rfl rfl)
theorem dX2_known_26 : decode cX2_known 26 = .ok (.aload_n 0, 1) := dk_42 (dk_at dksX2_known_1 3 rfl rfl)
theorem dX2_known_27 : decode cX2_known 27 = .ok (.invokevirtual 224, 3) := dk_182 0 224 (dk_at dksX2_known_1 4 rfl rfl)
theorem dX2_known_30 : decode cX2_known 30 = .ok (.goto 16, 3) := dk_167 0 16 (dk_at dksX2_known_1 7 rfl rfl)
theorem dX2_known_33 : decode cX2_known 33 = .ok (.iload_n 1, 1) := dk_27 (dk_at dksX2_known_1 10 rfl rfl)
theorem dX2_known_34 : decode cX2_known 34 = .ok (.ifCond .ge 12, 3) := dk_156 0 12 (dk_at dksX2_known_1 11 rfl rfl)
theorem dX2_known_37 : decode cX2_known 37 = .ok (.aload_n 0, 1) := dk_42 (dk_at dksX2_known_1 14 rfl rfl)
theorem dX2_known_38 : decode cX2_known 38 = .ok (.iconst 5, 1) := dk_8 (dk_at dksX2_known_1 15 rfl rfl)
theorem dX2_known_39 : decode cX2_known 39 = .ok (.aload_n 0, 1) := dk_42 (dk_at dksX2_known_1 16 rfl rfl)
theorem dX2_known_40 : decode cX2_known 40 = .ok (.getfield 185, 3) := dk_180 0 185 (dk_at dksX2_known_1 17 rfl rfl)
theorem dX2_known_43 : decode cX2_known 43 = .ok (.invokevirtual 213, 3) := dk_182 0 213 (dk_at dksX2_known_1 20 rfl rfl)
theorem dX2_known_46 : decode cX2_known 46 = .ok (.aload_n 0, 1) := dk_42 (dk_at dksX2_known_1 23 rfl rfl)
theorem dX2_known_47 : decode cX2_known 47 = .ok (.invokevirtual 217, 3) := dk_182 0 217 (dk_at dksX2_known_2 0 rfl rfl)
theorem dX2_known_50 : decode cX2_known 50 = .ok (.ifCond .eq 7, 3) := dk_153 0 7 (dk_at dksX2_known_2 3 rfl rfl)
theorem dX2_known_53 : decode cX2_known 53 = .ok (.aload_n 0, 1) := dk_42 (dk_at dksX2_known_2 6 rfl rfl)
theorem dX2_known_54 : decode cX2_known 54 = .ok (.invokevirtual 221, 3) := dk_182 0 221 (dk_at dksX2_known_2 7 rfl rfl)
theorem dX2_known_57 : decode cX2_known 57 = .ok (.iload_n 1, 1) := dk_27 (dk_at dksX2_known_2 10 rfl rfl)
theorem dX2_known_58 : decode cX2_known 58 = .ok (.ifCond .ge 7, 3) := dk_156 0 7 (dk_at dksX2_known_2 11 rfl rfl)
theorem dX2_known_61 : decode cX2_known 61 = .ok (.iconst 0, 1) := dk_3 (dk_at dksX2_known_2 14 rfl rfl)
theorem dX2_known_62 : decode cX2_known 62 = .ok (.goto 4, 3) := dk_167 0 4 (dk_at dksX2_known_2 15 rfl rfl)
theorem dX2_known_65 : decode cX2_known 65 = .ok (.iload_n 1, 1) := dk_27 (dk_at dksX2_known_2 18 rfl rfl)
theorem dX2_known_66 : decode cX2_known 66 = .ok (.ireturn, 1) := dk_172 (dk_at dksX2_known_2 19 rfl rfl)
abbrev cX2_readRule : ByteArray := prog_9_method_24_code
def yX2_readRule : MethodName := ⟨RX2, "readRule", "()V"⟩
def dkwX2_readRule_4 : List UInt8 := [180, 0, 227, 92, 46, 4, 96, 79, 177]
abbrev dktX2_readRule_4 : List UInt8 := dkwX2_readRule_4 ++ []
def dkwX2_readRule_3 : List UInt8 := [4, 167, 0, 4, 3, 60, 27, 153, 255, 217, 42, 182, 0, 221, 167, 255, 210, 42, 180, 0, 27, 42]
abbrev dktX2_readRule_3 : List UInt8 := dkwX2_readRule_3 ++ dktX2_readRule_4
def dkwX2_readRule_2 : List UInt8 := [153, 0, 41, 42, 182, 1, 39, 42, 182, 0, 217, 153, 0, 17, 42, 20, 0, 176, 182, 0, 251, 153, 0, 7]
abbrev dktX2_readRule_2 : List UInt8 := dkwX2_readRule_2 ++ dktX2_readRule_3
def dkwX2_readRule_1 : List UInt8 := [182, 1, 31, 80, 42, 42, 16, 61, 182, 1, 17, 182, 1, 20, 4, 60, 42, 182, 0, 217, 153, 0, 45, 27]
abbrev dktX2_readRule_1 : List UInt8 := dkwX2_readRule_1 ++ dktX2_readRule_2
def dkwX2_readRule_0 : List UInt8 := [42, 180, 0, 71, 16, 8, 42, 180, 0, 227, 104, 42, 180, 0, 27, 42, 180, 0, 227, 46, 96, 42]
abbrev dktX2_readRule_0 : List UInt8 := dkwX2_readRule_0 ++ dktX2_readRule_1
theorem dksX2_readRule_0 : cX2_readRule.data.toList.drop 0 = dktX2_readRule_0 := by decide +kernel
theorem dksX2_readRule_1 : cX2_readRule.data.toList.drop 22 = dktX2_readRule_1 := dk_seg dksX2_readRule_0 22 rfl rfl
theorem dksX2_readRule_2 : cX2_readRule.data.toList.drop 46 = dktX2_readRule_2 := dk_seg dksX2_readRule_1 24 rfl rfl
theorem dksX2_readRule_3 : cX2_readRule.data.toList.drop 70 = dktX2_readRule_3 := dk_seg dksX2_readRule_2 24 rfl rfl
theorem dksX2_readRule_4 : cX2_readRule.data.toList.drop 92 = dktX2_readRule_4 := dk_seg dksX2_readRule_3 22 rfl rfl
theorem dX2_readRule_0 : decode cX2_readRule 0 = .ok (.aload_n 0, 1) := dk_42 (dk_at dksX2_readRule_0 0 rfl rfl)
theorem dX2_readRule_1 : decode cX2_readRule 1 = .ok (.getfield 71, 3) := dk_180 0 71 (dk_at dksX2_readRule_0 1 rfl rfl)
theorem dX2_readRule_4 : decode cX2_readRule 4 = .ok (.bipush 8, 2) := dk_16 8 (dk_at dksX2_readRule_0 4 rfl rfl)
theorem dX2_readRule_6 : decode cX2_readRule 6 = .ok (.aload_n 0, 1) := dk_42 (dk_at dksX2_readRule_0 6 rfl rfl)
theorem dX2_readRule_7 : decode cX2_readRule 7 = .ok (.getfield 227, 3) := dk_180 0 227 (dk_at dksX2_readRule_0 7 rfl rfl)
theorem dX2_readRule_10 : decode cX2_readRule 10 = .ok (.imul, 1) := dk_104 (dk_at dksX2_readRule_0 10 rfl rfl)
theorem dX2_readRule_11 : decode cX2_readRule 11 = .ok (.aload_n 0, 1) := dk_42 (dk_at dksX2_readRule_0 11 rfl rfl)
theorem dX2_readRule_12 : decode cX2_readRule 12 = .ok (.getfield 27, 3) := dk_180 0 27 (dk_at dksX2_readRule_0 12 rfl rfl)
theorem dX2_readRule_15 : decode cX2_readRule 15 = .ok (.aload_n 0, 1) := dk_42 (dk_at dksX2_readRule_0 15 rfl rfl)
theorem dX2_readRule_16 : decode cX2_readRule 16 = .ok (.getfield 227, 3) := dk_180 0 227 (dk_at dksX2_readRule_0 16 rfl rfl)
theorem dX2_readRule_19 : decode cX2_readRule 19 = .ok (.iaload, 1) := dk_46 (dk_at dksX2_readRule_0 19 rfl rfl)
theorem dX2_readRule_20 : decode cX2_readRule 20 = .ok (.iadd, 1) := dk_96 (dk_at dksX2_readRule_0 20 rfl rfl)
theorem dX2_readRule_21 : decode cX2_readRule 21 = .ok (.aload_n 0, 1) := dk_42 (dk_at dksX2_readRule_0 21 rfl rfl)
theorem dX2_readRule_22 : decode cX2_readRule 22 = .ok (.invokevirtual 287, 3) := dk_182 1 31 (dk_at dksX2_readRule_1 0 rfl rfl)
theorem dX2_readRule_25 : decode cX2_readRule 25 = .ok (.lastore, 1) := dk_80 (dk_at dksX2_readRule_1 3 rfl rfl)
theorem dX2_readRule_26 : decode cX2_readRule 26 = .ok (.aload_n 0, 1) := dk_42 (dk_at dksX2_readRule_1 4 rfl rfl)
theorem dX2_readRule_27 : decode cX2_readRule 27 = .ok (.aload_n 0, 1) := dk_42 (dk_at dksX2_readRule_1 5 rfl rfl)
theorem dX2_readRule_28 : decode cX2_readRule 28 = .ok (.bipush 61, 2) := dk_16 61 (dk_at dksX2_readRule_1 6 rfl rfl)
theorem dX2_readRule_30 : decode cX2_readRule 30 = .ok (.invokevirtual 273, 3) := dk_182 1 17 (dk_at dksX2_readRule_1 8 rfl rfl)
theorem dX2_readRule_33 : decode cX2_readRule 33 = .ok (.invokevirtual 276, 3) := dk_182 1 20 (dk_at dksX2_readRule_1 11 rfl rfl)
theorem dX2_readRule_36 : decode cX2_readRule 36 = .ok (.iconst 1, 1) := dk_4 (dk_at dksX2_readRule_1 14 rfl rfl)
theorem dX2_readRule_37 : decode cX2_readRule 37 = .ok (.istore_n 1, 1) := dk_60 (dk_at dksX2_readRule_1 15 rfl rfl)
theorem dX2_readRule_38 : decode cX2_readRule 38 = .ok (.aload_n 0, 1) := dk_42 (dk_at dksX2_readRule_1 16 rfl rfl)
theorem dX2_readRule_39 : decode cX2_readRule 39 = .ok (.invokevirtual 217, 3) := dk_182 0 217 (dk_at dksX2_readRule_1 17 rfl rfl)
theorem dX2_readRule_42 : decode cX2_readRule 42 = .ok (.ifCond .eq 45, 3) := dk_153 0 45 (dk_at dksX2_readRule_1 20 rfl rfl)
theorem dX2_readRule_45 : decode cX2_readRule 45 = .ok (.iload_n 1, 1) := dk_27 (dk_at dksX2_readRule_1 23 rfl rfl)
theorem dX2_readRule_46 : decode cX2_readRule 46 = .ok (.ifCond .eq 41, 3) := dk_153 0 41 (dk_at dksX2_readRule_2 0 rfl rfl)
theorem dX2_readRule_49 : decode cX2_readRule 49 = .ok (.aload_n 0, 1) := dk_42 (dk_at dksX2_readRule_2 3 rfl rfl)
theorem dX2_readRule_50 : decode cX2_readRule 50 = .ok (.invokevirtual 295, 3) := dk_182 1 39 (dk_at dksX2_readRule_2 4 rfl rfl)
theorem dX2_readRule_53 : decode cX2_readRule 53 = .ok (.aload_n 0, 1) := dk_42 (dk_at dksX2_readRule_2 7 rfl rfl)
theorem dX2_readRule_54 : decode cX2_readRule 54 = .ok (.invokevirtual 217, 3) := dk_182 0 217 (dk_at dksX2_readRule_2 8 rfl rfl)
theorem dX2_readRule_57 : decode cX2_readRule 57 = .ok (.ifCond .eq 17, 3) := dk_153 0 17 (dk_at dksX2_readRule_2 11 rfl rfl)
theorem dX2_readRule_60 : decode cX2_readRule 60 = .ok (.aload_n 0, 1) := dk_42 (dk_at dksX2_readRule_2 14 rfl rfl)
theorem dX2_readRule_61 : decode cX2_readRule 61 = .ok (.ldc2_w 176, 3) := dk_20 0 176 (dk_at dksX2_readRule_2 15 rfl rfl)
theorem dX2_readRule_64 : decode cX2_readRule 64 = .ok (.invokevirtual 251, 3) := dk_182 0 251 (dk_at dksX2_readRule_2 18 rfl rfl)
theorem dX2_readRule_67 : decode cX2_readRule 67 = .ok (.ifCond .eq 7, 3) := dk_153 0 7 (dk_at dksX2_readRule_2 21 rfl rfl)
theorem dX2_readRule_70 : decode cX2_readRule 70 = .ok (.iconst 1, 1) := dk_4 (dk_at dksX2_readRule_3 0 rfl rfl)
theorem dX2_readRule_71 : decode cX2_readRule 71 = .ok (.goto 4, 3) := dk_167 0 4 (dk_at dksX2_readRule_3 1 rfl rfl)
theorem dX2_readRule_74 : decode cX2_readRule 74 = .ok (.iconst 0, 1) := dk_3 (dk_at dksX2_readRule_3 4 rfl rfl)
theorem dX2_readRule_75 : decode cX2_readRule 75 = .ok (.istore_n 1, 1) := dk_60 (dk_at dksX2_readRule_3 5 rfl rfl)
theorem dX2_readRule_76 : decode cX2_readRule 76 = .ok (.iload_n 1, 1) := dk_27 (dk_at dksX2_readRule_3 6 rfl rfl)
theorem dX2_readRule_77 : decode cX2_readRule 77 = .ok (.ifCond .eq (-39), 3) := dk_153 255 217 (dk_at dksX2_readRule_3 7 rfl rfl)
theorem dX2_readRule_80 : decode cX2_readRule 80 = .ok (.aload_n 0, 1) := dk_42 (dk_at dksX2_readRule_3 10 rfl rfl)
theorem dX2_readRule_81 : decode cX2_readRule 81 = .ok (.invokevirtual 221, 3) := dk_182 0 221 (dk_at dksX2_readRule_3 11 rfl rfl)
theorem dX2_readRule_84 : decode cX2_readRule 84 = .ok (.goto (-46), 3) := dk_167 255 210 (dk_at dksX2_readRule_3 14 rfl rfl)
theorem dX2_readRule_87 : decode cX2_readRule 87 = .ok (.aload_n 0, 1) := dk_42 (dk_at dksX2_readRule_3 17 rfl rfl)
theorem dX2_readRule_88 : decode cX2_readRule 88 = .ok (.getfield 27, 3) := dk_180 0 27 (dk_at dksX2_readRule_3 18 rfl rfl)
theorem dX2_readRule_91 : decode cX2_readRule 91 = .ok (.aload_n 0, 1) := dk_42 (dk_at dksX2_readRule_3 21 rfl rfl)
theorem dX2_readRule_92 : decode cX2_readRule 92 = .ok (.getfield 227, 3) := dk_180 0 227 (dk_at dksX2_readRule_4 0 rfl rfl)
theorem dX2_readRule_95 : decode cX2_readRule 95 = .ok (.dup2, 1) := dk_92 (dk_at dksX2_readRule_4 3 rfl rfl)
theorem dX2_readRule_96 : decode cX2_readRule 96 = .ok (.iaload, 1) := dk_46 (dk_at dksX2_readRule_4 4 rfl rfl)
theorem dX2_readRule_97 : decode cX2_readRule 97 = .ok (.iconst 1, 1) := dk_4 (dk_at dksX2_readRule_4 5 rfl rfl)
theorem dX2_readRule_98 : decode cX2_readRule 98 = .ok (.iadd, 1) := dk_96 (dk_at dksX2_readRule_4 6 rfl rfl)
theorem dX2_readRule_99 : decode cX2_readRule 99 = .ok (.iastore, 1) := dk_79 (dk_at dksX2_readRule_4 7 rfl rfl)
theorem dX2_readRule_100 : decode cX2_readRule 100 = .ok (.return_, 1) := dk_177 (dk_at dksX2_readRule_4 8 rfl rfl)
abbrev cX2_isSignHere : ByteArray := prog_9_method_9_code
def yX2_isSignHere : MethodName := ⟨RX2, "isSignHere", "(I)Z"⟩
def dkwX2_isSignHere_1 : List UInt8 := [3, 172]
abbrev dktX2_isSignHere_1 : List UInt8 := dkwX2_isSignHere_1 ++ []
def dkwX2_isSignHere_0 : List UInt8 := [42, 180, 0, 192, 8, 160, 0, 19, 42, 42, 180, 0, 185, 182, 0, 188, 27, 160, 0, 7, 4, 167, 0, 4]
abbrev dktX2_isSignHere_0 : List UInt8 := dkwX2_isSignHere_0 ++ dktX2_isSignHere_1
theorem dksX2_isSignHere_0 : cX2_isSignHere.data.toList.drop 0 = dktX2_isSignHere_0 := by decide +kernel
theorem dksX2_isSignHere_1 : cX2_isSignHere.data.toList.drop 24 = dktX2_isSignHere_1 := dk_seg dksX2_isSignHere_0 24 rfl rfl
theorem dX2_isSignHere_0 : decode cX2_isSignHere 0 = .ok (.aload_n 0, 1) := dk_42 (dk_at dksX2_isSignHere_0 0 rfl rfl)
theorem dX2_isSignHere_1 : decode cX2_isSignHere 1 = .ok (.getfield 192, 3) := dk_180 0 192 (dk_at dksX2_isSignHere_0 1 rfl rfl)
theorem dX2_isSignHere_4 : decode cX2_isSignHere 4 = .ok (.iconst 5, 1) := dk_8 (dk_at dksX2_isSignHere_0 4 rfl rfl)
theorem dX2_isSignHere_5 : decode cX2_isSignHere 5 = .ok (.if_icmp .ne 19, 3) := dk_160 0 19 (dk_at dksX2_isSignHere_0 5 rfl rfl)
theorem dX2_isSignHere_8 : decode cX2_isSignHere 8 = .ok (.aload_n 0, 1) := dk_42 (dk_at dksX2_isSignHere_0 8 rfl rfl)
theorem dX2_isSignHere_9 : decode cX2_isSignHere 9 = .ok (.aload_n 0, 1) := dk_42 (dk_at dksX2_isSignHere_0 9 rfl rfl)
theorem dX2_isSignHere_10 : decode cX2_isSignHere 10 = .ok (.getfield 185, 3) := dk_180 0 185 (dk_at dksX2_isSignHere_0 10 rfl rfl)
theorem dX2_isSignHere_13 : decode cX2_isSignHere 13 = .ok (.invokevirtual 188, 3) := dk_182 0 188 (dk_at dksX2_isSignHere_0 13 rfl rfl)
theorem dX2_isSignHere_16 : decode cX2_isSignHere 16 = .ok (.iload_n 1, 1) := dk_27 (dk_at dksX2_isSignHere_0 16 rfl rfl)
theorem dX2_isSignHere_17 : decode cX2_isSignHere 17 = .ok (.if_icmp .ne 7, 3) := dk_160 0 7 (dk_at dksX2_isSignHere_0 17 rfl rfl)
theorem dX2_isSignHere_20 : decode cX2_isSignHere 20 = .ok (.iconst 1, 1) := dk_4 (dk_at dksX2_isSignHere_0 20 rfl rfl)
theorem dX2_isSignHere_21 : decode cX2_isSignHere 21 = .ok (.goto 4, 3) := dk_167 0 4 (dk_at dksX2_isSignHere_0 21 rfl rfl)
theorem dX2_isSignHere_24 : decode cX2_isSignHere 24 = .ok (.iconst 0, 1) := dk_3 (dk_at dksX2_isSignHere_1 0 rfl rfl)
theorem dX2_isSignHere_25 : decode cX2_isSignHere 25 = .ok (.ireturn, 1) := dk_172 (dk_at dksX2_isSignHere_1 1 rfl rfl)
abbrev cX2_must : ByteArray := prog_9_method_12_code
def yX2_must : MethodName := ⟨RX2, "must", "(Z)V"⟩
def dkwX2_must_0 : List UInt8 := [42, 182, 0, 217, 154, 0, 4, 177, 27, 153, 0, 10, 42, 182, 0, 221, 167, 0, 7, 42, 182, 0, 224, 177]
abbrev dktX2_must_0 : List UInt8 := dkwX2_must_0 ++ []
theorem dksX2_must_0 : cX2_must.data.toList.drop 0 = dktX2_must_0 := by decide +kernel
theorem dX2_must_0 : decode cX2_must 0 = .ok (.aload_n 0, 1) := dk_42 (dk_at dksX2_must_0 0 rfl rfl)
theorem dX2_must_1 : decode cX2_must 1 = .ok (.invokevirtual 217, 3) := dk_182 0 217 (dk_at dksX2_must_0 1 rfl rfl)
theorem dX2_must_4 : decode cX2_must 4 = .ok (.ifCond .ne 4, 3) := dk_154 0 4 (dk_at dksX2_must_0 4 rfl rfl)
theorem dX2_must_7 : decode cX2_must 7 = .ok (.return_, 1) := dk_177 (dk_at dksX2_must_0 7 rfl rfl)
theorem dX2_must_8 : decode cX2_must 8 = .ok (.iload_n 1, 1) := dk_27 (dk_at dksX2_must_0 8 rfl rfl)
theorem dX2_must_9 : decode cX2_must 9 = .ok (.ifCond .eq 10, 3) := dk_153 0 10 (dk_at dksX2_must_0 9 rfl rfl)
theorem dX2_must_12 : decode cX2_must 12 = .ok (.aload_n 0, 1) := dk_42 (dk_at dksX2_must_0 12 rfl rfl)
theorem dX2_must_13 : decode cX2_must 13 = .ok (.invokevirtual 221, 3) := dk_182 0 221 (dk_at dksX2_must_0 13 rfl rfl)
theorem dX2_must_16 : decode cX2_must 16 = .ok (.goto 7, 3) := dk_167 0 7 (dk_at dksX2_must_0 16 rfl rfl)
theorem dX2_must_19 : decode cX2_must 19 = .ok (.aload_n 0, 1) := dk_42 (dk_at dksX2_must_0 19 rfl rfl)
theorem dX2_must_20 : decode cX2_must 20 = .ok (.invokevirtual 224, 3) := dk_182 0 224 (dk_at dksX2_must_0 20 rfl rfl)
theorem dX2_must_23 : decode cX2_must 23 = .ok (.return_, 1) := dk_177 (dk_at dksX2_must_0 23 rfl rfl)
abbrev cX2_readAlt : ByteArray := prog_9_method_25_code
def yX2_readAlt : MethodName := ⟨RX2, "readAlt", "()V"⟩
def dkwX2_readAlt_7 : List UInt8 := [46, 4, 96, 79, 42, 182, 0, 221, 167, 255, 174, 177]
abbrev dktX2_readAlt_7 : List UInt8 := dkwX2_readAlt_7 ++ []
def dkwX2_readAlt_6 : List UInt8 := [180, 0, 57, 7, 27, 104, 42, 180, 0, 51, 27, 46, 96, 42, 180, 0, 185, 79, 42, 180, 0, 51, 27, 92]
abbrev dktX2_readAlt_6 : List UInt8 := dkwX2_readAlt_6 ++ dktX2_readAlt_7
def dkwX2_readAlt_5 : List UInt8 := [182, 0, 224, 177, 42, 180, 0, 74, 7, 27, 104, 42, 180, 0, 51, 27, 46, 96, 42, 180, 0, 199, 80, 42]
abbrev dktX2_readAlt_5 : List UInt8 := dkwX2_readAlt_5 ++ dktX2_readAlt_6
def dkwX2_readAlt_4 : List UInt8 := [153, 0, 81, 42, 180, 0, 192, 5, 160, 0, 73, 42, 180, 0, 51, 27, 46, 7, 160, 0, 8, 42]
abbrev dktX2_readAlt_4 : List UInt8 := dkwX2_readAlt_4 ++ dktX2_readAlt_5
def dkwX2_readAlt_3 : List UInt8 := [180, 0, 51, 27, 3, 79, 42, 180, 0, 30, 42, 180, 0, 227, 92, 46, 4, 96, 79, 42, 182, 0, 217]
abbrev dktX2_readAlt_3 : List UInt8 := dkwX2_readAlt_3 ++ dktX2_readAlt_4
def dkwX2_readAlt_2 : List UInt8 := [180, 0, 227, 46, 96, 60, 42, 180, 0, 48, 27, 42, 180, 0, 27, 42, 180, 0, 227, 46, 79, 42]
abbrev dktX2_readAlt_2 : List UInt8 := dkwX2_readAlt_2 ++ dktX2_readAlt_3
def dkwX2_readAlt_1 : List UInt8 := [182, 0, 224, 42, 182, 0, 217, 154, 0, 4, 177, 16, 24, 42, 180, 0, 227, 104, 42, 180, 0, 30, 42]
abbrev dktX2_readAlt_1 : List UInt8 := dkwX2_readAlt_1 ++ dktX2_readAlt_2
def dkwX2_readAlt_0 : List UInt8 := [42, 180, 0, 192, 5, 160, 0, 17, 42, 180, 0, 30, 42, 180, 0, 227, 46, 16, 24, 160, 0, 7, 42]
abbrev dktX2_readAlt_0 : List UInt8 := dkwX2_readAlt_0 ++ dktX2_readAlt_1
theorem dksX2_readAlt_0 : cX2_readAlt.data.toList.drop 0 = dktX2_readAlt_0 := by decide +kernel
theorem dksX2_readAlt_1 : cX2_readAlt.data.toList.drop 23 = dktX2_readAlt_1 := dk_seg dksX2_readAlt_0 23 rfl rfl
theorem dksX2_readAlt_2 : cX2_readAlt.data.toList.drop 46 = dktX2_readAlt_2 := dk_seg dksX2_readAlt_1 23 rfl rfl
theorem dksX2_readAlt_3 : cX2_readAlt.data.toList.drop 68 = dktX2_readAlt_3 := dk_seg dksX2_readAlt_2 22 rfl rfl
theorem dksX2_readAlt_4 : cX2_readAlt.data.toList.drop 91 = dktX2_readAlt_4 := dk_seg dksX2_readAlt_3 23 rfl rfl
theorem dksX2_readAlt_5 : cX2_readAlt.data.toList.drop 113 = dktX2_readAlt_5 := dk_seg dksX2_readAlt_4 22 rfl rfl
theorem dksX2_readAlt_6 : cX2_readAlt.data.toList.drop 137 = dktX2_readAlt_6 := dk_seg dksX2_readAlt_5 24 rfl rfl
theorem dksX2_readAlt_7 : cX2_readAlt.data.toList.drop 161 = dktX2_readAlt_7 := dk_seg dksX2_readAlt_6 24 rfl rfl
theorem dX2_readAlt_0 : decode cX2_readAlt 0 = .ok (.aload_n 0, 1) := dk_42 (dk_at dksX2_readAlt_0 0 rfl rfl)
theorem dX2_readAlt_1 : decode cX2_readAlt 1 = .ok (.getfield 192, 3) := dk_180 0 192 (dk_at dksX2_readAlt_0 1 rfl rfl)
theorem dX2_readAlt_4 : decode cX2_readAlt 4 = .ok (.iconst 2, 1) := dk_5 (dk_at dksX2_readAlt_0 4 rfl rfl)
theorem dX2_readAlt_5 : decode cX2_readAlt 5 = .ok (.if_icmp .ne 17, 3) := dk_160 0 17 (dk_at dksX2_readAlt_0 5 rfl rfl)
theorem dX2_readAlt_8 : decode cX2_readAlt 8 = .ok (.aload_n 0, 1) := dk_42 (dk_at dksX2_readAlt_0 8 rfl rfl)
theorem dX2_readAlt_9 : decode cX2_readAlt 9 = .ok (.getfield 30, 3) := dk_180 0 30 (dk_at dksX2_readAlt_0 9 rfl rfl)
theorem dX2_readAlt_12 : decode cX2_readAlt 12 = .ok (.aload_n 0, 1) := dk_42 (dk_at dksX2_readAlt_0 12 rfl rfl)
theorem dX2_readAlt_13 : decode cX2_readAlt 13 = .ok (.getfield 227, 3) := dk_180 0 227 (dk_at dksX2_readAlt_0 13 rfl rfl)
theorem dX2_readAlt_16 : decode cX2_readAlt 16 = .ok (.iaload, 1) := dk_46 (dk_at dksX2_readAlt_0 16 rfl rfl)
theorem dX2_readAlt_17 : decode cX2_readAlt 17 = .ok (.bipush 24, 2) := dk_16 24 (dk_at dksX2_readAlt_0 17 rfl rfl)
theorem dX2_readAlt_19 : decode cX2_readAlt 19 = .ok (.if_icmp .ne 7, 3) := dk_160 0 7 (dk_at dksX2_readAlt_0 19 rfl rfl)
theorem dX2_readAlt_22 : decode cX2_readAlt 22 = .ok (.aload_n 0, 1) := dk_42 (dk_at dksX2_readAlt_0 22 rfl rfl)
theorem dX2_readAlt_23 : decode cX2_readAlt 23 = .ok (.invokevirtual 224, 3) := dk_182 0 224 (dk_at dksX2_readAlt_1 0 rfl rfl)
theorem dX2_readAlt_26 : decode cX2_readAlt 26 = .ok (.aload_n 0, 1) := dk_42 (dk_at dksX2_readAlt_1 3 rfl rfl)
theorem dX2_readAlt_27 : decode cX2_readAlt 27 = .ok (.invokevirtual 217, 3) := dk_182 0 217 (dk_at dksX2_readAlt_1 4 rfl rfl)
theorem dX2_readAlt_30 : decode cX2_readAlt 30 = .ok (.ifCond .ne 4, 3) := dk_154 0 4 (dk_at dksX2_readAlt_1 7 rfl rfl)
theorem dX2_readAlt_33 : decode cX2_readAlt 33 = .ok (.return_, 1) := dk_177 (dk_at dksX2_readAlt_1 10 rfl rfl)
theorem dX2_readAlt_34 : decode cX2_readAlt 34 = .ok (.bipush 24, 2) := dk_16 24 (dk_at dksX2_readAlt_1 11 rfl rfl)
theorem dX2_readAlt_36 : decode cX2_readAlt 36 = .ok (.aload_n 0, 1) := dk_42 (dk_at dksX2_readAlt_1 13 rfl rfl)
theorem dX2_readAlt_37 : decode cX2_readAlt 37 = .ok (.getfield 227, 3) := dk_180 0 227 (dk_at dksX2_readAlt_1 14 rfl rfl)
theorem dX2_readAlt_40 : decode cX2_readAlt 40 = .ok (.imul, 1) := dk_104 (dk_at dksX2_readAlt_1 17 rfl rfl)
theorem dX2_readAlt_41 : decode cX2_readAlt 41 = .ok (.aload_n 0, 1) := dk_42 (dk_at dksX2_readAlt_1 18 rfl rfl)
theorem dX2_readAlt_42 : decode cX2_readAlt 42 = .ok (.getfield 30, 3) := dk_180 0 30 (dk_at dksX2_readAlt_1 19 rfl rfl)
theorem dX2_readAlt_45 : decode cX2_readAlt 45 = .ok (.aload_n 0, 1) := dk_42 (dk_at dksX2_readAlt_1 22 rfl rfl)
theorem dX2_readAlt_46 : decode cX2_readAlt 46 = .ok (.getfield 227, 3) := dk_180 0 227 (dk_at dksX2_readAlt_2 0 rfl rfl)
theorem dX2_readAlt_49 : decode cX2_readAlt 49 = .ok (.iaload, 1) := dk_46 (dk_at dksX2_readAlt_2 3 rfl rfl)
theorem dX2_readAlt_50 : decode cX2_readAlt 50 = .ok (.iadd, 1) := dk_96 (dk_at dksX2_readAlt_2 4 rfl rfl)
theorem dX2_readAlt_51 : decode cX2_readAlt 51 = .ok (.istore_n 1, 1) := dk_60 (dk_at dksX2_readAlt_2 5 rfl rfl)
theorem dX2_readAlt_52 : decode cX2_readAlt 52 = .ok (.aload_n 0, 1) := dk_42 (dk_at dksX2_readAlt_2 6 rfl rfl)
theorem dX2_readAlt_53 : decode cX2_readAlt 53 = .ok (.getfield 48, 3) := dk_180 0 48 (dk_at dksX2_readAlt_2 7 rfl rfl)
theorem dX2_readAlt_56 : decode cX2_readAlt 56 = .ok (.iload_n 1, 1) := dk_27 (dk_at dksX2_readAlt_2 10 rfl rfl)
theorem dX2_readAlt_57 : decode cX2_readAlt 57 = .ok (.aload_n 0, 1) := dk_42 (dk_at dksX2_readAlt_2 11 rfl rfl)
theorem dX2_readAlt_58 : decode cX2_readAlt 58 = .ok (.getfield 27, 3) := dk_180 0 27 (dk_at dksX2_readAlt_2 12 rfl rfl)
theorem dX2_readAlt_61 : decode cX2_readAlt 61 = .ok (.aload_n 0, 1) := dk_42 (dk_at dksX2_readAlt_2 15 rfl rfl)
theorem dX2_readAlt_62 : decode cX2_readAlt 62 = .ok (.getfield 227, 3) := dk_180 0 227 (dk_at dksX2_readAlt_2 16 rfl rfl)
theorem dX2_readAlt_65 : decode cX2_readAlt 65 = .ok (.iaload, 1) := dk_46 (dk_at dksX2_readAlt_2 19 rfl rfl)
theorem dX2_readAlt_66 : decode cX2_readAlt 66 = .ok (.iastore, 1) := dk_79 (dk_at dksX2_readAlt_2 20 rfl rfl)
theorem dX2_readAlt_67 : decode cX2_readAlt 67 = .ok (.aload_n 0, 1) := dk_42 (dk_at dksX2_readAlt_2 21 rfl rfl)
theorem dX2_readAlt_68 : decode cX2_readAlt 68 = .ok (.getfield 51, 3) := dk_180 0 51 (dk_at dksX2_readAlt_3 0 rfl rfl)
theorem dX2_readAlt_71 : decode cX2_readAlt 71 = .ok (.iload_n 1, 1) := dk_27 (dk_at dksX2_readAlt_3 3 rfl rfl)
theorem dX2_readAlt_72 : decode cX2_readAlt 72 = .ok (.iconst 0, 1) := dk_3 (dk_at dksX2_readAlt_3 4 rfl rfl)
theorem dX2_readAlt_73 : decode cX2_readAlt 73 = .ok (.iastore, 1) := dk_79 (dk_at dksX2_readAlt_3 5 rfl rfl)
theorem dX2_readAlt_74 : decode cX2_readAlt 74 = .ok (.aload_n 0, 1) := dk_42 (dk_at dksX2_readAlt_3 6 rfl rfl)
theorem dX2_readAlt_75 : decode cX2_readAlt 75 = .ok (.getfield 30, 3) := dk_180 0 30 (dk_at dksX2_readAlt_3 7 rfl rfl)
theorem dX2_readAlt_78 : decode cX2_readAlt 78 = .ok (.aload_n 0, 1) := dk_42 (dk_at dksX2_readAlt_3 10 rfl rfl)
theorem dX2_readAlt_79 : decode cX2_readAlt 79 = .ok (.getfield 227, 3) := dk_180 0 227 (dk_at dksX2_readAlt_3 11 rfl rfl)
theorem dX2_readAlt_82 : decode cX2_readAlt 82 = .ok (.dup2, 1) := dk_92 (dk_at dksX2_readAlt_3 14 rfl rfl)
theorem dX2_readAlt_83 : decode cX2_readAlt 83 = .ok (.iaload, 1) := dk_46 (dk_at dksX2_readAlt_3 15 rfl rfl)
theorem dX2_readAlt_84 : decode cX2_readAlt 84 = .ok (.iconst 1, 1) := dk_4 (dk_at dksX2_readAlt_3 16 rfl rfl)
theorem dX2_readAlt_85 : decode cX2_readAlt 85 = .ok (.iadd, 1) := dk_96 (dk_at dksX2_readAlt_3 17 rfl rfl)
theorem dX2_readAlt_86 : decode cX2_readAlt 86 = .ok (.iastore, 1) := dk_79 (dk_at dksX2_readAlt_3 18 rfl rfl)
theorem dX2_readAlt_87 : decode cX2_readAlt 87 = .ok (.aload_n 0, 1) := dk_42 (dk_at dksX2_readAlt_3 19 rfl rfl)
theorem dX2_readAlt_88 : decode cX2_readAlt 88 = .ok (.invokevirtual 217, 3) := dk_182 0 217 (dk_at dksX2_readAlt_3 20 rfl rfl)
theorem dX2_readAlt_91 : decode cX2_readAlt 91 = .ok (.ifCond .eq 81, 3) := dk_153 0 81 (dk_at dksX2_readAlt_4 0 rfl rfl)
theorem dX2_readAlt_94 : decode cX2_readAlt 94 = .ok (.aload_n 0, 1) := dk_42 (dk_at dksX2_readAlt_4 3 rfl rfl)
theorem dX2_readAlt_95 : decode cX2_readAlt 95 = .ok (.getfield 192, 3) := dk_180 0 192 (dk_at dksX2_readAlt_4 4 rfl rfl)
theorem dX2_readAlt_98 : decode cX2_readAlt 98 = .ok (.iconst 2, 1) := dk_5 (dk_at dksX2_readAlt_4 7 rfl rfl)
theorem dX2_readAlt_99 : decode cX2_readAlt 99 = .ok (.if_icmp .ne 73, 3) := dk_160 0 73 (dk_at dksX2_readAlt_4 8 rfl rfl)
theorem dX2_readAlt_102 : decode cX2_readAlt 102 = .ok (.aload_n 0, 1) := dk_42 (dk_at dksX2_readAlt_4 11 rfl rfl)
theorem dX2_readAlt_103 : decode cX2_readAlt 103 = .ok (.getfield 51, 3) := dk_180 0 51 (dk_at dksX2_readAlt_4 12 rfl rfl)
theorem dX2_readAlt_106 : decode cX2_readAlt 106 = .ok (.iload_n 1, 1) := dk_27 (dk_at dksX2_readAlt_4 15 rfl rfl)
theorem dX2_readAlt_107 : decode cX2_readAlt 107 = .ok (.iaload, 1) := dk_46 (dk_at dksX2_readAlt_4 16 rfl rfl)
theorem dX2_readAlt_108 : decode cX2_readAlt 108 = .ok (.iconst 4, 1) := dk_7 (dk_at dksX2_readAlt_4 17 rfl rfl)
theorem dX2_readAlt_109 : decode cX2_readAlt 109 = .ok (.if_icmp .ne 8, 3) := dk_160 0 8 (dk_at dksX2_readAlt_4 18 rfl rfl)
theorem dX2_readAlt_112 : decode cX2_readAlt 112 = .ok (.aload_n 0, 1) := dk_42 (dk_at dksX2_readAlt_4 21 rfl rfl)
theorem dX2_readAlt_113 : decode cX2_readAlt 113 = .ok (.invokevirtual 224, 3) := dk_182 0 224 (dk_at dksX2_readAlt_5 0 rfl rfl)
theorem dX2_readAlt_116 : decode cX2_readAlt 116 = .ok (.return_, 1) := dk_177 (dk_at dksX2_readAlt_5 3 rfl rfl)
theorem dX2_readAlt_117 : decode cX2_readAlt 117 = .ok (.aload_n 0, 1) := dk_42 (dk_at dksX2_readAlt_5 4 rfl rfl)
theorem dX2_readAlt_118 : decode cX2_readAlt 118 = .ok (.getfield 74, 3) := dk_180 0 74 (dk_at dksX2_readAlt_5 5 rfl rfl)
theorem dX2_readAlt_121 : decode cX2_readAlt 121 = .ok (.iconst 4, 1) := dk_7 (dk_at dksX2_readAlt_5 8 rfl rfl)
theorem dX2_readAlt_122 : decode cX2_readAlt 122 = .ok (.iload_n 1, 1) := dk_27 (dk_at dksX2_readAlt_5 9 rfl rfl)
theorem dX2_readAlt_123 : decode cX2_readAlt 123 = .ok (.imul, 1) := dk_104 (dk_at dksX2_readAlt_5 10 rfl rfl)
theorem dX2_readAlt_124 : decode cX2_readAlt 124 = .ok (.aload_n 0, 1) := dk_42 (dk_at dksX2_readAlt_5 11 rfl rfl)
theorem dX2_readAlt_125 : decode cX2_readAlt 125 = .ok (.getfield 51, 3) := dk_180 0 51 (dk_at dksX2_readAlt_5 12 rfl rfl)
theorem dX2_readAlt_128 : decode cX2_readAlt 128 = .ok (.iload_n 1, 1) := dk_27 (dk_at dksX2_readAlt_5 15 rfl rfl)
theorem dX2_readAlt_129 : decode cX2_readAlt 129 = .ok (.iaload, 1) := dk_46 (dk_at dksX2_readAlt_5 16 rfl rfl)
theorem dX2_readAlt_130 : decode cX2_readAlt 130 = .ok (.iadd, 1) := dk_96 (dk_at dksX2_readAlt_5 17 rfl rfl)
theorem dX2_readAlt_131 : decode cX2_readAlt 131 = .ok (.aload_n 0, 1) := dk_42 (dk_at dksX2_readAlt_5 18 rfl rfl)
theorem dX2_readAlt_132 : decode cX2_readAlt 132 = .ok (.getfield 199, 3) := dk_180 0 199 (dk_at dksX2_readAlt_5 19 rfl rfl)
theorem dX2_readAlt_135 : decode cX2_readAlt 135 = .ok (.lastore, 1) := dk_80 (dk_at dksX2_readAlt_5 22 rfl rfl)
theorem dX2_readAlt_136 : decode cX2_readAlt 136 = .ok (.aload_n 0, 1) := dk_42 (dk_at dksX2_readAlt_5 23 rfl rfl)
theorem dX2_readAlt_137 : decode cX2_readAlt 137 = .ok (.getfield 57, 3) := dk_180 0 57 (dk_at dksX2_readAlt_6 0 rfl rfl)
theorem dX2_readAlt_140 : decode cX2_readAlt 140 = .ok (.iconst 4, 1) := dk_7 (dk_at dksX2_readAlt_6 3 rfl rfl)
theorem dX2_readAlt_141 : decode cX2_readAlt 141 = .ok (.iload_n 1, 1) := dk_27 (dk_at dksX2_readAlt_6 4 rfl rfl)
theorem dX2_readAlt_142 : decode cX2_readAlt 142 = .ok (.imul, 1) := dk_104 (dk_at dksX2_readAlt_6 5 rfl rfl)
theorem dX2_readAlt_143 : decode cX2_readAlt 143 = .ok (.aload_n 0, 1) := dk_42 (dk_at dksX2_readAlt_6 6 rfl rfl)
theorem dX2_readAlt_144 : decode cX2_readAlt 144 = .ok (.getfield 51, 3) := dk_180 0 51 (dk_at dksX2_readAlt_6 7 rfl rfl)
theorem dX2_readAlt_147 : decode cX2_readAlt 147 = .ok (.iload_n 1, 1) := dk_27 (dk_at dksX2_readAlt_6 10 rfl rfl)
theorem dX2_readAlt_148 : decode cX2_readAlt 148 = .ok (.iaload, 1) := dk_46 (dk_at dksX2_readAlt_6 11 rfl rfl)
theorem dX2_readAlt_149 : decode cX2_readAlt 149 = .ok (.iadd, 1) := dk_96 (dk_at dksX2_readAlt_6 12 rfl rfl)
theorem dX2_readAlt_150 : decode cX2_readAlt 150 = .ok (.aload_n 0, 1) := dk_42 (dk_at dksX2_readAlt_6 13 rfl rfl)
theorem dX2_readAlt_151 : decode cX2_readAlt 151 = .ok (.getfield 185, 3) := dk_180 0 185 (dk_at dksX2_readAlt_6 14 rfl rfl)
theorem dX2_readAlt_154 : decode cX2_readAlt 154 = .ok (.iastore, 1) := dk_79 (dk_at dksX2_readAlt_6 17 rfl rfl)
theorem dX2_readAlt_155 : decode cX2_readAlt 155 = .ok (.aload_n 0, 1) := dk_42 (dk_at dksX2_readAlt_6 18 rfl rfl)
theorem dX2_readAlt_156 : decode cX2_readAlt 156 = .ok (.getfield 51, 3) := dk_180 0 51 (dk_at dksX2_readAlt_6 19 rfl rfl)
theorem dX2_readAlt_159 : decode cX2_readAlt 159 = .ok (.iload_n 1, 1) := dk_27 (dk_at dksX2_readAlt_6 22 rfl rfl)
theorem dX2_readAlt_160 : decode cX2_readAlt 160 = .ok (.dup2, 1) := dk_92 (dk_at dksX2_readAlt_6 23 rfl rfl)
theorem dX2_readAlt_161 : decode cX2_readAlt 161 = .ok (.iaload, 1) := dk_46 (dk_at dksX2_readAlt_7 0 rfl rfl)
theorem dX2_readAlt_162 : decode cX2_readAlt 162 = .ok (.iconst 1, 1) := dk_4 (dk_at dksX2_readAlt_7 1 rfl rfl)
theorem dX2_readAlt_163 : decode cX2_readAlt 163 = .ok (.iadd, 1) := dk_96 (dk_at dksX2_readAlt_7 2 rfl rfl)
theorem dX2_readAlt_164 : decode cX2_readAlt 164 = .ok (.iastore, 1) := dk_79 (dk_at dksX2_readAlt_7 3 rfl rfl)
theorem dX2_readAlt_165 : decode cX2_readAlt 165 = .ok (.aload_n 0, 1) := dk_42 (dk_at dksX2_readAlt_7 4 rfl rfl)
theorem dX2_readAlt_166 : decode cX2_readAlt 166 = .ok (.invokevirtual 221, 3) := dk_182 0 221 (dk_at dksX2_readAlt_7 5 rfl rfl)
theorem dX2_readAlt_169 : decode cX2_readAlt 169 = .ok (.goto (-82), 3) := dk_167 255 174 (dk_at dksX2_readAlt_7 8 rfl rfl)
theorem dX2_readAlt_172 : decode cX2_readAlt 172 = .ok (.return_, 1) := dk_177 (dk_at dksX2_readAlt_7 11 rfl rfl)
abbrev cX2_readTurns : ByteArray := prog_9_method_26_code
def yX2_readTurns : MethodName := ⟨RX2, "readTurns", "()V"⟩
def dkwX2_readTurns_3 : List UInt8 := [180, 0, 192, 7, 159, 255, 182, 177]
abbrev dktX2_readTurns_3 : List UInt8 := dkwX2_readTurns_3 ++ []
def dkwX2_readTurns_2 : List UInt8 := [42, 180, 0, 227, 46, 96, 27, 79, 42, 180, 0, 36, 42, 180, 0, 227, 92, 46, 4, 96, 79, 42]
abbrev dktX2_readTurns_2 : List UInt8 := dkwX2_readTurns_2 ++ dktX2_readTurns_3
def dkwX2_readTurns_1 : List UInt8 := [60, 42, 182, 0, 217, 154, 0, 4, 177, 42, 180, 0, 39, 16, 6, 42, 180, 0, 227, 104, 42, 180, 0, 36]
abbrev dktX2_readTurns_1 : List UInt8 := dkwX2_readTurns_1 ++ dktX2_readTurns_2
def dkwX2_readTurns_0 : List UInt8 := [42, 180, 0, 36, 42, 180, 0, 227, 46, 16, 6, 160, 0, 7, 42, 182, 0, 224, 42, 3, 5, 182, 1, 10]
abbrev dktX2_readTurns_0 : List UInt8 := dkwX2_readTurns_0 ++ dktX2_readTurns_1
theorem dksX2_readTurns_0 : cX2_readTurns.data.toList.drop 0 = dktX2_readTurns_0 := by decide +kernel
theorem dksX2_readTurns_1 : cX2_readTurns.data.toList.drop 24 = dktX2_readTurns_1 := dk_seg dksX2_readTurns_0 24 rfl rfl
theorem dksX2_readTurns_2 : cX2_readTurns.data.toList.drop 48 = dktX2_readTurns_2 := dk_seg dksX2_readTurns_1 24 rfl rfl
theorem dksX2_readTurns_3 : cX2_readTurns.data.toList.drop 70 = dktX2_readTurns_3 := dk_seg dksX2_readTurns_2 22 rfl rfl
theorem dX2_readTurns_0 : decode cX2_readTurns 0 = .ok (.aload_n 0, 1) := dk_42 (dk_at dksX2_readTurns_0 0 rfl rfl)
theorem dX2_readTurns_1 : decode cX2_readTurns 1 = .ok (.getfield 36, 3) := dk_180 0 36 (dk_at dksX2_readTurns_0 1 rfl rfl)
theorem dX2_readTurns_4 : decode cX2_readTurns 4 = .ok (.aload_n 0, 1) := dk_42 (dk_at dksX2_readTurns_0 4 rfl rfl)
theorem dX2_readTurns_5 : decode cX2_readTurns 5 = .ok (.getfield 227, 3) := dk_180 0 227 (dk_at dksX2_readTurns_0 5 rfl rfl)
theorem dX2_readTurns_8 : decode cX2_readTurns 8 = .ok (.iaload, 1) := dk_46 (dk_at dksX2_readTurns_0 8 rfl rfl)
theorem dX2_readTurns_9 : decode cX2_readTurns 9 = .ok (.bipush 6, 2) := dk_16 6 (dk_at dksX2_readTurns_0 9 rfl rfl)
theorem dX2_readTurns_11 : decode cX2_readTurns 11 = .ok (.if_icmp .ne 7, 3) := dk_160 0 7 (dk_at dksX2_readTurns_0 11 rfl rfl)
theorem dX2_readTurns_14 : decode cX2_readTurns 14 = .ok (.aload_n 0, 1) := dk_42 (dk_at dksX2_readTurns_0 14 rfl rfl)
theorem dX2_readTurns_15 : decode cX2_readTurns 15 = .ok (.invokevirtual 224, 3) := dk_182 0 224 (dk_at dksX2_readTurns_0 15 rfl rfl)
theorem dX2_readTurns_18 : decode cX2_readTurns 18 = .ok (.aload_n 0, 1) := dk_42 (dk_at dksX2_readTurns_0 18 rfl rfl)
theorem dX2_readTurns_19 : decode cX2_readTurns 19 = .ok (.iconst 0, 1) := dk_3 (dk_at dksX2_readTurns_0 19 rfl rfl)
theorem dX2_readTurns_20 : decode cX2_readTurns 20 = .ok (.iconst 2, 1) := dk_5 (dk_at dksX2_readTurns_0 20 rfl rfl)
theorem dX2_readTurns_21 : decode cX2_readTurns 21 = .ok (.invokevirtual 266, 3) := dk_182 1 10 (dk_at dksX2_readTurns_0 21 rfl rfl)
theorem dX2_readTurns_24 : decode cX2_readTurns 24 = .ok (.istore_n 1, 1) := dk_60 (dk_at dksX2_readTurns_1 0 rfl rfl)
theorem dX2_readTurns_25 : decode cX2_readTurns 25 = .ok (.aload_n 0, 1) := dk_42 (dk_at dksX2_readTurns_1 1 rfl rfl)
theorem dX2_readTurns_26 : decode cX2_readTurns 26 = .ok (.invokevirtual 217, 3) := dk_182 0 217 (dk_at dksX2_readTurns_1 2 rfl rfl)
theorem dX2_readTurns_29 : decode cX2_readTurns 29 = .ok (.ifCond .ne 4, 3) := dk_154 0 4 (dk_at dksX2_readTurns_1 5 rfl rfl)
theorem dX2_readTurns_32 : decode cX2_readTurns 32 = .ok (.return_, 1) := dk_177 (dk_at dksX2_readTurns_1 8 rfl rfl)
theorem dX2_readTurns_33 : decode cX2_readTurns 33 = .ok (.aload_n 0, 1) := dk_42 (dk_at dksX2_readTurns_1 9 rfl rfl)
theorem dX2_readTurns_34 : decode cX2_readTurns 34 = .ok (.getfield 39, 3) := dk_180 0 39 (dk_at dksX2_readTurns_1 10 rfl rfl)
theorem dX2_readTurns_37 : decode cX2_readTurns 37 = .ok (.bipush 6, 2) := dk_16 6 (dk_at dksX2_readTurns_1 13 rfl rfl)
theorem dX2_readTurns_39 : decode cX2_readTurns 39 = .ok (.aload_n 0, 1) := dk_42 (dk_at dksX2_readTurns_1 15 rfl rfl)
theorem dX2_readTurns_40 : decode cX2_readTurns 40 = .ok (.getfield 227, 3) := dk_180 0 227 (dk_at dksX2_readTurns_1 16 rfl rfl)
theorem dX2_readTurns_43 : decode cX2_readTurns 43 = .ok (.imul, 1) := dk_104 (dk_at dksX2_readTurns_1 19 rfl rfl)
theorem dX2_readTurns_44 : decode cX2_readTurns 44 = .ok (.aload_n 0, 1) := dk_42 (dk_at dksX2_readTurns_1 20 rfl rfl)
theorem dX2_readTurns_45 : decode cX2_readTurns 45 = .ok (.getfield 36, 3) := dk_180 0 36 (dk_at dksX2_readTurns_1 21 rfl rfl)
theorem dX2_readTurns_48 : decode cX2_readTurns 48 = .ok (.aload_n 0, 1) := dk_42 (dk_at dksX2_readTurns_2 0 rfl rfl)
theorem dX2_readTurns_49 : decode cX2_readTurns 49 = .ok (.getfield 227, 3) := dk_180 0 227 (dk_at dksX2_readTurns_2 1 rfl rfl)
theorem dX2_readTurns_52 : decode cX2_readTurns 52 = .ok (.iaload, 1) := dk_46 (dk_at dksX2_readTurns_2 4 rfl rfl)
theorem dX2_readTurns_53 : decode cX2_readTurns 53 = .ok (.iadd, 1) := dk_96 (dk_at dksX2_readTurns_2 5 rfl rfl)
theorem dX2_readTurns_54 : decode cX2_readTurns 54 = .ok (.iload_n 1, 1) := dk_27 (dk_at dksX2_readTurns_2 6 rfl rfl)
theorem dX2_readTurns_55 : decode cX2_readTurns 55 = .ok (.iastore, 1) := dk_79 (dk_at dksX2_readTurns_2 7 rfl rfl)
theorem dX2_readTurns_56 : decode cX2_readTurns 56 = .ok (.aload_n 0, 1) := dk_42 (dk_at dksX2_readTurns_2 8 rfl rfl)
theorem dX2_readTurns_57 : decode cX2_readTurns 57 = .ok (.getfield 36, 3) := dk_180 0 36 (dk_at dksX2_readTurns_2 9 rfl rfl)
theorem dX2_readTurns_60 : decode cX2_readTurns 60 = .ok (.aload_n 0, 1) := dk_42 (dk_at dksX2_readTurns_2 12 rfl rfl)
theorem dX2_readTurns_61 : decode cX2_readTurns 61 = .ok (.getfield 227, 3) := dk_180 0 227 (dk_at dksX2_readTurns_2 13 rfl rfl)
theorem dX2_readTurns_64 : decode cX2_readTurns 64 = .ok (.dup2, 1) := dk_92 (dk_at dksX2_readTurns_2 16 rfl rfl)
theorem dX2_readTurns_65 : decode cX2_readTurns 65 = .ok (.iaload, 1) := dk_46 (dk_at dksX2_readTurns_2 17 rfl rfl)
theorem dX2_readTurns_66 : decode cX2_readTurns 66 = .ok (.iconst 1, 1) := dk_4 (dk_at dksX2_readTurns_2 18 rfl rfl)
theorem dX2_readTurns_67 : decode cX2_readTurns 67 = .ok (.iadd, 1) := dk_96 (dk_at dksX2_readTurns_2 19 rfl rfl)
theorem dX2_readTurns_68 : decode cX2_readTurns 68 = .ok (.iastore, 1) := dk_79 (dk_at dksX2_readTurns_2 20 rfl rfl)
theorem dX2_readTurns_69 : decode cX2_readTurns 69 = .ok (.aload_n 0, 1) := dk_42 (dk_at dksX2_readTurns_2 21 rfl rfl)
theorem dX2_readTurns_70 : decode cX2_readTurns 70 = .ok (.getfield 192, 3) := dk_180 0 192 (dk_at dksX2_readTurns_3 0 rfl rfl)
theorem dX2_readTurns_73 : decode cX2_readTurns 73 = .ok (.iconst 4, 1) := dk_7 (dk_at dksX2_readTurns_3 3 rfl rfl)
theorem dX2_readTurns_74 : decode cX2_readTurns 74 = .ok (.if_icmp .eq (-74), 3) := dk_159 255 182 (dk_at dksX2_readTurns_3 4 rfl rfl)
theorem dX2_readTurns_77 : decode cX2_readTurns 77 = .ok (.return_, 1) := dk_177 (dk_at dksX2_readTurns_3 7 rfl rfl)
abbrev cX2_settle : ByteArray := prog_9_method_27_code
def yX2_settle : MethodName := ⟨RX2, "settle", "()V"⟩
def dkwX2_settle_6 : List UInt8 := [29, 167, 0, 8, 16, 8, 21, 4, 96, 79, 132, 2, 1, 167, 255, 134, 132, 1, 1, 167, 255, 103, 177]
abbrev dktX2_settle_6 : List UInt8 := dkwX2_settle_6 ++ []
def dkwX2_settle_5 : List UInt8 := [163, 0, 15, 42, 16, 7, 42, 180, 0, 57, 28, 46, 182, 0, 213, 42, 180, 0, 54, 28, 29, 155, 0, 7]
abbrev dktX2_settle_5 : List UInt8 := dkwX2_settle_5 ++ dktX2_settle_6
def dkwX2_settle_4 : List UInt8 := [21, 4, 155, 0, 36, 42, 180, 0, 51, 27, 46, 4, 160, 0, 26, 21, 4, 42, 180, 0, 48, 27, 46]
abbrev dktX2_settle_4 : List UInt8 := dkwX2_settle_4 ++ dktX2_settle_5
def dkwX2_settle_3 : List UInt8 := [156, 0, 20, 21, 4, 156, 0, 15, 42, 16, 6, 42, 180, 0, 57, 28, 46, 182, 0, 213, 29, 156, 0, 41]
abbrev dktX2_settle_3 : List UInt8 := dkwX2_settle_3 ++ dktX2_settle_4
def dkwX2_settle_2 : List UInt8 := [42, 180, 0, 74, 28, 47, 182, 1, 24, 62, 42, 42, 180, 0, 74, 28, 47, 182, 1, 28, 54, 4, 29]
abbrev dktX2_settle_2 : List UInt8 := dkwX2_settle_2 ++ dktX2_settle_3
def dkwX2_settle_1 : List UInt8 := [46, 96, 162, 0, 138, 7, 27, 104, 61, 28, 7, 27, 104, 42, 180, 0, 51, 27, 46, 96, 162, 0, 114, 42]
abbrev dktX2_settle_1 : List UInt8 := dkwX2_settle_1 ++ dktX2_settle_2
def dkwX2_settle_0 : List UInt8 := [16, 24, 42, 180, 0, 227, 104, 60, 27, 16, 24, 42, 180, 0, 227, 104, 42, 180, 0, 30, 42, 180, 0, 227]
abbrev dktX2_settle_0 : List UInt8 := dkwX2_settle_0 ++ dktX2_settle_1
theorem dksX2_settle_0 : cX2_settle.data.toList.drop 0 = dktX2_settle_0 := by decide +kernel
theorem dksX2_settle_1 : cX2_settle.data.toList.drop 24 = dktX2_settle_1 := dk_seg dksX2_settle_0 24 rfl rfl
theorem dksX2_settle_2 : cX2_settle.data.toList.drop 48 = dktX2_settle_2 := dk_seg dksX2_settle_1 24 rfl rfl
theorem dksX2_settle_3 : cX2_settle.data.toList.drop 71 = dktX2_settle_3 := dk_seg dksX2_settle_2 23 rfl rfl
theorem dksX2_settle_4 : cX2_settle.data.toList.drop 95 = dktX2_settle_4 := dk_seg dksX2_settle_3 24 rfl rfl
theorem dksX2_settle_5 : cX2_settle.data.toList.drop 118 = dktX2_settle_5 := dk_seg dksX2_settle_4 23 rfl rfl
theorem dksX2_settle_6 : cX2_settle.data.toList.drop 142 = dktX2_settle_6 := dk_seg dksX2_settle_5 24 rfl rfl
theorem dX2_settle_0 : decode cX2_settle 0 = .ok (.bipush 24, 2) := dk_16 24 (dk_at dksX2_settle_0 0 rfl rfl)
theorem dX2_settle_2 : decode cX2_settle 2 = .ok (.aload_n 0, 1) := dk_42 (dk_at dksX2_settle_0 2 rfl rfl)
theorem dX2_settle_3 : decode cX2_settle 3 = .ok (.getfield 227, 3) := dk_180 0 227 (dk_at dksX2_settle_0 3 rfl rfl)
theorem dX2_settle_6 : decode cX2_settle 6 = .ok (.imul, 1) := dk_104 (dk_at dksX2_settle_0 6 rfl rfl)
theorem dX2_settle_7 : decode cX2_settle 7 = .ok (.istore_n 1, 1) := dk_60 (dk_at dksX2_settle_0 7 rfl rfl)
theorem dX2_settle_8 : decode cX2_settle 8 = .ok (.iload_n 1, 1) := dk_27 (dk_at dksX2_settle_0 8 rfl rfl)
theorem dX2_settle_9 : decode cX2_settle 9 = .ok (.bipush 24, 2) := dk_16 24 (dk_at dksX2_settle_0 9 rfl rfl)
theorem dX2_settle_11 : decode cX2_settle 11 = .ok (.aload_n 0, 1) := dk_42 (dk_at dksX2_settle_0 11 rfl rfl)
theorem dX2_settle_12 : decode cX2_settle 12 = .ok (.getfield 227, 3) := dk_180 0 227 (dk_at dksX2_settle_0 12 rfl rfl)
theorem dX2_settle_15 : decode cX2_settle 15 = .ok (.imul, 1) := dk_104 (dk_at dksX2_settle_0 15 rfl rfl)
theorem dX2_settle_16 : decode cX2_settle 16 = .ok (.aload_n 0, 1) := dk_42 (dk_at dksX2_settle_0 16 rfl rfl)
theorem dX2_settle_17 : decode cX2_settle 17 = .ok (.getfield 30, 3) := dk_180 0 30 (dk_at dksX2_settle_0 17 rfl rfl)
theorem dX2_settle_20 : decode cX2_settle 20 = .ok (.aload_n 0, 1) := dk_42 (dk_at dksX2_settle_0 20 rfl rfl)
theorem dX2_settle_21 : decode cX2_settle 21 = .ok (.getfield 227, 3) := dk_180 0 227 (dk_at dksX2_settle_0 21 rfl rfl)
theorem dX2_settle_24 : decode cX2_settle 24 = .ok (.iaload, 1) := dk_46 (dk_at dksX2_settle_1 0 rfl rfl)
theorem dX2_settle_25 : decode cX2_settle 25 = .ok (.iadd, 1) := dk_96 (dk_at dksX2_settle_1 1 rfl rfl)
theorem dX2_settle_26 : decode cX2_settle 26 = .ok (.if_icmp .ge 138, 3) := dk_162 0 138 (dk_at dksX2_settle_1 2 rfl rfl)
theorem dX2_settle_29 : decode cX2_settle 29 = .ok (.iconst 4, 1) := dk_7 (dk_at dksX2_settle_1 5 rfl rfl)
theorem dX2_settle_30 : decode cX2_settle 30 = .ok (.iload_n 1, 1) := dk_27 (dk_at dksX2_settle_1 6 rfl rfl)
theorem dX2_settle_31 : decode cX2_settle 31 = .ok (.imul, 1) := dk_104 (dk_at dksX2_settle_1 7 rfl rfl)
theorem dX2_settle_32 : decode cX2_settle 32 = .ok (.istore_n 2, 1) := dk_61 (dk_at dksX2_settle_1 8 rfl rfl)
theorem dX2_settle_33 : decode cX2_settle 33 = .ok (.iload_n 2, 1) := dk_28 (dk_at dksX2_settle_1 9 rfl rfl)
theorem dX2_settle_34 : decode cX2_settle 34 = .ok (.iconst 4, 1) := dk_7 (dk_at dksX2_settle_1 10 rfl rfl)
theorem dX2_settle_35 : decode cX2_settle 35 = .ok (.iload_n 1, 1) := dk_27 (dk_at dksX2_settle_1 11 rfl rfl)
theorem dX2_settle_36 : decode cX2_settle 36 = .ok (.imul, 1) := dk_104 (dk_at dksX2_settle_1 12 rfl rfl)
theorem dX2_settle_37 : decode cX2_settle 37 = .ok (.aload_n 0, 1) := dk_42 (dk_at dksX2_settle_1 13 rfl rfl)
theorem dX2_settle_38 : decode cX2_settle 38 = .ok (.getfield 51, 3) := dk_180 0 51 (dk_at dksX2_settle_1 14 rfl rfl)
theorem dX2_settle_41 : decode cX2_settle 41 = .ok (.iload_n 1, 1) := dk_27 (dk_at dksX2_settle_1 17 rfl rfl)
theorem dX2_settle_42 : decode cX2_settle 42 = .ok (.iaload, 1) := dk_46 (dk_at dksX2_settle_1 18 rfl rfl)
theorem dX2_settle_43 : decode cX2_settle 43 = .ok (.iadd, 1) := dk_96 (dk_at dksX2_settle_1 19 rfl rfl)
theorem dX2_settle_44 : decode cX2_settle 44 = .ok (.if_icmp .ge 114, 3) := dk_162 0 114 (dk_at dksX2_settle_1 20 rfl rfl)
theorem dX2_settle_47 : decode cX2_settle 47 = .ok (.aload_n 0, 1) := dk_42 (dk_at dksX2_settle_1 23 rfl rfl)
theorem dX2_settle_48 : decode cX2_settle 48 = .ok (.aload_n 0, 1) := dk_42 (dk_at dksX2_settle_2 0 rfl rfl)
theorem dX2_settle_49 : decode cX2_settle 49 = .ok (.getfield 74, 3) := dk_180 0 74 (dk_at dksX2_settle_2 1 rfl rfl)
theorem dX2_settle_52 : decode cX2_settle 52 = .ok (.iload_n 2, 1) := dk_28 (dk_at dksX2_settle_2 4 rfl rfl)
theorem dX2_settle_53 : decode cX2_settle 53 = .ok (.laload, 1) := dk_47 (dk_at dksX2_settle_2 5 rfl rfl)
theorem dX2_settle_54 : decode cX2_settle 54 = .ok (.invokevirtual 280, 3) := dk_182 1 24 (dk_at dksX2_settle_2 6 rfl rfl)
theorem dX2_settle_57 : decode cX2_settle 57 = .ok (.istore_n 3, 1) := dk_62 (dk_at dksX2_settle_2 9 rfl rfl)
theorem dX2_settle_58 : decode cX2_settle 58 = .ok (.aload_n 0, 1) := dk_42 (dk_at dksX2_settle_2 10 rfl rfl)
theorem dX2_settle_59 : decode cX2_settle 59 = .ok (.aload_n 0, 1) := dk_42 (dk_at dksX2_settle_2 11 rfl rfl)
theorem dX2_settle_60 : decode cX2_settle 60 = .ok (.getfield 74, 3) := dk_180 0 74 (dk_at dksX2_settle_2 12 rfl rfl)
theorem dX2_settle_63 : decode cX2_settle 63 = .ok (.iload_n 2, 1) := dk_28 (dk_at dksX2_settle_2 15 rfl rfl)
theorem dX2_settle_64 : decode cX2_settle 64 = .ok (.laload, 1) := dk_47 (dk_at dksX2_settle_2 16 rfl rfl)
theorem dX2_settle_65 : decode cX2_settle 65 = .ok (.invokevirtual 284, 3) := dk_182 1 28 (dk_at dksX2_settle_2 17 rfl rfl)
theorem dX2_settle_68 : decode cX2_settle 68 = .ok (.istore 4, 2) := dk_54 4 (dk_at dksX2_settle_2 20 rfl rfl)
theorem dX2_settle_70 : decode cX2_settle 70 = .ok (.iload_n 3, 1) := dk_29 (dk_at dksX2_settle_2 22 rfl rfl)
theorem dX2_settle_71 : decode cX2_settle 71 = .ok (.ifCond .ge 20, 3) := dk_156 0 20 (dk_at dksX2_settle_3 0 rfl rfl)
theorem dX2_settle_74 : decode cX2_settle 74 = .ok (.iload 4, 2) := dk_21 4 (dk_at dksX2_settle_3 3 rfl rfl)
theorem dX2_settle_76 : decode cX2_settle 76 = .ok (.ifCond .ge 15, 3) := dk_156 0 15 (dk_at dksX2_settle_3 5 rfl rfl)
theorem dX2_settle_79 : decode cX2_settle 79 = .ok (.aload_n 0, 1) := dk_42 (dk_at dksX2_settle_3 8 rfl rfl)
theorem dX2_settle_80 : decode cX2_settle 80 = .ok (.bipush 6, 2) := dk_16 6 (dk_at dksX2_settle_3 9 rfl rfl)
theorem dX2_settle_82 : decode cX2_settle 82 = .ok (.aload_n 0, 1) := dk_42 (dk_at dksX2_settle_3 11 rfl rfl)
theorem dX2_settle_83 : decode cX2_settle 83 = .ok (.getfield 57, 3) := dk_180 0 57 (dk_at dksX2_settle_3 12 rfl rfl)
theorem dX2_settle_86 : decode cX2_settle 86 = .ok (.iload_n 2, 1) := dk_28 (dk_at dksX2_settle_3 15 rfl rfl)
theorem dX2_settle_87 : decode cX2_settle 87 = .ok (.iaload, 1) := dk_46 (dk_at dksX2_settle_3 16 rfl rfl)
theorem dX2_settle_88 : decode cX2_settle 88 = .ok (.invokevirtual 213, 3) := dk_182 0 213 (dk_at dksX2_settle_3 17 rfl rfl)
theorem dX2_settle_91 : decode cX2_settle 91 = .ok (.iload_n 3, 1) := dk_29 (dk_at dksX2_settle_3 20 rfl rfl)
theorem dX2_settle_92 : decode cX2_settle 92 = .ok (.ifCond .ge 41, 3) := dk_156 0 41 (dk_at dksX2_settle_3 21 rfl rfl)
theorem dX2_settle_95 : decode cX2_settle 95 = .ok (.iload 4, 2) := dk_21 4 (dk_at dksX2_settle_4 0 rfl rfl)
theorem dX2_settle_97 : decode cX2_settle 97 = .ok (.ifCond .lt 36, 3) := dk_155 0 36 (dk_at dksX2_settle_4 2 rfl rfl)
theorem dX2_settle_100 : decode cX2_settle 100 = .ok (.aload_n 0, 1) := dk_42 (dk_at dksX2_settle_4 5 rfl rfl)
theorem dX2_settle_101 : decode cX2_settle 101 = .ok (.getfield 51, 3) := dk_180 0 51 (dk_at dksX2_settle_4 6 rfl rfl)
theorem dX2_settle_104 : decode cX2_settle 104 = .ok (.iload_n 1, 1) := dk_27 (dk_at dksX2_settle_4 9 rfl rfl)
theorem dX2_settle_105 : decode cX2_settle 105 = .ok (.iaload, 1) := dk_46 (dk_at dksX2_settle_4 10 rfl rfl)
theorem dX2_settle_106 : decode cX2_settle 106 = .ok (.iconst 1, 1) := dk_4 (dk_at dksX2_settle_4 11 rfl rfl)
theorem dX2_settle_107 : decode cX2_settle 107 = .ok (.if_icmp .ne 26, 3) := dk_160 0 26 (dk_at dksX2_settle_4 12 rfl rfl)
theorem dX2_settle_110 : decode cX2_settle 110 = .ok (.iload 4, 2) := dk_21 4 (dk_at dksX2_settle_4 15 rfl rfl)
theorem dX2_settle_112 : decode cX2_settle 112 = .ok (.aload_n 0, 1) := dk_42 (dk_at dksX2_settle_4 17 rfl rfl)
theorem dX2_settle_113 : decode cX2_settle 113 = .ok (.getfield 48, 3) := dk_180 0 48 (dk_at dksX2_settle_4 18 rfl rfl)
theorem dX2_settle_116 : decode cX2_settle 116 = .ok (.iload_n 1, 1) := dk_27 (dk_at dksX2_settle_4 21 rfl rfl)
theorem dX2_settle_117 : decode cX2_settle 117 = .ok (.iaload, 1) := dk_46 (dk_at dksX2_settle_4 22 rfl rfl)
theorem dX2_settle_118 : decode cX2_settle 118 = .ok (.if_icmp .gt 15, 3) := dk_163 0 15 (dk_at dksX2_settle_5 0 rfl rfl)
theorem dX2_settle_121 : decode cX2_settle 121 = .ok (.aload_n 0, 1) := dk_42 (dk_at dksX2_settle_5 3 rfl rfl)
theorem dX2_settle_122 : decode cX2_settle 122 = .ok (.bipush 7, 2) := dk_16 7 (dk_at dksX2_settle_5 4 rfl rfl)
theorem dX2_settle_124 : decode cX2_settle 124 = .ok (.aload_n 0, 1) := dk_42 (dk_at dksX2_settle_5 6 rfl rfl)
theorem dX2_settle_125 : decode cX2_settle 125 = .ok (.getfield 57, 3) := dk_180 0 57 (dk_at dksX2_settle_5 7 rfl rfl)
theorem dX2_settle_128 : decode cX2_settle 128 = .ok (.iload_n 2, 1) := dk_28 (dk_at dksX2_settle_5 10 rfl rfl)
theorem dX2_settle_129 : decode cX2_settle 129 = .ok (.iaload, 1) := dk_46 (dk_at dksX2_settle_5 11 rfl rfl)
theorem dX2_settle_130 : decode cX2_settle 130 = .ok (.invokevirtual 213, 3) := dk_182 0 213 (dk_at dksX2_settle_5 12 rfl rfl)
theorem dX2_settle_133 : decode cX2_settle 133 = .ok (.aload_n 0, 1) := dk_42 (dk_at dksX2_settle_5 15 rfl rfl)
theorem dX2_settle_134 : decode cX2_settle 134 = .ok (.getfield 54, 3) := dk_180 0 54 (dk_at dksX2_settle_5 16 rfl rfl)
theorem dX2_settle_137 : decode cX2_settle 137 = .ok (.iload_n 2, 1) := dk_28 (dk_at dksX2_settle_5 19 rfl rfl)
theorem dX2_settle_138 : decode cX2_settle 138 = .ok (.iload_n 3, 1) := dk_29 (dk_at dksX2_settle_5 20 rfl rfl)
theorem dX2_settle_139 : decode cX2_settle 139 = .ok (.ifCond .lt 7, 3) := dk_155 0 7 (dk_at dksX2_settle_5 21 rfl rfl)
theorem dX2_settle_142 : decode cX2_settle 142 = .ok (.iload_n 3, 1) := dk_29 (dk_at dksX2_settle_6 0 rfl rfl)
theorem dX2_settle_143 : decode cX2_settle 143 = .ok (.goto 8, 3) := dk_167 0 8 (dk_at dksX2_settle_6 1 rfl rfl)
theorem dX2_settle_146 : decode cX2_settle 146 = .ok (.bipush 8, 2) := dk_16 8 (dk_at dksX2_settle_6 4 rfl rfl)
theorem dX2_settle_148 : decode cX2_settle 148 = .ok (.iload 4, 2) := dk_21 4 (dk_at dksX2_settle_6 6 rfl rfl)
theorem dX2_settle_150 : decode cX2_settle 150 = .ok (.iadd, 1) := dk_96 (dk_at dksX2_settle_6 8 rfl rfl)
theorem dX2_settle_151 : decode cX2_settle 151 = .ok (.iastore, 1) := dk_79 (dk_at dksX2_settle_6 9 rfl rfl)
theorem dX2_settle_152 : decode cX2_settle 152 = .ok (.iinc 2 1, 3) := dk_132 2 1 (dk_at dksX2_settle_6 10 rfl rfl)
theorem dX2_settle_155 : decode cX2_settle 155 = .ok (.goto (-122), 3) := dk_167 255 134 (dk_at dksX2_settle_6 13 rfl rfl)
theorem dX2_settle_158 : decode cX2_settle 158 = .ok (.iinc 1 1, 3) := dk_132 1 1 (dk_at dksX2_settle_6 16 rfl rfl)
theorem dX2_settle_161 : decode cX2_settle 161 = .ok (.goto (-153), 3) := dk_167 255 103 (dk_at dksX2_settle_6 19 rfl rfl)
theorem dX2_settle_164 : decode cX2_settle 164 = .ok (.return_, 1) := dk_177 (dk_at dksX2_settle_6 22 rfl rfl)
abbrev cX2_fault : ByteArray := prog_9_method_28_code
def yX2_fault : MethodName := ⟨RX2, "fault", "(I)I"⟩
def dkwX2_fault_1 : List UInt8 := [172]
abbrev dktX2_fault_1 : List UInt8 := dkwX2_fault_1 ++ []
def dkwX2_fault_0 : List UInt8 := [27, 154, 0, 10, 42, 180, 0, 167, 167, 0, 16, 27, 4, 160, 0, 10, 42, 180, 0, 16, 167, 0, 4, 2]
abbrev dktX2_fault_0 : List UInt8 := dkwX2_fault_0 ++ dktX2_fault_1
theorem dksX2_fault_0 : cX2_fault.data.toList.drop 0 = dktX2_fault_0 := by decide +kernel
theorem dksX2_fault_1 : cX2_fault.data.toList.drop 24 = dktX2_fault_1 := dk_seg dksX2_fault_0 24 rfl rfl
theorem dX2_fault_0 : decode cX2_fault 0 = .ok (.iload_n 1, 1) := dk_27 (dk_at dksX2_fault_0 0 rfl rfl)
theorem dX2_fault_1 : decode cX2_fault 1 = .ok (.ifCond .ne 10, 3) := dk_154 0 10 (dk_at dksX2_fault_0 1 rfl rfl)
theorem dX2_fault_4 : decode cX2_fault 4 = .ok (.aload_n 0, 1) := dk_42 (dk_at dksX2_fault_0 4 rfl rfl)
theorem dX2_fault_5 : decode cX2_fault 5 = .ok (.getfield 167, 3) := dk_180 0 167 (dk_at dksX2_fault_0 5 rfl rfl)
theorem dX2_fault_8 : decode cX2_fault 8 = .ok (.goto 16, 3) := dk_167 0 16 (dk_at dksX2_fault_0 8 rfl rfl)
theorem dX2_fault_11 : decode cX2_fault 11 = .ok (.iload_n 1, 1) := dk_27 (dk_at dksX2_fault_0 11 rfl rfl)
theorem dX2_fault_12 : decode cX2_fault 12 = .ok (.iconst 1, 1) := dk_4 (dk_at dksX2_fault_0 12 rfl rfl)
theorem dX2_fault_13 : decode cX2_fault 13 = .ok (.if_icmp .ne 10, 3) := dk_160 0 10 (dk_at dksX2_fault_0 13 rfl rfl)
theorem dX2_fault_16 : decode cX2_fault 16 = .ok (.aload_n 0, 1) := dk_42 (dk_at dksX2_fault_0 16 rfl rfl)
theorem dX2_fault_17 : decode cX2_fault 17 = .ok (.getfield 16, 3) := dk_180 0 16 (dk_at dksX2_fault_0 17 rfl rfl)
theorem dX2_fault_20 : decode cX2_fault 20 = .ok (.goto 4, 3) := dk_167 0 4 (dk_at dksX2_fault_0 20 rfl rfl)
theorem dX2_fault_23 : decode cX2_fault 23 = .ok (.iconst (-1), 1) := dk_2 (dk_at dksX2_fault_0 23 rfl rfl)
theorem dX2_fault_24 : decode cX2_fault 24 = .ok (.ireturn, 1) := dk_172 (dk_at dksX2_fault_1 0 rfl rfl)
abbrev cX2_worth : ByteArray := prog_9_method_34_code
def yX2_worth : MethodName := ⟨RX2, "worth", "(II)I"⟩
def dkwX2_worth_1 : List UInt8 := [180, 0, 233, 104, 27, 96, 104, 28, 96, 46, 167, 0, 6, 19, 1, 55, 172]
abbrev dktX2_worth_1 : List UInt8 := dkwX2_worth_1 ++ []
def dkwX2_worth_0 : List UInt8 := [42, 27, 182, 1, 49, 153, 0, 31, 28, 184, 1, 52, 153, 0, 24, 42, 180, 0, 42, 6, 16, 8, 42]
abbrev dktX2_worth_0 : List UInt8 := dkwX2_worth_0 ++ dktX2_worth_1
theorem dksX2_worth_0 : cX2_worth.data.toList.drop 0 = dktX2_worth_0 := by decide +kernel
theorem dksX2_worth_1 : cX2_worth.data.toList.drop 23 = dktX2_worth_1 := dk_seg dksX2_worth_0 23 rfl rfl
theorem dX2_worth_0 : decode cX2_worth 0 = .ok (.aload_n 0, 1) := dk_42 (dk_at dksX2_worth_0 0 rfl rfl)
theorem dX2_worth_1 : decode cX2_worth 1 = .ok (.iload_n 1, 1) := dk_27 (dk_at dksX2_worth_0 1 rfl rfl)
theorem dX2_worth_2 : decode cX2_worth 2 = .ok (.invokevirtual 305, 3) := dk_182 1 49 (dk_at dksX2_worth_0 2 rfl rfl)
theorem dX2_worth_5 : decode cX2_worth 5 = .ok (.ifCond .eq 31, 3) := dk_153 0 31 (dk_at dksX2_worth_0 5 rfl rfl)
theorem dX2_worth_8 : decode cX2_worth 8 = .ok (.iload_n 2, 1) := dk_28 (dk_at dksX2_worth_0 8 rfl rfl)
theorem dX2_worth_9 : decode cX2_worth 9 = .ok (.invokestatic 308, 3) := dk_184 1 52 (dk_at dksX2_worth_0 9 rfl rfl)
theorem dX2_worth_12 : decode cX2_worth 12 = .ok (.ifCond .eq 24, 3) := dk_153 0 24 (dk_at dksX2_worth_0 12 rfl rfl)
theorem dX2_worth_15 : decode cX2_worth 15 = .ok (.aload_n 0, 1) := dk_42 (dk_at dksX2_worth_0 15 rfl rfl)
theorem dX2_worth_16 : decode cX2_worth 16 = .ok (.getfield 42, 3) := dk_180 0 42 (dk_at dksX2_worth_0 16 rfl rfl)
theorem dX2_worth_19 : decode cX2_worth 19 = .ok (.iconst 3, 1) := dk_6 (dk_at dksX2_worth_0 19 rfl rfl)
theorem dX2_worth_20 : decode cX2_worth 20 = .ok (.bipush 8, 2) := dk_16 8 (dk_at dksX2_worth_0 20 rfl rfl)
theorem dX2_worth_22 : decode cX2_worth 22 = .ok (.aload_n 0, 1) := dk_42 (dk_at dksX2_worth_0 22 rfl rfl)
theorem dX2_worth_23 : decode cX2_worth 23 = .ok (.getfield 233, 3) := dk_180 0 233 (dk_at dksX2_worth_1 0 rfl rfl)
theorem dX2_worth_26 : decode cX2_worth 26 = .ok (.imul, 1) := dk_104 (dk_at dksX2_worth_1 3 rfl rfl)
theorem dX2_worth_27 : decode cX2_worth 27 = .ok (.iload_n 1, 1) := dk_27 (dk_at dksX2_worth_1 4 rfl rfl)
theorem dX2_worth_28 : decode cX2_worth 28 = .ok (.iadd, 1) := dk_96 (dk_at dksX2_worth_1 5 rfl rfl)
theorem dX2_worth_29 : decode cX2_worth 29 = .ok (.imul, 1) := dk_104 (dk_at dksX2_worth_1 6 rfl rfl)
theorem dX2_worth_30 : decode cX2_worth 30 = .ok (.iload_n 2, 1) := dk_28 (dk_at dksX2_worth_1 7 rfl rfl)
theorem dX2_worth_31 : decode cX2_worth 31 = .ok (.iadd, 1) := dk_96 (dk_at dksX2_worth_1 8 rfl rfl)
theorem dX2_worth_32 : decode cX2_worth 32 = .ok (.iaload, 1) := dk_46 (dk_at dksX2_worth_1 9 rfl rfl)
theorem dX2_worth_33 : decode cX2_worth 33 = .ok (.goto 6, 3) := dk_167 0 6 (dk_at dksX2_worth_1 10 rfl rfl)
theorem dX2_worth_36 : decode cX2_worth 36 = .ok (.ldc_w 311, 3) := dk_19 1 55 (dk_at dksX2_worth_1 13 rfl rfl)
theorem dX2_worth_39 : decode cX2_worth 39 = .ok (.ireturn, 1) := dk_172 (dk_at dksX2_worth_1 16 rfl rfl)
abbrev cX2_isWordOf : ByteArray := prog_9_method_30_code
def yX2_isWordOf : MethodName := ⟨RX2, "isWordOf", "(I)Z"⟩
def dkwX2_isWordOf_0 : List UInt8 := [27, 3, 42, 180, 0, 20, 42, 180, 0, 233, 46, 4, 100, 184, 1, 42, 172]
abbrev dktX2_isWordOf_0 : List UInt8 := dkwX2_isWordOf_0 ++ []
theorem dksX2_isWordOf_0 : cX2_isWordOf.data.toList.drop 0 = dktX2_isWordOf_0 := by decide +kernel
theorem dX2_isWordOf_0 : decode cX2_isWordOf 0 = .ok (.iload_n 1, 1) := dk_27 (dk_at dksX2_isWordOf_0 0 rfl rfl)
theorem dX2_isWordOf_1 : decode cX2_isWordOf 1 = .ok (.iconst 0, 1) := dk_3 (dk_at dksX2_isWordOf_0 1 rfl rfl)
theorem dX2_isWordOf_2 : decode cX2_isWordOf 2 = .ok (.aload_n 0, 1) := dk_42 (dk_at dksX2_isWordOf_0 2 rfl rfl)
theorem dX2_isWordOf_3 : decode cX2_isWordOf 3 = .ok (.getfield 20, 3) := dk_180 0 20 (dk_at dksX2_isWordOf_0 3 rfl rfl)
theorem dX2_isWordOf_6 : decode cX2_isWordOf 6 = .ok (.aload_n 0, 1) := dk_42 (dk_at dksX2_isWordOf_0 6 rfl rfl)
theorem dX2_isWordOf_7 : decode cX2_isWordOf 7 = .ok (.getfield 233, 3) := dk_180 0 233 (dk_at dksX2_isWordOf_0 7 rfl rfl)
theorem dX2_isWordOf_10 : decode cX2_isWordOf 10 = .ok (.iaload, 1) := dk_46 (dk_at dksX2_isWordOf_0 10 rfl rfl)
theorem dX2_isWordOf_11 : decode cX2_isWordOf 11 = .ok (.iconst 1, 1) := dk_4 (dk_at dksX2_isWordOf_0 11 rfl rfl)
theorem dX2_isWordOf_12 : decode cX2_isWordOf 12 = .ok (.isub, 1) := dk_100 (dk_at dksX2_isWordOf_0 12 rfl rfl)
theorem dX2_isWordOf_13 : decode cX2_isWordOf 13 = .ok (.invokestatic 298, 3) := dk_184 1 42 (dk_at dksX2_isWordOf_0 13 rfl rfl)
theorem dX2_isWordOf_16 : decode cX2_isWordOf 16 = .ok (.ireturn, 1) := dk_172 (dk_at dksX2_isWordOf_0 16 rfl rfl)
abbrev cX2_isIn : ByteArray := prog_9_method_29_code
def yX2_isIn : MethodName := ⟨RX2, "isIn", "(III)Z"⟩
def dkwX2_isIn_0 : List UInt8 := [26, 27, 161, 0, 12, 26, 28, 163, 0, 7, 4, 167, 0, 4, 3, 172]
abbrev dktX2_isIn_0 : List UInt8 := dkwX2_isIn_0 ++ []
theorem dksX2_isIn_0 : cX2_isIn.data.toList.drop 0 = dktX2_isIn_0 := by decide +kernel
theorem dX2_isIn_0 : decode cX2_isIn 0 = .ok (.iload_n 0, 1) := dk_26 (dk_at dksX2_isIn_0 0 rfl rfl)
theorem dX2_isIn_1 : decode cX2_isIn 1 = .ok (.iload_n 1, 1) := dk_27 (dk_at dksX2_isIn_0 1 rfl rfl)
theorem dX2_isIn_2 : decode cX2_isIn 2 = .ok (.if_icmp .lt 12, 3) := dk_161 0 12 (dk_at dksX2_isIn_0 2 rfl rfl)
theorem dX2_isIn_5 : decode cX2_isIn 5 = .ok (.iload_n 0, 1) := dk_26 (dk_at dksX2_isIn_0 5 rfl rfl)
theorem dX2_isIn_6 : decode cX2_isIn 6 = .ok (.iload_n 2, 1) := dk_28 (dk_at dksX2_isIn_0 6 rfl rfl)
theorem dX2_isIn_7 : decode cX2_isIn 7 = .ok (.if_icmp .gt 7, 3) := dk_163 0 7 (dk_at dksX2_isIn_0 7 rfl rfl)
theorem dX2_isIn_10 : decode cX2_isIn 10 = .ok (.iconst 1, 1) := dk_4 (dk_at dksX2_isIn_0 10 rfl rfl)
theorem dX2_isIn_11 : decode cX2_isIn 11 = .ok (.goto 4, 3) := dk_167 0 4 (dk_at dksX2_isIn_0 11 rfl rfl)
theorem dX2_isIn_14 : decode cX2_isIn 14 = .ok (.iconst 0, 1) := dk_3 (dk_at dksX2_isIn_0 14 rfl rfl)
theorem dX2_isIn_15 : decode cX2_isIn 15 = .ok (.ireturn, 1) := dk_172 (dk_at dksX2_isIn_0 15 rfl rfl)
abbrev cX2_isGuild : ByteArray := prog_9_method_31_code
def yX2_isGuild : MethodName := ⟨RX2, "isGuild", "(I)Z"⟩
def dkwX2_isGuild_0 : List UInt8 := [26, 3, 5, 184, 1, 42, 172]
abbrev dktX2_isGuild_0 : List UInt8 := dkwX2_isGuild_0 ++ []
theorem dksX2_isGuild_0 : cX2_isGuild.data.toList.drop 0 = dktX2_isGuild_0 := by decide +kernel
theorem dX2_isGuild_0 : decode cX2_isGuild 0 = .ok (.iload_n 0, 1) := dk_26 (dk_at dksX2_isGuild_0 0 rfl rfl)
theorem dX2_isGuild_1 : decode cX2_isGuild 1 = .ok (.iconst 0, 1) := dk_3 (dk_at dksX2_isGuild_0 1 rfl rfl)
theorem dX2_isGuild_2 : decode cX2_isGuild 2 = .ok (.iconst 2, 1) := dk_5 (dk_at dksX2_isGuild_0 2 rfl rfl)
theorem dX2_isGuild_3 : decode cX2_isGuild 3 = .ok (.invokestatic 298, 3) := dk_184 1 42 (dk_at dksX2_isGuild_0 3 rfl rfl)
theorem dX2_isGuild_6 : decode cX2_isGuild 6 = .ok (.ireturn, 1) := dk_172 (dk_at dksX2_isGuild_0 6 rfl rfl)
abbrev cX2_behind : ByteArray := prog_9_method_36_code
def yX2_behind : MethodName := ⟨RX2, "behind", "(III)I"⟩
def dkwX2_behind_1 : List UInt8 := [27, 28, 29, 182, 1, 56, 167, 0, 6, 19, 1, 55, 172]
abbrev dktX2_behind_1 : List UInt8 := dkwX2_behind_1 ++ []
def dkwX2_behind_0 : List UInt8 := [42, 27, 182, 1, 49, 153, 0, 28, 42, 28, 182, 1, 49, 153, 0, 20, 29, 184, 1, 52, 153, 0, 13, 42]
abbrev dktX2_behind_0 : List UInt8 := dkwX2_behind_0 ++ dktX2_behind_1
theorem dksX2_behind_0 : cX2_behind.data.toList.drop 0 = dktX2_behind_0 := by decide +kernel
theorem dksX2_behind_1 : cX2_behind.data.toList.drop 24 = dktX2_behind_1 := dk_seg dksX2_behind_0 24 rfl rfl
theorem dX2_behind_0 : decode cX2_behind 0 = .ok (.aload_n 0, 1) := dk_42 (dk_at dksX2_behind_0 0 rfl rfl)
theorem dX2_behind_1 : decode cX2_behind 1 = .ok (.iload_n 1, 1) := dk_27 (dk_at dksX2_behind_0 1 rfl rfl)
theorem dX2_behind_2 : decode cX2_behind 2 = .ok (.invokevirtual 305, 3) := dk_182 1 49 (dk_at dksX2_behind_0 2 rfl rfl)
theorem dX2_behind_5 : decode cX2_behind 5 = .ok (.ifCond .eq 28, 3) := dk_153 0 28 (dk_at dksX2_behind_0 5 rfl rfl)
theorem dX2_behind_8 : decode cX2_behind 8 = .ok (.aload_n 0, 1) := dk_42 (dk_at dksX2_behind_0 8 rfl rfl)
theorem dX2_behind_9 : decode cX2_behind 9 = .ok (.iload_n 2, 1) := dk_28 (dk_at dksX2_behind_0 9 rfl rfl)
theorem dX2_behind_10 : decode cX2_behind 10 = .ok (.invokevirtual 305, 3) := dk_182 1 49 (dk_at dksX2_behind_0 10 rfl rfl)
theorem dX2_behind_13 : decode cX2_behind 13 = .ok (.ifCond .eq 20, 3) := dk_153 0 20 (dk_at dksX2_behind_0 13 rfl rfl)
theorem dX2_behind_16 : decode cX2_behind 16 = .ok (.iload_n 3, 1) := dk_29 (dk_at dksX2_behind_0 16 rfl rfl)
theorem dX2_behind_17 : decode cX2_behind 17 = .ok (.invokestatic 308, 3) := dk_184 1 52 (dk_at dksX2_behind_0 17 rfl rfl)
theorem dX2_behind_20 : decode cX2_behind 20 = .ok (.ifCond .eq 13, 3) := dk_153 0 13 (dk_at dksX2_behind_0 20 rfl rfl)
theorem dX2_behind_23 : decode cX2_behind 23 = .ok (.aload_n 0, 1) := dk_42 (dk_at dksX2_behind_0 23 rfl rfl)
theorem dX2_behind_24 : decode cX2_behind 24 = .ok (.iload_n 1, 1) := dk_27 (dk_at dksX2_behind_1 0 rfl rfl)
theorem dX2_behind_25 : decode cX2_behind 25 = .ok (.iload_n 2, 1) := dk_28 (dk_at dksX2_behind_1 1 rfl rfl)
theorem dX2_behind_26 : decode cX2_behind 26 = .ok (.iload_n 3, 1) := dk_29 (dk_at dksX2_behind_1 2 rfl rfl)
theorem dX2_behind_27 : decode cX2_behind 27 = .ok (.invokevirtual 312, 3) := dk_182 1 56 (dk_at dksX2_behind_1 3 rfl rfl)
theorem dX2_behind_30 : decode cX2_behind 30 = .ok (.goto 6, 3) := dk_167 0 6 (dk_at dksX2_behind_1 6 rfl rfl)
theorem dX2_behind_33 : decode cX2_behind 33 = .ok (.ldc_w 311, 3) := dk_19 1 55 (dk_at dksX2_behind_1 9 rfl rfl)
theorem dX2_behind_36 : decode cX2_behind 36 = .ok (.ireturn, 1) := dk_172 (dk_at dksX2_behind_1 12 rfl rfl)
abbrev cX2_pairOf : ByteArray := prog_9_method_35_code
def yX2_pairOf : MethodName := ⟨RX2, "pairOf", "(III)I"⟩
def dkwX2_pairOf_2 : List UInt8 := [167, 0, 4, 3, 172]
abbrev dktX2_pairOf_2 : List UInt8 := dkwX2_pairOf_2 ++ []
def dkwX2_pairOf_1 : List UInt8 := [180, 0, 45, 6, 16, 64, 42, 180, 0, 233, 104, 16, 8, 27, 104, 96, 28, 96, 104, 29, 96, 46]
abbrev dktX2_pairOf_1 : List UInt8 := dkwX2_pairOf_1 ++ dktX2_pairOf_2
def dkwX2_pairOf_0 : List UInt8 := [42, 180, 0, 60, 16, 64, 42, 180, 0, 233, 104, 16, 8, 27, 104, 96, 28, 96, 51, 153, 0, 29, 42]
abbrev dktX2_pairOf_0 : List UInt8 := dkwX2_pairOf_0 ++ dktX2_pairOf_1
theorem dksX2_pairOf_0 : cX2_pairOf.data.toList.drop 0 = dktX2_pairOf_0 := by decide +kernel
theorem dksX2_pairOf_1 : cX2_pairOf.data.toList.drop 23 = dktX2_pairOf_1 := dk_seg dksX2_pairOf_0 23 rfl rfl
theorem dksX2_pairOf_2 : cX2_pairOf.data.toList.drop 45 = dktX2_pairOf_2 := dk_seg dksX2_pairOf_1 22 rfl rfl
theorem dX2_pairOf_0 : decode cX2_pairOf 0 = .ok (.aload_n 0, 1) := dk_42 (dk_at dksX2_pairOf_0 0 rfl rfl)
theorem dX2_pairOf_1 : decode cX2_pairOf 1 = .ok (.getfield 60, 3) := dk_180 0 60 (dk_at dksX2_pairOf_0 1 rfl rfl)
theorem dX2_pairOf_4 : decode cX2_pairOf 4 = .ok (.bipush 64, 2) := dk_16 64 (dk_at dksX2_pairOf_0 4 rfl rfl)
theorem dX2_pairOf_6 : decode cX2_pairOf 6 = .ok (.aload_n 0, 1) := dk_42 (dk_at dksX2_pairOf_0 6 rfl rfl)
theorem dX2_pairOf_7 : decode cX2_pairOf 7 = .ok (.getfield 233, 3) := dk_180 0 233 (dk_at dksX2_pairOf_0 7 rfl rfl)
theorem dX2_pairOf_10 : decode cX2_pairOf 10 = .ok (.imul, 1) := dk_104 (dk_at dksX2_pairOf_0 10 rfl rfl)
theorem dX2_pairOf_11 : decode cX2_pairOf 11 = .ok (.bipush 8, 2) := dk_16 8 (dk_at dksX2_pairOf_0 11 rfl rfl)
theorem dX2_pairOf_13 : decode cX2_pairOf 13 = .ok (.iload_n 1, 1) := dk_27 (dk_at dksX2_pairOf_0 13 rfl rfl)
theorem dX2_pairOf_14 : decode cX2_pairOf 14 = .ok (.imul, 1) := dk_104 (dk_at dksX2_pairOf_0 14 rfl rfl)
theorem dX2_pairOf_15 : decode cX2_pairOf 15 = .ok (.iadd, 1) := dk_96 (dk_at dksX2_pairOf_0 15 rfl rfl)
theorem dX2_pairOf_16 : decode cX2_pairOf 16 = .ok (.iload_n 2, 1) := dk_28 (dk_at dksX2_pairOf_0 16 rfl rfl)
theorem dX2_pairOf_17 : decode cX2_pairOf 17 = .ok (.iadd, 1) := dk_96 (dk_at dksX2_pairOf_0 17 rfl rfl)
theorem dX2_pairOf_18 : decode cX2_pairOf 18 = .ok (.baload, 1) := dk_51 (dk_at dksX2_pairOf_0 18 rfl rfl)
theorem dX2_pairOf_19 : decode cX2_pairOf 19 = .ok (.ifCond .eq 29, 3) := dk_153 0 29 (dk_at dksX2_pairOf_0 19 rfl rfl)
theorem dX2_pairOf_22 : decode cX2_pairOf 22 = .ok (.aload_n 0, 1) := dk_42 (dk_at dksX2_pairOf_0 22 rfl rfl)
theorem dX2_pairOf_23 : decode cX2_pairOf 23 = .ok (.getfield 45, 3) := dk_180 0 45 (dk_at dksX2_pairOf_1 0 rfl rfl)
theorem dX2_pairOf_26 : decode cX2_pairOf 26 = .ok (.iconst 3, 1) := dk_6 (dk_at dksX2_pairOf_1 3 rfl rfl)
theorem dX2_pairOf_27 : decode cX2_pairOf 27 = .ok (.bipush 64, 2) := dk_16 64 (dk_at dksX2_pairOf_1 4 rfl rfl)
theorem dX2_pairOf_29 : decode cX2_pairOf 29 = .ok (.aload_n 0, 1) := dk_42 (dk_at dksX2_pairOf_1 6 rfl rfl)
theorem dX2_pairOf_30 : decode cX2_pairOf 30 = .ok (.getfield 233, 3) := dk_180 0 233 (dk_at dksX2_pairOf_1 7 rfl rfl)
theorem dX2_pairOf_33 : decode cX2_pairOf 33 = .ok (.imul, 1) := dk_104 (dk_at dksX2_pairOf_1 10 rfl rfl)
theorem dX2_pairOf_34 : decode cX2_pairOf 34 = .ok (.bipush 8, 2) := dk_16 8 (dk_at dksX2_pairOf_1 11 rfl rfl)
theorem dX2_pairOf_36 : decode cX2_pairOf 36 = .ok (.iload_n 1, 1) := dk_27 (dk_at dksX2_pairOf_1 13 rfl rfl)
theorem dX2_pairOf_37 : decode cX2_pairOf 37 = .ok (.imul, 1) := dk_104 (dk_at dksX2_pairOf_1 14 rfl rfl)
theorem dX2_pairOf_38 : decode cX2_pairOf 38 = .ok (.iadd, 1) := dk_96 (dk_at dksX2_pairOf_1 15 rfl rfl)
theorem dX2_pairOf_39 : decode cX2_pairOf 39 = .ok (.iload_n 2, 1) := dk_28 (dk_at dksX2_pairOf_1 16 rfl rfl)
theorem dX2_pairOf_40 : decode cX2_pairOf 40 = .ok (.iadd, 1) := dk_96 (dk_at dksX2_pairOf_1 17 rfl rfl)
theorem dX2_pairOf_41 : decode cX2_pairOf 41 = .ok (.imul, 1) := dk_104 (dk_at dksX2_pairOf_1 18 rfl rfl)
theorem dX2_pairOf_42 : decode cX2_pairOf 42 = .ok (.iload_n 3, 1) := dk_29 (dk_at dksX2_pairOf_1 19 rfl rfl)
theorem dX2_pairOf_43 : decode cX2_pairOf 43 = .ok (.iadd, 1) := dk_96 (dk_at dksX2_pairOf_1 20 rfl rfl)
theorem dX2_pairOf_44 : decode cX2_pairOf 44 = .ok (.iaload, 1) := dk_46 (dk_at dksX2_pairOf_1 21 rfl rfl)
theorem dX2_pairOf_45 : decode cX2_pairOf 45 = .ok (.goto 4, 3) := dk_167 0 4 (dk_at dksX2_pairOf_2 0 rfl rfl)
theorem dX2_pairOf_48 : decode cX2_pairOf 48 = .ok (.iconst 0, 1) := dk_3 (dk_at dksX2_pairOf_2 3 rfl rfl)
theorem dX2_pairOf_49 : decode cX2_pairOf 49 = .ok (.ireturn, 1) := dk_172 (dk_at dksX2_pairOf_2 4 rfl rfl)
abbrev cX2_turn : ByteArray := prog_9_method_49_code
def yX2_turn : MethodName := ⟨RX2, "turn", "(I)I"⟩
def dkwX2_turn_0 : List UInt8 := [42, 27, 182, 1, 101, 153, 0, 12, 42, 180, 0, 95, 27, 46, 167, 0, 4, 2, 172]
abbrev dktX2_turn_0 : List UInt8 := dkwX2_turn_0 ++ []
theorem dksX2_turn_0 : cX2_turn.data.toList.drop 0 = dktX2_turn_0 := by decide +kernel
theorem dX2_turn_0 : decode cX2_turn 0 = .ok (.aload_n 0, 1) := dk_42 (dk_at dksX2_turn_0 0 rfl rfl)
theorem dX2_turn_1 : decode cX2_turn 1 = .ok (.iload_n 1, 1) := dk_27 (dk_at dksX2_turn_0 1 rfl rfl)
theorem dX2_turn_2 : decode cX2_turn 2 = .ok (.invokevirtual 357, 3) := dk_182 1 101 (dk_at dksX2_turn_0 2 rfl rfl)
theorem dX2_turn_5 : decode cX2_turn 5 = .ok (.ifCond .eq 12, 3) := dk_153 0 12 (dk_at dksX2_turn_0 5 rfl rfl)
theorem dX2_turn_8 : decode cX2_turn 8 = .ok (.aload_n 0, 1) := dk_42 (dk_at dksX2_turn_0 8 rfl rfl)
theorem dX2_turn_9 : decode cX2_turn 9 = .ok (.getfield 95, 3) := dk_180 0 95 (dk_at dksX2_turn_0 9 rfl rfl)
theorem dX2_turn_12 : decode cX2_turn 12 = .ok (.iload_n 1, 1) := dk_27 (dk_at dksX2_turn_0 12 rfl rfl)
theorem dX2_turn_13 : decode cX2_turn 13 = .ok (.iaload, 1) := dk_46 (dk_at dksX2_turn_0 13 rfl rfl)
theorem dX2_turn_14 : decode cX2_turn 14 = .ok (.goto 4, 3) := dk_167 0 4 (dk_at dksX2_turn_0 14 rfl rfl)
theorem dX2_turn_17 : decode cX2_turn 17 = .ok (.iconst (-1), 1) := dk_2 (dk_at dksX2_turn_0 17 rfl rfl)
theorem dX2_turn_18 : decode cX2_turn 18 = .ok (.ireturn, 1) := dk_172 (dk_at dksX2_turn_0 18 rfl rfl)
abbrev cX2_isPlace : ByteArray := prog_9_method_33_code
def yX2_isPlace : MethodName := ⟨RX2, "isPlace", "(I)Z"⟩
def dkwX2_isPlace_0 : List UInt8 := [27, 3, 42, 182, 1, 46, 4, 100, 184, 1, 42, 172]
abbrev dktX2_isPlace_0 : List UInt8 := dkwX2_isPlace_0 ++ []
theorem dksX2_isPlace_0 : cX2_isPlace.data.toList.drop 0 = dktX2_isPlace_0 := by decide +kernel
theorem dX2_isPlace_0 : decode cX2_isPlace 0 = .ok (.iload_n 1, 1) := dk_27 (dk_at dksX2_isPlace_0 0 rfl rfl)
theorem dX2_isPlace_1 : decode cX2_isPlace 1 = .ok (.iconst 0, 1) := dk_3 (dk_at dksX2_isPlace_0 1 rfl rfl)
theorem dX2_isPlace_2 : decode cX2_isPlace 2 = .ok (.aload_n 0, 1) := dk_42 (dk_at dksX2_isPlace_0 2 rfl rfl)
theorem dX2_isPlace_3 : decode cX2_isPlace 3 = .ok (.invokevirtual 302, 3) := dk_182 1 46 (dk_at dksX2_isPlace_0 3 rfl rfl)
theorem dX2_isPlace_6 : decode cX2_isPlace 6 = .ok (.iconst 1, 1) := dk_4 (dk_at dksX2_isPlace_0 6 rfl rfl)
theorem dX2_isPlace_7 : decode cX2_isPlace 7 = .ok (.isub, 1) := dk_100 (dk_at dksX2_isPlace_0 7 rfl rfl)
theorem dX2_isPlace_8 : decode cX2_isPlace 8 = .ok (.invokestatic 298, 3) := dk_184 1 42 (dk_at dksX2_isPlace_0 8 rfl rfl)
theorem dX2_isPlace_11 : decode cX2_isPlace 11 = .ok (.ireturn, 1) := dk_172 (dk_at dksX2_isPlace_0 11 rfl rfl)
abbrev cX2_longOf : ByteArray := prog_9_method_32_code
def yX2_longOf : MethodName := ⟨RX2, "longOf", "()I"⟩
def dkwX2_longOf_0 : List UInt8 := [42, 180, 0, 33, 42, 180, 0, 233, 46, 172]
abbrev dktX2_longOf_0 : List UInt8 := dkwX2_longOf_0 ++ []
theorem dksX2_longOf_0 : cX2_longOf.data.toList.drop 0 = dktX2_longOf_0 := by decide +kernel
theorem dX2_longOf_0 : decode cX2_longOf 0 = .ok (.aload_n 0, 1) := dk_42 (dk_at dksX2_longOf_0 0 rfl rfl)
theorem dX2_longOf_1 : decode cX2_longOf 1 = .ok (.getfield 33, 3) := dk_180 0 33 (dk_at dksX2_longOf_0 1 rfl rfl)
theorem dX2_longOf_4 : decode cX2_longOf 4 = .ok (.aload_n 0, 1) := dk_42 (dk_at dksX2_longOf_0 4 rfl rfl)
theorem dX2_longOf_5 : decode cX2_longOf 5 = .ok (.getfield 233, 3) := dk_180 0 233 (dk_at dksX2_longOf_0 5 rfl rfl)
theorem dX2_longOf_8 : decode cX2_longOf 8 = .ok (.iaload, 1) := dk_46 (dk_at dksX2_longOf_0 8 rfl rfl)
theorem dX2_longOf_9 : decode cX2_longOf 9 = .ok (.ireturn, 1) := dk_172 (dk_at dksX2_longOf_0 9 rfl rfl)
abbrev cX2_word : ByteArray := prog_9_method_50_code
def yX2_word : MethodName := ⟨RX2, "word", "(I)I"⟩
def dkwX2_word_1 : List UInt8 := [172]
abbrev dktX2_word_1 : List UInt8 := dkwX2_word_1 ++ []
def dkwX2_word_0 : List UInt8 := [27, 3, 42, 180, 1, 80, 4, 100, 184, 1, 42, 153, 0, 12, 42, 180, 0, 92, 27, 46, 167, 0, 4, 2]
abbrev dktX2_word_0 : List UInt8 := dkwX2_word_0 ++ dktX2_word_1
theorem dksX2_word_0 : cX2_word.data.toList.drop 0 = dktX2_word_0 := by decide +kernel
theorem dksX2_word_1 : cX2_word.data.toList.drop 24 = dktX2_word_1 := dk_seg dksX2_word_0 24 rfl rfl
theorem dX2_word_0 : decode cX2_word 0 = .ok (.iload_n 1, 1) := dk_27 (dk_at dksX2_word_0 0 rfl rfl)
theorem dX2_word_1 : decode cX2_word 1 = .ok (.iconst 0, 1) := dk_3 (dk_at dksX2_word_0 1 rfl rfl)
theorem dX2_word_2 : decode cX2_word 2 = .ok (.aload_n 0, 1) := dk_42 (dk_at dksX2_word_0 2 rfl rfl)
theorem dX2_word_3 : decode cX2_word 3 = .ok (.getfield 336, 3) := dk_180 1 80 (dk_at dksX2_word_0 3 rfl rfl)
theorem dX2_word_6 : decode cX2_word 6 = .ok (.iconst 1, 1) := dk_4 (dk_at dksX2_word_0 6 rfl rfl)
theorem dX2_word_7 : decode cX2_word 7 = .ok (.isub, 1) := dk_100 (dk_at dksX2_word_0 7 rfl rfl)
theorem dX2_word_8 : decode cX2_word 8 = .ok (.invokestatic 298, 3) := dk_184 1 42 (dk_at dksX2_word_0 8 rfl rfl)
theorem dX2_word_11 : decode cX2_word 11 = .ok (.ifCond .eq 12, 3) := dk_153 0 12 (dk_at dksX2_word_0 11 rfl rfl)
theorem dX2_word_14 : decode cX2_word 14 = .ok (.aload_n 0, 1) := dk_42 (dk_at dksX2_word_0 14 rfl rfl)
theorem dX2_word_15 : decode cX2_word 15 = .ok (.getfield 92, 3) := dk_180 0 92 (dk_at dksX2_word_0 15 rfl rfl)
theorem dX2_word_18 : decode cX2_word 18 = .ok (.iload_n 1, 1) := dk_27 (dk_at dksX2_word_0 18 rfl rfl)
theorem dX2_word_19 : decode cX2_word 19 = .ok (.iaload, 1) := dk_46 (dk_at dksX2_word_0 19 rfl rfl)
theorem dX2_word_20 : decode cX2_word 20 = .ok (.goto 4, 3) := dk_167 0 4 (dk_at dksX2_word_0 20 rfl rfl)
theorem dX2_word_23 : decode cX2_word 23 = .ok (.iconst (-1), 1) := dk_2 (dk_at dksX2_word_0 23 rfl rfl)
theorem dX2_word_24 : decode cX2_word 24 = .ok (.ireturn, 1) := dk_172 (dk_at dksX2_word_1 0 rfl rfl)
abbrev cX2_next : ByteArray := prog_9_method_51_code
def yX2_next : MethodName := ⟨RX2, "next", "()I"⟩
def dkwX2_next_1 : List UInt8 := [153, 0, 9, 4, 28, 120, 167, 0, 4, 3, 128, 60, 132, 2, 1, 167, 255, 222, 27, 172]
abbrev dktX2_next_1 : List UInt8 := dkwX2_next_1 ++ []
def dkwX2_next_0 : List UInt8 := [3, 60, 3, 61, 28, 42, 180, 0, 20, 42, 180, 0, 233, 46, 162, 0, 27, 27, 42, 28, 182, 1, 104]
abbrev dktX2_next_0 : List UInt8 := dkwX2_next_0 ++ dktX2_next_1
theorem dksX2_next_0 : cX2_next.data.toList.drop 0 = dktX2_next_0 := by decide +kernel
theorem dksX2_next_1 : cX2_next.data.toList.drop 23 = dktX2_next_1 := dk_seg dksX2_next_0 23 rfl rfl
theorem dX2_next_0 : decode cX2_next 0 = .ok (.iconst 0, 1) := dk_3 (dk_at dksX2_next_0 0 rfl rfl)
theorem dX2_next_1 : decode cX2_next 1 = .ok (.istore_n 1, 1) := dk_60 (dk_at dksX2_next_0 1 rfl rfl)
theorem dX2_next_2 : decode cX2_next 2 = .ok (.iconst 0, 1) := dk_3 (dk_at dksX2_next_0 2 rfl rfl)
theorem dX2_next_3 : decode cX2_next 3 = .ok (.istore_n 2, 1) := dk_61 (dk_at dksX2_next_0 3 rfl rfl)
theorem dX2_next_4 : decode cX2_next 4 = .ok (.iload_n 2, 1) := dk_28 (dk_at dksX2_next_0 4 rfl rfl)
theorem dX2_next_5 : decode cX2_next 5 = .ok (.aload_n 0, 1) := dk_42 (dk_at dksX2_next_0 5 rfl rfl)
theorem dX2_next_6 : decode cX2_next 6 = .ok (.getfield 20, 3) := dk_180 0 20 (dk_at dksX2_next_0 6 rfl rfl)
theorem dX2_next_9 : decode cX2_next 9 = .ok (.aload_n 0, 1) := dk_42 (dk_at dksX2_next_0 9 rfl rfl)
theorem dX2_next_10 : decode cX2_next 10 = .ok (.getfield 233, 3) := dk_180 0 233 (dk_at dksX2_next_0 10 rfl rfl)
theorem dX2_next_13 : decode cX2_next 13 = .ok (.iaload, 1) := dk_46 (dk_at dksX2_next_0 13 rfl rfl)
theorem dX2_next_14 : decode cX2_next 14 = .ok (.if_icmp .ge 27, 3) := dk_162 0 27 (dk_at dksX2_next_0 14 rfl rfl)
theorem dX2_next_17 : decode cX2_next 17 = .ok (.iload_n 1, 1) := dk_27 (dk_at dksX2_next_0 17 rfl rfl)
theorem dX2_next_18 : decode cX2_next 18 = .ok (.aload_n 0, 1) := dk_42 (dk_at dksX2_next_0 18 rfl rfl)
theorem dX2_next_19 : decode cX2_next 19 = .ok (.iload_n 2, 1) := dk_28 (dk_at dksX2_next_0 19 rfl rfl)
theorem dX2_next_20 : decode cX2_next 20 = .ok (.invokevirtual 360, 3) := dk_182 1 104 (dk_at dksX2_next_0 20 rfl rfl)
theorem dX2_next_23 : decode cX2_next 23 = .ok (.ifCond .eq 9, 3) := dk_153 0 9 (dk_at dksX2_next_1 0 rfl rfl)
theorem dX2_next_26 : decode cX2_next 26 = .ok (.iconst 1, 1) := dk_4 (dk_at dksX2_next_1 3 rfl rfl)
theorem dX2_next_27 : decode cX2_next 27 = .ok (.iload_n 2, 1) := dk_28 (dk_at dksX2_next_1 4 rfl rfl)
theorem dX2_next_28 : decode cX2_next 28 = .ok (.ishl, 1) := dk_120 (dk_at dksX2_next_1 5 rfl rfl)
theorem dX2_next_29 : decode cX2_next 29 = .ok (.goto 4, 3) := dk_167 0 4 (dk_at dksX2_next_1 6 rfl rfl)
theorem dX2_next_32 : decode cX2_next 32 = .ok (.iconst 0, 1) := dk_3 (dk_at dksX2_next_1 9 rfl rfl)
theorem dX2_next_33 : decode cX2_next 33 = .ok (.ior, 1) := dk_128 (dk_at dksX2_next_1 10 rfl rfl)
theorem dX2_next_34 : decode cX2_next 34 = .ok (.istore_n 1, 1) := dk_60 (dk_at dksX2_next_1 11 rfl rfl)
theorem dX2_next_35 : decode cX2_next 35 = .ok (.iinc 2 1, 3) := dk_132 2 1 (dk_at dksX2_next_1 12 rfl rfl)
theorem dX2_next_38 : decode cX2_next 38 = .ok (.goto (-34), 3) := dk_167 255 222 (dk_at dksX2_next_1 15 rfl rfl)
theorem dX2_next_41 : decode cX2_next 41 = .ok (.iload_n 1, 1) := dk_27 (dk_at dksX2_next_1 18 rfl rfl)
theorem dX2_next_42 : decode cX2_next 42 = .ok (.ireturn, 1) := dk_172 (dk_at dksX2_next_1 19 rfl rfl)
abbrev cX2_canCome : ByteArray := prog_9_method_48_code
def yX2_canCome : MethodName := ⟨RX2, "canCome", "(I)Z"⟩
def dkwX2_canCome_1 : List UInt8 := [180, 1, 80, 27, 79, 42, 42, 180, 1, 80, 4, 96, 182, 1, 98, 172]
abbrev dktX2_canCome_1 : List UInt8 := dkwX2_canCome_1 ++ []
def dkwX2_canCome_0 : List UInt8 := [42, 180, 1, 80, 42, 182, 1, 46, 160, 0, 5, 3, 172, 42, 182, 1, 95, 42, 180, 0, 77, 42]
abbrev dktX2_canCome_0 : List UInt8 := dkwX2_canCome_0 ++ dktX2_canCome_1
theorem dksX2_canCome_0 : cX2_canCome.data.toList.drop 0 = dktX2_canCome_0 := by decide +kernel
theorem dksX2_canCome_1 : cX2_canCome.data.toList.drop 22 = dktX2_canCome_1 := dk_seg dksX2_canCome_0 22 rfl rfl
theorem dX2_canCome_0 : decode cX2_canCome 0 = .ok (.aload_n 0, 1) := dk_42 (dk_at dksX2_canCome_0 0 rfl rfl)
theorem dX2_canCome_1 : decode cX2_canCome 1 = .ok (.getfield 336, 3) := dk_180 1 80 (dk_at dksX2_canCome_0 1 rfl rfl)
theorem dX2_canCome_4 : decode cX2_canCome 4 = .ok (.aload_n 0, 1) := dk_42 (dk_at dksX2_canCome_0 4 rfl rfl)
theorem dX2_canCome_5 : decode cX2_canCome 5 = .ok (.invokevirtual 302, 3) := dk_182 1 46 (dk_at dksX2_canCome_0 5 rfl rfl)
theorem dX2_canCome_8 : decode cX2_canCome 8 = .ok (.if_icmp .ne 5, 3) := dk_160 0 5 (dk_at dksX2_canCome_0 8 rfl rfl)
theorem dX2_canCome_11 : decode cX2_canCome 11 = .ok (.iconst 0, 1) := dk_3 (dk_at dksX2_canCome_0 11 rfl rfl)
theorem dX2_canCome_12 : decode cX2_canCome 12 = .ok (.ireturn, 1) := dk_172 (dk_at dksX2_canCome_0 12 rfl rfl)
theorem dX2_canCome_13 : decode cX2_canCome 13 = .ok (.aload_n 0, 1) := dk_42 (dk_at dksX2_canCome_0 13 rfl rfl)
theorem dX2_canCome_14 : decode cX2_canCome 14 = .ok (.invokevirtual 351, 3) := dk_182 1 95 (dk_at dksX2_canCome_0 14 rfl rfl)
theorem dX2_canCome_17 : decode cX2_canCome 17 = .ok (.aload_n 0, 1) := dk_42 (dk_at dksX2_canCome_0 17 rfl rfl)
theorem dX2_canCome_18 : decode cX2_canCome 18 = .ok (.getfield 77, 3) := dk_180 0 77 (dk_at dksX2_canCome_0 18 rfl rfl)
theorem dX2_canCome_21 : decode cX2_canCome 21 = .ok (.aload_n 0, 1) := dk_42 (dk_at dksX2_canCome_0 21 rfl rfl)
theorem dX2_canCome_22 : decode cX2_canCome 22 = .ok (.getfield 336, 3) := dk_180 1 80 (dk_at dksX2_canCome_1 0 rfl rfl)
theorem dX2_canCome_25 : decode cX2_canCome 25 = .ok (.iload_n 1, 1) := dk_27 (dk_at dksX2_canCome_1 3 rfl rfl)
theorem dX2_canCome_26 : decode cX2_canCome 26 = .ok (.iastore, 1) := dk_79 (dk_at dksX2_canCome_1 4 rfl rfl)
theorem dX2_canCome_27 : decode cX2_canCome 27 = .ok (.aload_n 0, 1) := dk_42 (dk_at dksX2_canCome_1 5 rfl rfl)
theorem dX2_canCome_28 : decode cX2_canCome 28 = .ok (.aload_n 0, 1) := dk_42 (dk_at dksX2_canCome_1 6 rfl rfl)
theorem dX2_canCome_29 : decode cX2_canCome 29 = .ok (.getfield 336, 3) := dk_180 1 80 (dk_at dksX2_canCome_1 7 rfl rfl)
theorem dX2_canCome_32 : decode cX2_canCome 32 = .ok (.iconst 1, 1) := dk_4 (dk_at dksX2_canCome_1 10 rfl rfl)
theorem dX2_canCome_33 : decode cX2_canCome 33 = .ok (.iadd, 1) := dk_96 (dk_at dksX2_canCome_1 11 rfl rfl)
theorem dX2_canCome_34 : decode cX2_canCome 34 = .ok (.invokevirtual 354, 3) := dk_182 1 98 (dk_at dksX2_canCome_1 12 rfl rfl)
theorem dX2_canCome_37 : decode cX2_canCome 37 = .ok (.ireturn, 1) := dk_172 (dk_at dksX2_canCome_1 15 rfl rfl)
abbrev cX2_tryRow : ByteArray := prog_9_method_47_code
def yX2_tryRow : MethodName := ⟨RX2, "tryRow", "()V"⟩
def dkwX2_tryRow_1 : List UInt8 := [132, 1, 1, 167, 255, 233, 177]
abbrev dktX2_tryRow_1 : List UInt8 := dkwX2_tryRow_1 ++ []
def dkwX2_tryRow_0 : List UInt8 := [3, 60, 27, 42, 180, 1, 80, 162, 0, 21, 42, 180, 0, 77, 27, 42, 180, 0, 92, 27, 46, 79]
abbrev dktX2_tryRow_0 : List UInt8 := dkwX2_tryRow_0 ++ dktX2_tryRow_1
theorem dksX2_tryRow_0 : cX2_tryRow.data.toList.drop 0 = dktX2_tryRow_0 := by decide +kernel
theorem dksX2_tryRow_1 : cX2_tryRow.data.toList.drop 22 = dktX2_tryRow_1 := dk_seg dksX2_tryRow_0 22 rfl rfl
theorem dX2_tryRow_0 : decode cX2_tryRow 0 = .ok (.iconst 0, 1) := dk_3 (dk_at dksX2_tryRow_0 0 rfl rfl)
theorem dX2_tryRow_1 : decode cX2_tryRow 1 = .ok (.istore_n 1, 1) := dk_60 (dk_at dksX2_tryRow_0 1 rfl rfl)
theorem dX2_tryRow_2 : decode cX2_tryRow 2 = .ok (.iload_n 1, 1) := dk_27 (dk_at dksX2_tryRow_0 2 rfl rfl)
theorem dX2_tryRow_3 : decode cX2_tryRow 3 = .ok (.aload_n 0, 1) := dk_42 (dk_at dksX2_tryRow_0 3 rfl rfl)
theorem dX2_tryRow_4 : decode cX2_tryRow 4 = .ok (.getfield 336, 3) := dk_180 1 80 (dk_at dksX2_tryRow_0 4 rfl rfl)
theorem dX2_tryRow_7 : decode cX2_tryRow 7 = .ok (.if_icmp .ge 21, 3) := dk_162 0 21 (dk_at dksX2_tryRow_0 7 rfl rfl)
theorem dX2_tryRow_10 : decode cX2_tryRow 10 = .ok (.aload_n 0, 1) := dk_42 (dk_at dksX2_tryRow_0 10 rfl rfl)
theorem dX2_tryRow_11 : decode cX2_tryRow 11 = .ok (.getfield 77, 3) := dk_180 0 77 (dk_at dksX2_tryRow_0 11 rfl rfl)
theorem dX2_tryRow_14 : decode cX2_tryRow 14 = .ok (.iload_n 1, 1) := dk_27 (dk_at dksX2_tryRow_0 14 rfl rfl)
theorem dX2_tryRow_15 : decode cX2_tryRow 15 = .ok (.aload_n 0, 1) := dk_42 (dk_at dksX2_tryRow_0 15 rfl rfl)
theorem dX2_tryRow_16 : decode cX2_tryRow 16 = .ok (.getfield 92, 3) := dk_180 0 92 (dk_at dksX2_tryRow_0 16 rfl rfl)
theorem dX2_tryRow_19 : decode cX2_tryRow 19 = .ok (.iload_n 1, 1) := dk_27 (dk_at dksX2_tryRow_0 19 rfl rfl)
theorem dX2_tryRow_20 : decode cX2_tryRow 20 = .ok (.iaload, 1) := dk_46 (dk_at dksX2_tryRow_0 20 rfl rfl)
theorem dX2_tryRow_21 : decode cX2_tryRow 21 = .ok (.iastore, 1) := dk_79 (dk_at dksX2_tryRow_0 21 rfl rfl)
theorem dX2_tryRow_22 : decode cX2_tryRow 22 = .ok (.iinc 1 1, 3) := dk_132 1 1 (dk_at dksX2_tryRow_1 0 rfl rfl)
theorem dX2_tryRow_25 : decode cX2_tryRow 25 = .ok (.goto (-23), 3) := dk_167 255 233 (dk_at dksX2_tryRow_1 3 rfl rfl)
theorem dX2_tryRow_28 : decode cX2_tryRow 28 = .ok (.return_, 1) := dk_177 (dk_at dksX2_tryRow_1 6 rfl rfl)
abbrev cX2_canGoOn : ByteArray := prog_9_method_46_code
def yX2_canGoOn : MethodName := ⟨RX2, "canGoOn", "(I)Z"⟩
def dkwX2_canGoOn_1 : List UInt8 := [42, 182, 1, 46, 163, 0, 18, 42, 42, 182, 1, 46, 182, 1, 92, 153, 0, 7, 4, 167, 0, 4, 3, 172]
abbrev dktX2_canGoOn_1 : List UInt8 := dkwX2_canGoOn_1 ++ []
def dkwX2_canGoOn_0 : List UInt8 := [27, 61, 28, 42, 182, 1, 46, 162, 0, 16, 42, 180, 0, 77, 28, 2, 79, 132, 2, 1, 167, 255, 238, 27]
abbrev dktX2_canGoOn_0 : List UInt8 := dkwX2_canGoOn_0 ++ dktX2_canGoOn_1
theorem dksX2_canGoOn_0 : cX2_canGoOn.data.toList.drop 0 = dktX2_canGoOn_0 := by decide +kernel
theorem dksX2_canGoOn_1 : cX2_canGoOn.data.toList.drop 24 = dktX2_canGoOn_1 := dk_seg dksX2_canGoOn_0 24 rfl rfl
theorem dX2_canGoOn_0 : decode cX2_canGoOn 0 = .ok (.iload_n 1, 1) := dk_27 (dk_at dksX2_canGoOn_0 0 rfl rfl)
theorem dX2_canGoOn_1 : decode cX2_canGoOn 1 = .ok (.istore_n 2, 1) := dk_61 (dk_at dksX2_canGoOn_0 1 rfl rfl)
theorem dX2_canGoOn_2 : decode cX2_canGoOn 2 = .ok (.iload_n 2, 1) := dk_28 (dk_at dksX2_canGoOn_0 2 rfl rfl)
theorem dX2_canGoOn_3 : decode cX2_canGoOn 3 = .ok (.aload_n 0, 1) := dk_42 (dk_at dksX2_canGoOn_0 3 rfl rfl)
theorem dX2_canGoOn_4 : decode cX2_canGoOn 4 = .ok (.invokevirtual 302, 3) := dk_182 1 46 (dk_at dksX2_canGoOn_0 4 rfl rfl)
theorem dX2_canGoOn_7 : decode cX2_canGoOn 7 = .ok (.if_icmp .ge 16, 3) := dk_162 0 16 (dk_at dksX2_canGoOn_0 7 rfl rfl)
theorem dX2_canGoOn_10 : decode cX2_canGoOn 10 = .ok (.aload_n 0, 1) := dk_42 (dk_at dksX2_canGoOn_0 10 rfl rfl)
theorem dX2_canGoOn_11 : decode cX2_canGoOn 11 = .ok (.getfield 77, 3) := dk_180 0 77 (dk_at dksX2_canGoOn_0 11 rfl rfl)
theorem dX2_canGoOn_14 : decode cX2_canGoOn 14 = .ok (.iload_n 2, 1) := dk_28 (dk_at dksX2_canGoOn_0 14 rfl rfl)
theorem dX2_canGoOn_15 : decode cX2_canGoOn 15 = .ok (.iconst (-1), 1) := dk_2 (dk_at dksX2_canGoOn_0 15 rfl rfl)
theorem dX2_canGoOn_16 : decode cX2_canGoOn 16 = .ok (.iastore, 1) := dk_79 (dk_at dksX2_canGoOn_0 16 rfl rfl)
theorem dX2_canGoOn_17 : decode cX2_canGoOn 17 = .ok (.iinc 2 1, 3) := dk_132 2 1 (dk_at dksX2_canGoOn_0 17 rfl rfl)
theorem dX2_canGoOn_20 : decode cX2_canGoOn 20 = .ok (.goto (-18), 3) := dk_167 255 238 (dk_at dksX2_canGoOn_0 20 rfl rfl)
theorem dX2_canGoOn_23 : decode cX2_canGoOn 23 = .ok (.iload_n 1, 1) := dk_27 (dk_at dksX2_canGoOn_0 23 rfl rfl)
theorem dX2_canGoOn_24 : decode cX2_canGoOn 24 = .ok (.aload_n 0, 1) := dk_42 (dk_at dksX2_canGoOn_1 0 rfl rfl)
theorem dX2_canGoOn_25 : decode cX2_canGoOn 25 = .ok (.invokevirtual 302, 3) := dk_182 1 46 (dk_at dksX2_canGoOn_1 1 rfl rfl)
theorem dX2_canGoOn_28 : decode cX2_canGoOn 28 = .ok (.if_icmp .gt 18, 3) := dk_163 0 18 (dk_at dksX2_canGoOn_1 4 rfl rfl)
theorem dX2_canGoOn_31 : decode cX2_canGoOn 31 = .ok (.aload_n 0, 1) := dk_42 (dk_at dksX2_canGoOn_1 7 rfl rfl)
theorem dX2_canGoOn_32 : decode cX2_canGoOn 32 = .ok (.aload_n 0, 1) := dk_42 (dk_at dksX2_canGoOn_1 8 rfl rfl)
theorem dX2_canGoOn_33 : decode cX2_canGoOn 33 = .ok (.invokevirtual 302, 3) := dk_182 1 46 (dk_at dksX2_canGoOn_1 9 rfl rfl)
theorem dX2_canGoOn_36 : decode cX2_canGoOn 36 = .ok (.invokevirtual 348, 3) := dk_182 1 92 (dk_at dksX2_canGoOn_1 12 rfl rfl)
theorem dX2_canGoOn_39 : decode cX2_canGoOn 39 = .ok (.ifCond .eq 7, 3) := dk_153 0 7 (dk_at dksX2_canGoOn_1 15 rfl rfl)
theorem dX2_canGoOn_42 : decode cX2_canGoOn 42 = .ok (.iconst 1, 1) := dk_4 (dk_at dksX2_canGoOn_1 18 rfl rfl)
theorem dX2_canGoOn_43 : decode cX2_canGoOn 43 = .ok (.goto 4, 3) := dk_167 0 4 (dk_at dksX2_canGoOn_1 19 rfl rfl)
theorem dX2_canGoOn_46 : decode cX2_canGoOn 46 = .ok (.iconst 0, 1) := dk_3 (dk_at dksX2_canGoOn_1 22 rfl rfl)
theorem dX2_canGoOn_47 : decode cX2_canGoOn 47 = .ok (.ireturn, 1) := dk_172 (dk_at dksX2_canGoOn_1 23 rfl rfl)
abbrev cX2_isRead : ByteArray := prog_9_method_40_code
def yX2_isRead : MethodName := ⟨RX2, "isRead", "(I)Z"⟩
def dkwX2_isRead_1 : List UInt8 := [180, 0, 80, 3, 46, 27, 122, 4, 126, 4, 160, 0, 7, 4, 167, 0, 4, 3, 172]
abbrev dktX2_isRead_1 : List UInt8 := dkwX2_isRead_1 ++ []
def dkwX2_isRead_0 : List UInt8 := [42, 180, 0, 27, 42, 180, 0, 233, 46, 153, 0, 7, 27, 154, 0, 5, 3, 172, 42, 27, 182, 1, 66, 42]
abbrev dktX2_isRead_0 : List UInt8 := dkwX2_isRead_0 ++ dktX2_isRead_1
theorem dksX2_isRead_0 : cX2_isRead.data.toList.drop 0 = dktX2_isRead_0 := by decide +kernel
theorem dksX2_isRead_1 : cX2_isRead.data.toList.drop 24 = dktX2_isRead_1 := dk_seg dksX2_isRead_0 24 rfl rfl
theorem dX2_isRead_0 : decode cX2_isRead 0 = .ok (.aload_n 0, 1) := dk_42 (dk_at dksX2_isRead_0 0 rfl rfl)
theorem dX2_isRead_1 : decode cX2_isRead 1 = .ok (.getfield 27, 3) := dk_180 0 27 (dk_at dksX2_isRead_0 1 rfl rfl)
theorem dX2_isRead_4 : decode cX2_isRead 4 = .ok (.aload_n 0, 1) := dk_42 (dk_at dksX2_isRead_0 4 rfl rfl)
theorem dX2_isRead_5 : decode cX2_isRead 5 = .ok (.getfield 233, 3) := dk_180 0 233 (dk_at dksX2_isRead_0 5 rfl rfl)
theorem dX2_isRead_8 : decode cX2_isRead 8 = .ok (.iaload, 1) := dk_46 (dk_at dksX2_isRead_0 8 rfl rfl)
theorem dX2_isRead_9 : decode cX2_isRead 9 = .ok (.ifCond .eq 7, 3) := dk_153 0 7 (dk_at dksX2_isRead_0 9 rfl rfl)
theorem dX2_isRead_12 : decode cX2_isRead 12 = .ok (.iload_n 1, 1) := dk_27 (dk_at dksX2_isRead_0 12 rfl rfl)
theorem dX2_isRead_13 : decode cX2_isRead 13 = .ok (.ifCond .ne 5, 3) := dk_154 0 5 (dk_at dksX2_isRead_0 13 rfl rfl)
theorem dX2_isRead_16 : decode cX2_isRead 16 = .ok (.iconst 0, 1) := dk_3 (dk_at dksX2_isRead_0 16 rfl rfl)
theorem dX2_isRead_17 : decode cX2_isRead 17 = .ok (.ireturn, 1) := dk_172 (dk_at dksX2_isRead_0 17 rfl rfl)
theorem dX2_isRead_18 : decode cX2_isRead 18 = .ok (.aload_n 0, 1) := dk_42 (dk_at dksX2_isRead_0 18 rfl rfl)
theorem dX2_isRead_19 : decode cX2_isRead 19 = .ok (.iload_n 1, 1) := dk_27 (dk_at dksX2_isRead_0 19 rfl rfl)
theorem dX2_isRead_20 : decode cX2_isRead 20 = .ok (.invokevirtual 322, 3) := dk_182 1 66 (dk_at dksX2_isRead_0 20 rfl rfl)
theorem dX2_isRead_23 : decode cX2_isRead 23 = .ok (.aload_n 0, 1) := dk_42 (dk_at dksX2_isRead_0 23 rfl rfl)
theorem dX2_isRead_24 : decode cX2_isRead 24 = .ok (.getfield 80, 3) := dk_180 0 80 (dk_at dksX2_isRead_1 0 rfl rfl)
theorem dX2_isRead_27 : decode cX2_isRead 27 = .ok (.iconst 0, 1) := dk_3 (dk_at dksX2_isRead_1 3 rfl rfl)
theorem dX2_isRead_28 : decode cX2_isRead 28 = .ok (.iaload, 1) := dk_46 (dk_at dksX2_isRead_1 4 rfl rfl)
theorem dX2_isRead_29 : decode cX2_isRead 29 = .ok (.iload_n 1, 1) := dk_27 (dk_at dksX2_isRead_1 5 rfl rfl)
theorem dX2_isRead_30 : decode cX2_isRead 30 = .ok (.ishr, 1) := dk_122 (dk_at dksX2_isRead_1 6 rfl rfl)
theorem dX2_isRead_31 : decode cX2_isRead 31 = .ok (.iconst 1, 1) := dk_4 (dk_at dksX2_isRead_1 7 rfl rfl)
theorem dX2_isRead_32 : decode cX2_isRead 32 = .ok (.iand, 1) := dk_126 (dk_at dksX2_isRead_1 8 rfl rfl)
theorem dX2_isRead_33 : decode cX2_isRead 33 = .ok (.iconst 1, 1) := dk_4 (dk_at dksX2_isRead_1 9 rfl rfl)
theorem dX2_isRead_34 : decode cX2_isRead 34 = .ok (.if_icmp .ne 7, 3) := dk_160 0 7 (dk_at dksX2_isRead_1 10 rfl rfl)
theorem dX2_isRead_37 : decode cX2_isRead 37 = .ok (.iconst 1, 1) := dk_4 (dk_at dksX2_isRead_1 13 rfl rfl)
theorem dX2_isRead_38 : decode cX2_isRead 38 = .ok (.goto 4, 3) := dk_167 0 4 (dk_at dksX2_isRead_1 14 rfl rfl)
theorem dX2_isRead_41 : decode cX2_isRead 41 = .ok (.iconst 0, 1) := dk_3 (dk_at dksX2_isRead_1 17 rfl rfl)
theorem dX2_isRead_42 : decode cX2_isRead 42 = .ok (.ireturn, 1) := dk_172 (dk_at dksX2_isRead_1 18 rfl rfl)
abbrev cX2_layEnds : ByteArray := prog_9_method_39_code
def yX2_layEnds : MethodName := ⟨RX2, "layEnds", "(I)V"⟩
def dkwX2_layEnds_5 : List UInt8 := [167, 255, 169, 132, 2, 1, 167, 255, 156, 177]
abbrev dktX2_layEnds_5 : List UInt8 := dkwX2_layEnds_5 ++ []
def dkwX2_layEnds_4 : List UInt8 := [46, 104, 29, 96, 92, 46, 4, 29, 28, 96, 120, 128, 79, 132, 4, 255, 167, 255, 203, 132, 3, 1]
abbrev dktX2_layEnds_4 : List UInt8 := dkwX2_layEnds_4 ++ dktX2_layEnds_5
def dkwX2_layEnds_3 : List UInt8 := [21, 4, 29, 29, 28, 96, 182, 1, 63, 153, 0, 28, 42, 180, 0, 80, 16, 7, 42, 180, 0, 48, 21, 4]
abbrev dktX2_layEnds_3 : List UInt8 := dkwX2_layEnds_3 ++ dktX2_layEnds_4
def dkwX2_layEnds_2 : List UInt8 := [42, 180, 0, 233, 46, 96, 4, 100, 54, 4, 21, 4, 16, 24, 42, 180, 0, 233, 104, 161, 0, 47, 42]
abbrev dktX2_layEnds_2 : List UInt8 := dkwX2_layEnds_2 ++ dktX2_layEnds_3
def dkwX2_layEnds_1 : List UInt8 := [27, 163, 0, 101, 3, 62, 29, 28, 96, 27, 163, 0, 86, 16, 24, 42, 180, 0, 233, 104, 42, 180, 0, 30]
abbrev dktX2_layEnds_1 : List UInt8 := dkwX2_layEnds_1 ++ dktX2_layEnds_2
def dkwX2_layEnds_0 : List UInt8 := [3, 61, 28, 16, 56, 162, 0, 16, 42, 180, 0, 80, 28, 3, 79, 132, 2, 1, 167, 255, 240, 4, 61, 28]
abbrev dktX2_layEnds_0 : List UInt8 := dkwX2_layEnds_0 ++ dktX2_layEnds_1
theorem dksX2_layEnds_0 : cX2_layEnds.data.toList.drop 0 = dktX2_layEnds_0 := by decide +kernel
theorem dksX2_layEnds_1 : cX2_layEnds.data.toList.drop 24 = dktX2_layEnds_1 := dk_seg dksX2_layEnds_0 24 rfl rfl
theorem dksX2_layEnds_2 : cX2_layEnds.data.toList.drop 48 = dktX2_layEnds_2 := dk_seg dksX2_layEnds_1 24 rfl rfl
theorem dksX2_layEnds_3 : cX2_layEnds.data.toList.drop 71 = dktX2_layEnds_3 := dk_seg dksX2_layEnds_2 23 rfl rfl
theorem dksX2_layEnds_4 : cX2_layEnds.data.toList.drop 95 = dktX2_layEnds_4 := dk_seg dksX2_layEnds_3 24 rfl rfl
theorem dksX2_layEnds_5 : cX2_layEnds.data.toList.drop 117 = dktX2_layEnds_5 := dk_seg dksX2_layEnds_4 22 rfl rfl
theorem dX2_layEnds_0 : decode cX2_layEnds 0 = .ok (.iconst 0, 1) := dk_3 (dk_at dksX2_layEnds_0 0 rfl rfl)
theorem dX2_layEnds_1 : decode cX2_layEnds 1 = .ok (.istore_n 2, 1) := dk_61 (dk_at dksX2_layEnds_0 1 rfl rfl)
theorem dX2_layEnds_2 : decode cX2_layEnds 2 = .ok (.iload_n 2, 1) := dk_28 (dk_at dksX2_layEnds_0 2 rfl rfl)
theorem dX2_layEnds_3 : decode cX2_layEnds 3 = .ok (.bipush 56, 2) := dk_16 56 (dk_at dksX2_layEnds_0 3 rfl rfl)
theorem dX2_layEnds_5 : decode cX2_layEnds 5 = .ok (.if_icmp .ge 16, 3) := dk_162 0 16 (dk_at dksX2_layEnds_0 5 rfl rfl)
theorem dX2_layEnds_8 : decode cX2_layEnds 8 = .ok (.aload_n 0, 1) := dk_42 (dk_at dksX2_layEnds_0 8 rfl rfl)
theorem dX2_layEnds_9 : decode cX2_layEnds 9 = .ok (.getfield 80, 3) := dk_180 0 80 (dk_at dksX2_layEnds_0 9 rfl rfl)
theorem dX2_layEnds_12 : decode cX2_layEnds 12 = .ok (.iload_n 2, 1) := dk_28 (dk_at dksX2_layEnds_0 12 rfl rfl)
theorem dX2_layEnds_13 : decode cX2_layEnds 13 = .ok (.iconst 0, 1) := dk_3 (dk_at dksX2_layEnds_0 13 rfl rfl)
theorem dX2_layEnds_14 : decode cX2_layEnds 14 = .ok (.iastore, 1) := dk_79 (dk_at dksX2_layEnds_0 14 rfl rfl)
theorem dX2_layEnds_15 : decode cX2_layEnds 15 = .ok (.iinc 2 1, 3) := dk_132 2 1 (dk_at dksX2_layEnds_0 15 rfl rfl)
theorem dX2_layEnds_18 : decode cX2_layEnds 18 = .ok (.goto (-16), 3) := dk_167 255 240 (dk_at dksX2_layEnds_0 18 rfl rfl)
theorem dX2_layEnds_21 : decode cX2_layEnds 21 = .ok (.iconst 1, 1) := dk_4 (dk_at dksX2_layEnds_0 21 rfl rfl)
theorem dX2_layEnds_22 : decode cX2_layEnds 22 = .ok (.istore_n 2, 1) := dk_61 (dk_at dksX2_layEnds_0 22 rfl rfl)
theorem dX2_layEnds_23 : decode cX2_layEnds 23 = .ok (.iload_n 2, 1) := dk_28 (dk_at dksX2_layEnds_0 23 rfl rfl)
theorem dX2_layEnds_24 : decode cX2_layEnds 24 = .ok (.iload_n 1, 1) := dk_27 (dk_at dksX2_layEnds_1 0 rfl rfl)
theorem dX2_layEnds_25 : decode cX2_layEnds 25 = .ok (.if_icmp .gt 101, 3) := dk_163 0 101 (dk_at dksX2_layEnds_1 1 rfl rfl)
theorem dX2_layEnds_28 : decode cX2_layEnds 28 = .ok (.iconst 0, 1) := dk_3 (dk_at dksX2_layEnds_1 4 rfl rfl)
theorem dX2_layEnds_29 : decode cX2_layEnds 29 = .ok (.istore_n 3, 1) := dk_62 (dk_at dksX2_layEnds_1 5 rfl rfl)
theorem dX2_layEnds_30 : decode cX2_layEnds 30 = .ok (.iload_n 3, 1) := dk_29 (dk_at dksX2_layEnds_1 6 rfl rfl)
theorem dX2_layEnds_31 : decode cX2_layEnds 31 = .ok (.iload_n 2, 1) := dk_28 (dk_at dksX2_layEnds_1 7 rfl rfl)
theorem dX2_layEnds_32 : decode cX2_layEnds 32 = .ok (.iadd, 1) := dk_96 (dk_at dksX2_layEnds_1 8 rfl rfl)
theorem dX2_layEnds_33 : decode cX2_layEnds 33 = .ok (.iload_n 1, 1) := dk_27 (dk_at dksX2_layEnds_1 9 rfl rfl)
theorem dX2_layEnds_34 : decode cX2_layEnds 34 = .ok (.if_icmp .gt 86, 3) := dk_163 0 86 (dk_at dksX2_layEnds_1 10 rfl rfl)
theorem dX2_layEnds_37 : decode cX2_layEnds 37 = .ok (.bipush 24, 2) := dk_16 24 (dk_at dksX2_layEnds_1 13 rfl rfl)
theorem dX2_layEnds_39 : decode cX2_layEnds 39 = .ok (.aload_n 0, 1) := dk_42 (dk_at dksX2_layEnds_1 15 rfl rfl)
theorem dX2_layEnds_40 : decode cX2_layEnds 40 = .ok (.getfield 233, 3) := dk_180 0 233 (dk_at dksX2_layEnds_1 16 rfl rfl)
theorem dX2_layEnds_43 : decode cX2_layEnds 43 = .ok (.imul, 1) := dk_104 (dk_at dksX2_layEnds_1 19 rfl rfl)
theorem dX2_layEnds_44 : decode cX2_layEnds 44 = .ok (.aload_n 0, 1) := dk_42 (dk_at dksX2_layEnds_1 20 rfl rfl)
theorem dX2_layEnds_45 : decode cX2_layEnds 45 = .ok (.getfield 30, 3) := dk_180 0 30 (dk_at dksX2_layEnds_1 21 rfl rfl)
theorem dX2_layEnds_48 : decode cX2_layEnds 48 = .ok (.aload_n 0, 1) := dk_42 (dk_at dksX2_layEnds_2 0 rfl rfl)
theorem dX2_layEnds_49 : decode cX2_layEnds 49 = .ok (.getfield 233, 3) := dk_180 0 233 (dk_at dksX2_layEnds_2 1 rfl rfl)
theorem dX2_layEnds_52 : decode cX2_layEnds 52 = .ok (.iaload, 1) := dk_46 (dk_at dksX2_layEnds_2 4 rfl rfl)
theorem dX2_layEnds_53 : decode cX2_layEnds 53 = .ok (.iadd, 1) := dk_96 (dk_at dksX2_layEnds_2 5 rfl rfl)
theorem dX2_layEnds_54 : decode cX2_layEnds 54 = .ok (.iconst 1, 1) := dk_4 (dk_at dksX2_layEnds_2 6 rfl rfl)
theorem dX2_layEnds_55 : decode cX2_layEnds 55 = .ok (.isub, 1) := dk_100 (dk_at dksX2_layEnds_2 7 rfl rfl)
theorem dX2_layEnds_56 : decode cX2_layEnds 56 = .ok (.istore 4, 2) := dk_54 4 (dk_at dksX2_layEnds_2 8 rfl rfl)
theorem dX2_layEnds_58 : decode cX2_layEnds 58 = .ok (.iload 4, 2) := dk_21 4 (dk_at dksX2_layEnds_2 10 rfl rfl)
theorem dX2_layEnds_60 : decode cX2_layEnds 60 = .ok (.bipush 24, 2) := dk_16 24 (dk_at dksX2_layEnds_2 12 rfl rfl)
theorem dX2_layEnds_62 : decode cX2_layEnds 62 = .ok (.aload_n 0, 1) := dk_42 (dk_at dksX2_layEnds_2 14 rfl rfl)
theorem dX2_layEnds_63 : decode cX2_layEnds 63 = .ok (.getfield 233, 3) := dk_180 0 233 (dk_at dksX2_layEnds_2 15 rfl rfl)
theorem dX2_layEnds_66 : decode cX2_layEnds 66 = .ok (.imul, 1) := dk_104 (dk_at dksX2_layEnds_2 18 rfl rfl)
theorem dX2_layEnds_67 : decode cX2_layEnds 67 = .ok (.if_icmp .lt 47, 3) := dk_161 0 47 (dk_at dksX2_layEnds_2 19 rfl rfl)
theorem dX2_layEnds_70 : decode cX2_layEnds 70 = .ok (.aload_n 0, 1) := dk_42 (dk_at dksX2_layEnds_2 22 rfl rfl)
theorem dX2_layEnds_71 : decode cX2_layEnds 71 = .ok (.iload 4, 2) := dk_21 4 (dk_at dksX2_layEnds_3 0 rfl rfl)
theorem dX2_layEnds_73 : decode cX2_layEnds 73 = .ok (.iload_n 3, 1) := dk_29 (dk_at dksX2_layEnds_3 2 rfl rfl)
theorem dX2_layEnds_74 : decode cX2_layEnds 74 = .ok (.iload_n 3, 1) := dk_29 (dk_at dksX2_layEnds_3 3 rfl rfl)
theorem dX2_layEnds_75 : decode cX2_layEnds 75 = .ok (.iload_n 2, 1) := dk_28 (dk_at dksX2_layEnds_3 4 rfl rfl)
theorem dX2_layEnds_76 : decode cX2_layEnds 76 = .ok (.iadd, 1) := dk_96 (dk_at dksX2_layEnds_3 5 rfl rfl)
theorem dX2_layEnds_77 : decode cX2_layEnds 77 = .ok (.invokevirtual 319, 3) := dk_182 1 63 (dk_at dksX2_layEnds_3 6 rfl rfl)
theorem dX2_layEnds_80 : decode cX2_layEnds 80 = .ok (.ifCond .eq 28, 3) := dk_153 0 28 (dk_at dksX2_layEnds_3 9 rfl rfl)
theorem dX2_layEnds_83 : decode cX2_layEnds 83 = .ok (.aload_n 0, 1) := dk_42 (dk_at dksX2_layEnds_3 12 rfl rfl)
theorem dX2_layEnds_84 : decode cX2_layEnds 84 = .ok (.getfield 80, 3) := dk_180 0 80 (dk_at dksX2_layEnds_3 13 rfl rfl)
theorem dX2_layEnds_87 : decode cX2_layEnds 87 = .ok (.bipush 7, 2) := dk_16 7 (dk_at dksX2_layEnds_3 16 rfl rfl)
theorem dX2_layEnds_89 : decode cX2_layEnds 89 = .ok (.aload_n 0, 1) := dk_42 (dk_at dksX2_layEnds_3 18 rfl rfl)
theorem dX2_layEnds_90 : decode cX2_layEnds 90 = .ok (.getfield 48, 3) := dk_180 0 48 (dk_at dksX2_layEnds_3 19 rfl rfl)
theorem dX2_layEnds_93 : decode cX2_layEnds 93 = .ok (.iload 4, 2) := dk_21 4 (dk_at dksX2_layEnds_3 22 rfl rfl)
theorem dX2_layEnds_95 : decode cX2_layEnds 95 = .ok (.iaload, 1) := dk_46 (dk_at dksX2_layEnds_4 0 rfl rfl)
theorem dX2_layEnds_96 : decode cX2_layEnds 96 = .ok (.imul, 1) := dk_104 (dk_at dksX2_layEnds_4 1 rfl rfl)
theorem dX2_layEnds_97 : decode cX2_layEnds 97 = .ok (.iload_n 3, 1) := dk_29 (dk_at dksX2_layEnds_4 2 rfl rfl)
theorem dX2_layEnds_98 : decode cX2_layEnds 98 = .ok (.iadd, 1) := dk_96 (dk_at dksX2_layEnds_4 3 rfl rfl)
theorem dX2_layEnds_99 : decode cX2_layEnds 99 = .ok (.dup2, 1) := dk_92 (dk_at dksX2_layEnds_4 4 rfl rfl)
theorem dX2_layEnds_100 : decode cX2_layEnds 100 = .ok (.iaload, 1) := dk_46 (dk_at dksX2_layEnds_4 5 rfl rfl)
theorem dX2_layEnds_101 : decode cX2_layEnds 101 = .ok (.iconst 1, 1) := dk_4 (dk_at dksX2_layEnds_4 6 rfl rfl)
theorem dX2_layEnds_102 : decode cX2_layEnds 102 = .ok (.iload_n 3, 1) := dk_29 (dk_at dksX2_layEnds_4 7 rfl rfl)
theorem dX2_layEnds_103 : decode cX2_layEnds 103 = .ok (.iload_n 2, 1) := dk_28 (dk_at dksX2_layEnds_4 8 rfl rfl)
theorem dX2_layEnds_104 : decode cX2_layEnds 104 = .ok (.iadd, 1) := dk_96 (dk_at dksX2_layEnds_4 9 rfl rfl)
theorem dX2_layEnds_105 : decode cX2_layEnds 105 = .ok (.ishl, 1) := dk_120 (dk_at dksX2_layEnds_4 10 rfl rfl)
theorem dX2_layEnds_106 : decode cX2_layEnds 106 = .ok (.ior, 1) := dk_128 (dk_at dksX2_layEnds_4 11 rfl rfl)
theorem dX2_layEnds_107 : decode cX2_layEnds 107 = .ok (.iastore, 1) := dk_79 (dk_at dksX2_layEnds_4 12 rfl rfl)
theorem dX2_layEnds_108 : decode cX2_layEnds 108 = .ok (.iinc 4 (-1), 3) := dk_132 4 255 (dk_at dksX2_layEnds_4 13 rfl rfl)
theorem dX2_layEnds_111 : decode cX2_layEnds 111 = .ok (.goto (-53), 3) := dk_167 255 203 (dk_at dksX2_layEnds_4 16 rfl rfl)
theorem dX2_layEnds_114 : decode cX2_layEnds 114 = .ok (.iinc 3 1, 3) := dk_132 3 1 (dk_at dksX2_layEnds_4 19 rfl rfl)
theorem dX2_layEnds_117 : decode cX2_layEnds 117 = .ok (.goto (-87), 3) := dk_167 255 169 (dk_at dksX2_layEnds_5 0 rfl rfl)
theorem dX2_layEnds_120 : decode cX2_layEnds 120 = .ok (.iinc 2 1, 3) := dk_132 2 1 (dk_at dksX2_layEnds_5 3 rfl rfl)
theorem dX2_layEnds_123 : decode cX2_layEnds 123 = .ok (.goto (-100), 3) := dk_167 255 156 (dk_at dksX2_layEnds_5 6 rfl rfl)
theorem dX2_layEnds_126 : decode cX2_layEnds 126 = .ok (.return_, 1) := dk_177 (dk_at dksX2_layEnds_5 9 rfl rfl)
abbrev cX2_doesRead : ByteArray := prog_9_method_38_code
def yX2_doesRead : MethodName := ⟨RX2, "doesRead", "(III)Z"⟩
def dkwX2_doesRead_4 : List UInt8 := [167, 0, 4, 3, 172]
abbrev dktX2_doesRead_4 : List UInt8 := dkwX2_doesRead_4 ++ []
def dkwX2_doesRead_3 : List UInt8 := [167, 255, 218, 21, 6, 54, 4, 132, 5, 1, 167, 255, 187, 21, 4, 29, 122, 4, 126, 4, 160, 0, 7, 4]
abbrev dktX2_doesRead_3 : List UInt8 := dkwX2_doesRead_3 ++ dktX2_doesRead_4
def dkwX2_doesRead_2 : List UInt8 := [160, 0, 21, 21, 6, 42, 42, 180, 0, 54, 21, 5, 46, 21, 7, 182, 1, 60, 128, 54, 6, 132, 7, 1]
abbrev dktX2_doesRead_2 : List UInt8 := dkwX2_doesRead_2 ++ dktX2_doesRead_3
def dkwX2_doesRead_1 : List UInt8 := [162, 0, 60, 3, 54, 6, 28, 54, 7, 21, 7, 29, 162, 0, 38, 21, 4, 21, 7, 122, 4, 126, 4]
abbrev dktX2_doesRead_1 : List UInt8 := dkwX2_doesRead_1 ++ dktX2_doesRead_2
def dkwX2_doesRead_0 : List UInt8 := [4, 28, 120, 54, 4, 7, 27, 104, 54, 5, 21, 5, 7, 27, 104, 42, 180, 0, 51, 27, 46, 96]
abbrev dktX2_doesRead_0 : List UInt8 := dkwX2_doesRead_0 ++ dktX2_doesRead_1
theorem dksX2_doesRead_0 : cX2_doesRead.data.toList.drop 0 = dktX2_doesRead_0 := by decide +kernel
theorem dksX2_doesRead_1 : cX2_doesRead.data.toList.drop 22 = dktX2_doesRead_1 := dk_seg dksX2_doesRead_0 22 rfl rfl
theorem dksX2_doesRead_2 : cX2_doesRead.data.toList.drop 45 = dktX2_doesRead_2 := dk_seg dksX2_doesRead_1 23 rfl rfl
theorem dksX2_doesRead_3 : cX2_doesRead.data.toList.drop 69 = dktX2_doesRead_3 := dk_seg dksX2_doesRead_2 24 rfl rfl
theorem dksX2_doesRead_4 : cX2_doesRead.data.toList.drop 93 = dktX2_doesRead_4 := dk_seg dksX2_doesRead_3 24 rfl rfl
theorem dX2_doesRead_0 : decode cX2_doesRead 0 = .ok (.iconst 1, 1) := dk_4 (dk_at dksX2_doesRead_0 0 rfl rfl)
theorem dX2_doesRead_1 : decode cX2_doesRead 1 = .ok (.iload_n 2, 1) := dk_28 (dk_at dksX2_doesRead_0 1 rfl rfl)
theorem dX2_doesRead_2 : decode cX2_doesRead 2 = .ok (.ishl, 1) := dk_120 (dk_at dksX2_doesRead_0 2 rfl rfl)
theorem dX2_doesRead_3 : decode cX2_doesRead 3 = .ok (.istore 4, 2) := dk_54 4 (dk_at dksX2_doesRead_0 3 rfl rfl)
theorem dX2_doesRead_5 : decode cX2_doesRead 5 = .ok (.iconst 4, 1) := dk_7 (dk_at dksX2_doesRead_0 5 rfl rfl)
theorem dX2_doesRead_6 : decode cX2_doesRead 6 = .ok (.iload_n 1, 1) := dk_27 (dk_at dksX2_doesRead_0 6 rfl rfl)
theorem dX2_doesRead_7 : decode cX2_doesRead 7 = .ok (.imul, 1) := dk_104 (dk_at dksX2_doesRead_0 7 rfl rfl)
theorem dX2_doesRead_8 : decode cX2_doesRead 8 = .ok (.istore 5, 2) := dk_54 5 (dk_at dksX2_doesRead_0 8 rfl rfl)
theorem dX2_doesRead_10 : decode cX2_doesRead 10 = .ok (.iload 5, 2) := dk_21 5 (dk_at dksX2_doesRead_0 10 rfl rfl)
theorem dX2_doesRead_12 : decode cX2_doesRead 12 = .ok (.iconst 4, 1) := dk_7 (dk_at dksX2_doesRead_0 12 rfl rfl)
theorem dX2_doesRead_13 : decode cX2_doesRead 13 = .ok (.iload_n 1, 1) := dk_27 (dk_at dksX2_doesRead_0 13 rfl rfl)
theorem dX2_doesRead_14 : decode cX2_doesRead 14 = .ok (.imul, 1) := dk_104 (dk_at dksX2_doesRead_0 14 rfl rfl)
theorem dX2_doesRead_15 : decode cX2_doesRead 15 = .ok (.aload_n 0, 1) := dk_42 (dk_at dksX2_doesRead_0 15 rfl rfl)
theorem dX2_doesRead_16 : decode cX2_doesRead 16 = .ok (.getfield 51, 3) := dk_180 0 51 (dk_at dksX2_doesRead_0 16 rfl rfl)
theorem dX2_doesRead_19 : decode cX2_doesRead 19 = .ok (.iload_n 1, 1) := dk_27 (dk_at dksX2_doesRead_0 19 rfl rfl)
theorem dX2_doesRead_20 : decode cX2_doesRead 20 = .ok (.iaload, 1) := dk_46 (dk_at dksX2_doesRead_0 20 rfl rfl)
theorem dX2_doesRead_21 : decode cX2_doesRead 21 = .ok (.iadd, 1) := dk_96 (dk_at dksX2_doesRead_0 21 rfl rfl)
theorem dX2_doesRead_22 : decode cX2_doesRead 22 = .ok (.if_icmp .ge 60, 3) := dk_162 0 60 (dk_at dksX2_doesRead_1 0 rfl rfl)
theorem dX2_doesRead_25 : decode cX2_doesRead 25 = .ok (.iconst 0, 1) := dk_3 (dk_at dksX2_doesRead_1 3 rfl rfl)
theorem dX2_doesRead_26 : decode cX2_doesRead 26 = .ok (.istore 6, 2) := dk_54 6 (dk_at dksX2_doesRead_1 4 rfl rfl)
theorem dX2_doesRead_28 : decode cX2_doesRead 28 = .ok (.iload_n 2, 1) := dk_28 (dk_at dksX2_doesRead_1 6 rfl rfl)
theorem dX2_doesRead_29 : decode cX2_doesRead 29 = .ok (.istore 7, 2) := dk_54 7 (dk_at dksX2_doesRead_1 7 rfl rfl)
theorem dX2_doesRead_31 : decode cX2_doesRead 31 = .ok (.iload 7, 2) := dk_21 7 (dk_at dksX2_doesRead_1 9 rfl rfl)
theorem dX2_doesRead_33 : decode cX2_doesRead 33 = .ok (.iload_n 3, 1) := dk_29 (dk_at dksX2_doesRead_1 11 rfl rfl)
theorem dX2_doesRead_34 : decode cX2_doesRead 34 = .ok (.if_icmp .ge 38, 3) := dk_162 0 38 (dk_at dksX2_doesRead_1 12 rfl rfl)
theorem dX2_doesRead_37 : decode cX2_doesRead 37 = .ok (.iload 4, 2) := dk_21 4 (dk_at dksX2_doesRead_1 15 rfl rfl)
theorem dX2_doesRead_39 : decode cX2_doesRead 39 = .ok (.iload 7, 2) := dk_21 7 (dk_at dksX2_doesRead_1 17 rfl rfl)
theorem dX2_doesRead_41 : decode cX2_doesRead 41 = .ok (.ishr, 1) := dk_122 (dk_at dksX2_doesRead_1 19 rfl rfl)
theorem dX2_doesRead_42 : decode cX2_doesRead 42 = .ok (.iconst 1, 1) := dk_4 (dk_at dksX2_doesRead_1 20 rfl rfl)
theorem dX2_doesRead_43 : decode cX2_doesRead 43 = .ok (.iand, 1) := dk_126 (dk_at dksX2_doesRead_1 21 rfl rfl)
theorem dX2_doesRead_44 : decode cX2_doesRead 44 = .ok (.iconst 1, 1) := dk_4 (dk_at dksX2_doesRead_1 22 rfl rfl)
theorem dX2_doesRead_45 : decode cX2_doesRead 45 = .ok (.if_icmp .ne 21, 3) := dk_160 0 21 (dk_at dksX2_doesRead_2 0 rfl rfl)
theorem dX2_doesRead_48 : decode cX2_doesRead 48 = .ok (.iload 6, 2) := dk_21 6 (dk_at dksX2_doesRead_2 3 rfl rfl)
theorem dX2_doesRead_50 : decode cX2_doesRead 50 = .ok (.aload_n 0, 1) := dk_42 (dk_at dksX2_doesRead_2 5 rfl rfl)
theorem dX2_doesRead_51 : decode cX2_doesRead 51 = .ok (.aload_n 0, 1) := dk_42 (dk_at dksX2_doesRead_2 6 rfl rfl)
theorem dX2_doesRead_52 : decode cX2_doesRead 52 = .ok (.getfield 54, 3) := dk_180 0 54 (dk_at dksX2_doesRead_2 7 rfl rfl)
theorem dX2_doesRead_55 : decode cX2_doesRead 55 = .ok (.iload 5, 2) := dk_21 5 (dk_at dksX2_doesRead_2 10 rfl rfl)
theorem dX2_doesRead_57 : decode cX2_doesRead 57 = .ok (.iaload, 1) := dk_46 (dk_at dksX2_doesRead_2 12 rfl rfl)
theorem dX2_doesRead_58 : decode cX2_doesRead 58 = .ok (.iload 7, 2) := dk_21 7 (dk_at dksX2_doesRead_2 13 rfl rfl)
theorem dX2_doesRead_60 : decode cX2_doesRead 60 = .ok (.invokevirtual 316, 3) := dk_182 1 60 (dk_at dksX2_doesRead_2 15 rfl rfl)
theorem dX2_doesRead_63 : decode cX2_doesRead 63 = .ok (.ior, 1) := dk_128 (dk_at dksX2_doesRead_2 18 rfl rfl)
theorem dX2_doesRead_64 : decode cX2_doesRead 64 = .ok (.istore 6, 2) := dk_54 6 (dk_at dksX2_doesRead_2 19 rfl rfl)
theorem dX2_doesRead_66 : decode cX2_doesRead 66 = .ok (.iinc 7 1, 3) := dk_132 7 1 (dk_at dksX2_doesRead_2 21 rfl rfl)
theorem dX2_doesRead_69 : decode cX2_doesRead 69 = .ok (.goto (-38), 3) := dk_167 255 218 (dk_at dksX2_doesRead_3 0 rfl rfl)
theorem dX2_doesRead_72 : decode cX2_doesRead 72 = .ok (.iload 6, 2) := dk_21 6 (dk_at dksX2_doesRead_3 3 rfl rfl)
theorem dX2_doesRead_74 : decode cX2_doesRead 74 = .ok (.istore 4, 2) := dk_54 4 (dk_at dksX2_doesRead_3 5 rfl rfl)
theorem dX2_doesRead_76 : decode cX2_doesRead 76 = .ok (.iinc 5 1, 3) := dk_132 5 1 (dk_at dksX2_doesRead_3 7 rfl rfl)
theorem dX2_doesRead_79 : decode cX2_doesRead 79 = .ok (.goto (-69), 3) := dk_167 255 187 (dk_at dksX2_doesRead_3 10 rfl rfl)
theorem dX2_doesRead_82 : decode cX2_doesRead 82 = .ok (.iload 4, 2) := dk_21 4 (dk_at dksX2_doesRead_3 13 rfl rfl)
theorem dX2_doesRead_84 : decode cX2_doesRead 84 = .ok (.iload_n 3, 1) := dk_29 (dk_at dksX2_doesRead_3 15 rfl rfl)
theorem dX2_doesRead_85 : decode cX2_doesRead 85 = .ok (.ishr, 1) := dk_122 (dk_at dksX2_doesRead_3 16 rfl rfl)
theorem dX2_doesRead_86 : decode cX2_doesRead 86 = .ok (.iconst 1, 1) := dk_4 (dk_at dksX2_doesRead_3 17 rfl rfl)
theorem dX2_doesRead_87 : decode cX2_doesRead 87 = .ok (.iand, 1) := dk_126 (dk_at dksX2_doesRead_3 18 rfl rfl)
theorem dX2_doesRead_88 : decode cX2_doesRead 88 = .ok (.iconst 1, 1) := dk_4 (dk_at dksX2_doesRead_3 19 rfl rfl)
theorem dX2_doesRead_89 : decode cX2_doesRead 89 = .ok (.if_icmp .ne 7, 3) := dk_160 0 7 (dk_at dksX2_doesRead_3 20 rfl rfl)
theorem dX2_doesRead_92 : decode cX2_doesRead 92 = .ok (.iconst 1, 1) := dk_4 (dk_at dksX2_doesRead_3 23 rfl rfl)
theorem dX2_doesRead_93 : decode cX2_doesRead 93 = .ok (.goto 4, 3) := dk_167 0 4 (dk_at dksX2_doesRead_4 0 rfl rfl)
theorem dX2_doesRead_96 : decode cX2_doesRead 96 = .ok (.iconst 0, 1) := dk_3 (dk_at dksX2_doesRead_4 3 rfl rfl)
theorem dX2_doesRead_97 : decode cX2_doesRead 97 = .ok (.ireturn, 1) := dk_172 (dk_at dksX2_doesRead_4 4 rfl rfl)
abbrev cX2_endsBy : ByteArray := prog_9_method_37_code
def yX2_endsBy : MethodName := ⟨RX2, "endsBy", "(II)I"⟩
def dkwX2_endsBy_2 : List UInt8 := [167, 0, 4, 3, 172]
abbrev dktX2_endsBy_2 : List UInt8 := dkwX2_endsBy_2 ++ []
def dkwX2_endsBy_1 : List UInt8 := [180, 0, 77, 28, 46, 2, 159, 0, 13, 42, 180, 0, 77, 28, 46, 27, 160, 0, 11, 4, 28, 4, 96, 120]
abbrev dktX2_endsBy_1 : List UInt8 := dkwX2_endsBy_1 ++ dktX2_endsBy_2
def dkwX2_endsBy_0 : List UInt8 := [27, 16, 8, 161, 0, 18, 42, 180, 0, 80, 16, 7, 27, 16, 8, 100, 104, 28, 96, 46, 172, 42]
abbrev dktX2_endsBy_0 : List UInt8 := dkwX2_endsBy_0 ++ dktX2_endsBy_1
theorem dksX2_endsBy_0 : cX2_endsBy.data.toList.drop 0 = dktX2_endsBy_0 := by decide +kernel
theorem dksX2_endsBy_1 : cX2_endsBy.data.toList.drop 22 = dktX2_endsBy_1 := dk_seg dksX2_endsBy_0 22 rfl rfl
theorem dksX2_endsBy_2 : cX2_endsBy.data.toList.drop 46 = dktX2_endsBy_2 := dk_seg dksX2_endsBy_1 24 rfl rfl
theorem dX2_endsBy_0 : decode cX2_endsBy 0 = .ok (.iload_n 1, 1) := dk_27 (dk_at dksX2_endsBy_0 0 rfl rfl)
theorem dX2_endsBy_1 : decode cX2_endsBy 1 = .ok (.bipush 8, 2) := dk_16 8 (dk_at dksX2_endsBy_0 1 rfl rfl)
theorem dX2_endsBy_3 : decode cX2_endsBy 3 = .ok (.if_icmp .lt 18, 3) := dk_161 0 18 (dk_at dksX2_endsBy_0 3 rfl rfl)
theorem dX2_endsBy_6 : decode cX2_endsBy 6 = .ok (.aload_n 0, 1) := dk_42 (dk_at dksX2_endsBy_0 6 rfl rfl)
theorem dX2_endsBy_7 : decode cX2_endsBy 7 = .ok (.getfield 80, 3) := dk_180 0 80 (dk_at dksX2_endsBy_0 7 rfl rfl)
theorem dX2_endsBy_10 : decode cX2_endsBy 10 = .ok (.bipush 7, 2) := dk_16 7 (dk_at dksX2_endsBy_0 10 rfl rfl)
theorem dX2_endsBy_12 : decode cX2_endsBy 12 = .ok (.iload_n 1, 1) := dk_27 (dk_at dksX2_endsBy_0 12 rfl rfl)
theorem dX2_endsBy_13 : decode cX2_endsBy 13 = .ok (.bipush 8, 2) := dk_16 8 (dk_at dksX2_endsBy_0 13 rfl rfl)
theorem dX2_endsBy_15 : decode cX2_endsBy 15 = .ok (.isub, 1) := dk_100 (dk_at dksX2_endsBy_0 15 rfl rfl)
theorem dX2_endsBy_16 : decode cX2_endsBy 16 = .ok (.imul, 1) := dk_104 (dk_at dksX2_endsBy_0 16 rfl rfl)
theorem dX2_endsBy_17 : decode cX2_endsBy 17 = .ok (.iload_n 2, 1) := dk_28 (dk_at dksX2_endsBy_0 17 rfl rfl)
theorem dX2_endsBy_18 : decode cX2_endsBy 18 = .ok (.iadd, 1) := dk_96 (dk_at dksX2_endsBy_0 18 rfl rfl)
theorem dX2_endsBy_19 : decode cX2_endsBy 19 = .ok (.iaload, 1) := dk_46 (dk_at dksX2_endsBy_0 19 rfl rfl)
theorem dX2_endsBy_20 : decode cX2_endsBy 20 = .ok (.ireturn, 1) := dk_172 (dk_at dksX2_endsBy_0 20 rfl rfl)
theorem dX2_endsBy_21 : decode cX2_endsBy 21 = .ok (.aload_n 0, 1) := dk_42 (dk_at dksX2_endsBy_0 21 rfl rfl)
theorem dX2_endsBy_22 : decode cX2_endsBy 22 = .ok (.getfield 77, 3) := dk_180 0 77 (dk_at dksX2_endsBy_1 0 rfl rfl)
theorem dX2_endsBy_25 : decode cX2_endsBy 25 = .ok (.iload_n 2, 1) := dk_28 (dk_at dksX2_endsBy_1 3 rfl rfl)
theorem dX2_endsBy_26 : decode cX2_endsBy 26 = .ok (.iaload, 1) := dk_46 (dk_at dksX2_endsBy_1 4 rfl rfl)
theorem dX2_endsBy_27 : decode cX2_endsBy 27 = .ok (.iconst (-1), 1) := dk_2 (dk_at dksX2_endsBy_1 5 rfl rfl)
theorem dX2_endsBy_28 : decode cX2_endsBy 28 = .ok (.if_icmp .eq 13, 3) := dk_159 0 13 (dk_at dksX2_endsBy_1 6 rfl rfl)
theorem dX2_endsBy_31 : decode cX2_endsBy 31 = .ok (.aload_n 0, 1) := dk_42 (dk_at dksX2_endsBy_1 9 rfl rfl)
theorem dX2_endsBy_32 : decode cX2_endsBy 32 = .ok (.getfield 77, 3) := dk_180 0 77 (dk_at dksX2_endsBy_1 10 rfl rfl)
theorem dX2_endsBy_35 : decode cX2_endsBy 35 = .ok (.iload_n 2, 1) := dk_28 (dk_at dksX2_endsBy_1 13 rfl rfl)
theorem dX2_endsBy_36 : decode cX2_endsBy 36 = .ok (.iaload, 1) := dk_46 (dk_at dksX2_endsBy_1 14 rfl rfl)
theorem dX2_endsBy_37 : decode cX2_endsBy 37 = .ok (.iload_n 1, 1) := dk_27 (dk_at dksX2_endsBy_1 15 rfl rfl)
theorem dX2_endsBy_38 : decode cX2_endsBy 38 = .ok (.if_icmp .ne 11, 3) := dk_160 0 11 (dk_at dksX2_endsBy_1 16 rfl rfl)
theorem dX2_endsBy_41 : decode cX2_endsBy 41 = .ok (.iconst 1, 1) := dk_4 (dk_at dksX2_endsBy_1 19 rfl rfl)
theorem dX2_endsBy_42 : decode cX2_endsBy 42 = .ok (.iload_n 2, 1) := dk_28 (dk_at dksX2_endsBy_1 20 rfl rfl)
theorem dX2_endsBy_43 : decode cX2_endsBy 43 = .ok (.iconst 1, 1) := dk_4 (dk_at dksX2_endsBy_1 21 rfl rfl)
theorem dX2_endsBy_44 : decode cX2_endsBy 44 = .ok (.iadd, 1) := dk_96 (dk_at dksX2_endsBy_1 22 rfl rfl)
theorem dX2_endsBy_45 : decode cX2_endsBy 45 = .ok (.ishl, 1) := dk_120 (dk_at dksX2_endsBy_1 23 rfl rfl)
theorem dX2_endsBy_46 : decode cX2_endsBy 46 = .ok (.goto 4, 3) := dk_167 0 4 (dk_at dksX2_endsBy_2 0 rfl rfl)
theorem dX2_endsBy_49 : decode cX2_endsBy 49 = .ok (.iconst 0, 1) := dk_3 (dk_at dksX2_endsBy_2 3 rfl rfl)
theorem dX2_endsBy_50 : decode cX2_endsBy 50 = .ok (.ireturn, 1) := dk_172 (dk_at dksX2_endsBy_2 4 rfl rfl)
abbrev cX2_readings : ByteArray := prog_9_method_52_code
def yX2_readings : MethodName := ⟨RX2, "readings", "()I"⟩
def dkwX2_readings_0 : List UInt8 := [42, 182, 1, 95, 42, 42, 180, 1, 80, 182, 1, 107, 136, 172]
abbrev dktX2_readings_0 : List UInt8 := dkwX2_readings_0 ++ []
theorem dksX2_readings_0 : cX2_readings.data.toList.drop 0 = dktX2_readings_0 := by decide +kernel
theorem dX2_readings_0 : decode cX2_readings 0 = .ok (.aload_n 0, 1) := dk_42 (dk_at dksX2_readings_0 0 rfl rfl)
theorem dX2_readings_1 : decode cX2_readings 1 = .ok (.invokevirtual 351, 3) := dk_182 1 95 (dk_at dksX2_readings_0 1 rfl rfl)
theorem dX2_readings_4 : decode cX2_readings 4 = .ok (.aload_n 0, 1) := dk_42 (dk_at dksX2_readings_0 4 rfl rfl)
theorem dX2_readings_5 : decode cX2_readings 5 = .ok (.aload_n 0, 1) := dk_42 (dk_at dksX2_readings_0 5 rfl rfl)
theorem dX2_readings_6 : decode cX2_readings 6 = .ok (.getfield 336, 3) := dk_180 1 80 (dk_at dksX2_readings_0 6 rfl rfl)
theorem dX2_readings_9 : decode cX2_readings 9 = .ok (.invokevirtual 363, 3) := dk_182 1 107 (dk_at dksX2_readings_0 9 rfl rfl)
theorem dX2_readings_12 : decode cX2_readings 12 = .ok (.l2i, 1) := dk_136 (dk_at dksX2_readings_0 12 rfl rfl)
theorem dX2_readings_13 : decode cX2_readings 13 = .ok (.ireturn, 1) := dk_172 (dk_at dksX2_readings_0 13 rfl rfl)
abbrev cX2_readingsOf : ByteArray := prog_9_method_41_code
def yX2_readingsOf : MethodName := ⟨RX2, "readingsOf", "(I)J"⟩
def dkwX2_readingsOf_6 : List UInt8 := [167, 255, 192, 132, 3, 1, 167, 255, 158, 132, 2, 1, 167, 255, 145, 42, 180, 0, 83, 27, 47, 173]
abbrev dktX2_readingsOf_6 : List UInt8 := dkwX2_readingsOf_6 ++ []
def dkwX2_readingsOf_5 : List UInt8 := [180, 0, 83, 21, 5, 47, 42, 21, 4, 29, 29, 28, 96, 182, 1, 70, 97, 184, 1, 74, 80, 132, 4, 255]
abbrev dktX2_readingsOf_5 : List UInt8 := dkwX2_readingsOf_5 ++ dktX2_readingsOf_6
def dkwX2_readingsOf_4 : List UInt8 := [21, 4, 46, 104, 16, 7, 29, 104, 96, 29, 96, 28, 96, 54, 5, 42, 180, 0, 83, 21, 5, 42]
abbrev dktX2_readingsOf_4 : List UInt8 := dkwX2_readingsOf_4 ++ dktX2_readingsOf_5
def dkwX2_readingsOf_3 : List UInt8 := [96, 4, 100, 54, 4, 21, 4, 16, 24, 42, 180, 0, 233, 104, 161, 0, 58, 16, 56, 42, 180, 0, 48]
abbrev dktX2_readingsOf_3 : List UInt8 := dkwX2_readingsOf_3 ++ dktX2_readingsOf_4
def dkwX2_readingsOf_2 : List UInt8 := [62, 29, 28, 96, 27, 163, 0, 97, 16, 24, 42, 180, 0, 233, 104, 42, 180, 0, 30, 42, 180, 0, 233, 46]
abbrev dktX2_readingsOf_2 : List UInt8 := dkwX2_readingsOf_2 ++ dktX2_readingsOf_3
def dkwX2_readingsOf_1 : List UInt8 := [162, 0, 16, 42, 180, 0, 83, 28, 9, 80, 132, 2, 1, 167, 255, 239, 4, 61, 28, 27, 163, 0, 112, 3]
abbrev dktX2_readingsOf_1 : List UInt8 := dkwX2_readingsOf_1 ++ dktX2_readingsOf_2
def dkwX2_readingsOf_0 : List UInt8 := [42, 180, 0, 27, 42, 180, 0, 233, 46, 153, 0, 7, 27, 154, 0, 5, 9, 173, 3, 61, 28, 17, 1, 192]
abbrev dktX2_readingsOf_0 : List UInt8 := dkwX2_readingsOf_0 ++ dktX2_readingsOf_1
theorem dksX2_readingsOf_0 : cX2_readingsOf.data.toList.drop 0 = dktX2_readingsOf_0 := by decide +kernel
theorem dksX2_readingsOf_1 : cX2_readingsOf.data.toList.drop 24 = dktX2_readingsOf_1 := dk_seg dksX2_readingsOf_0 24 rfl rfl
theorem dksX2_readingsOf_2 : cX2_readingsOf.data.toList.drop 48 = dktX2_readingsOf_2 := dk_seg dksX2_readingsOf_1 24 rfl rfl
theorem dksX2_readingsOf_3 : cX2_readingsOf.data.toList.drop 72 = dktX2_readingsOf_3 := dk_seg dksX2_readingsOf_2 24 rfl rfl
theorem dksX2_readingsOf_4 : cX2_readingsOf.data.toList.drop 95 = dktX2_readingsOf_4 := dk_seg dksX2_readingsOf_3 23 rfl rfl
theorem dksX2_readingsOf_5 : cX2_readingsOf.data.toList.drop 117 = dktX2_readingsOf_5 := dk_seg dksX2_readingsOf_4 22 rfl rfl
theorem dksX2_readingsOf_6 : cX2_readingsOf.data.toList.drop 141 = dktX2_readingsOf_6 := dk_seg dksX2_readingsOf_5 24 rfl rfl
theorem dX2_readingsOf_0 : decode cX2_readingsOf 0 = .ok (.aload_n 0, 1) := dk_42 (dk_at dksX2_readingsOf_0 0 rfl rfl)
theorem dX2_readingsOf_1 : decode cX2_readingsOf 1 = .ok (.getfield 27, 3) := dk_180 0 27 (dk_at dksX2_readingsOf_0 1 rfl rfl)
theorem dX2_readingsOf_4 : decode cX2_readingsOf 4 = .ok (.aload_n 0, 1) := dk_42 (dk_at dksX2_readingsOf_0 4 rfl rfl)
theorem dX2_readingsOf_5 : decode cX2_readingsOf 5 = .ok (.getfield 233, 3) := dk_180 0 233 (dk_at dksX2_readingsOf_0 5 rfl rfl)
theorem dX2_readingsOf_8 : decode cX2_readingsOf 8 = .ok (.iaload, 1) := dk_46 (dk_at dksX2_readingsOf_0 8 rfl rfl)
theorem dX2_readingsOf_9 : decode cX2_readingsOf 9 = .ok (.ifCond .eq 7, 3) := dk_153 0 7 (dk_at dksX2_readingsOf_0 9 rfl rfl)
theorem dX2_readingsOf_12 : decode cX2_readingsOf 12 = .ok (.iload_n 1, 1) := dk_27 (dk_at dksX2_readingsOf_0 12 rfl rfl)
theorem dX2_readingsOf_13 : decode cX2_readingsOf 13 = .ok (.ifCond .ne 5, 3) := dk_154 0 5 (dk_at dksX2_readingsOf_0 13 rfl rfl)
theorem dX2_readingsOf_16 : decode cX2_readingsOf 16 = .ok (.lconst 0, 1) := dk_9 (dk_at dksX2_readingsOf_0 16 rfl rfl)
theorem dX2_readingsOf_17 : decode cX2_readingsOf 17 = .ok (.lreturn, 1) := dk_173 (dk_at dksX2_readingsOf_0 17 rfl rfl)
theorem dX2_readingsOf_18 : decode cX2_readingsOf 18 = .ok (.iconst 0, 1) := dk_3 (dk_at dksX2_readingsOf_0 18 rfl rfl)
theorem dX2_readingsOf_19 : decode cX2_readingsOf 19 = .ok (.istore_n 2, 1) := dk_61 (dk_at dksX2_readingsOf_0 19 rfl rfl)
theorem dX2_readingsOf_20 : decode cX2_readingsOf 20 = .ok (.iload_n 2, 1) := dk_28 (dk_at dksX2_readingsOf_0 20 rfl rfl)
theorem dX2_readingsOf_21 : decode cX2_readingsOf 21 = .ok (.sipush 448, 3) := dk_17 1 192 (dk_at dksX2_readingsOf_0 21 rfl rfl)
theorem dX2_readingsOf_24 : decode cX2_readingsOf 24 = .ok (.if_icmp .ge 16, 3) := dk_162 0 16 (dk_at dksX2_readingsOf_1 0 rfl rfl)
theorem dX2_readingsOf_27 : decode cX2_readingsOf 27 = .ok (.aload_n 0, 1) := dk_42 (dk_at dksX2_readingsOf_1 3 rfl rfl)
theorem dX2_readingsOf_28 : decode cX2_readingsOf 28 = .ok (.getfield 83, 3) := dk_180 0 83 (dk_at dksX2_readingsOf_1 4 rfl rfl)
theorem dX2_readingsOf_31 : decode cX2_readingsOf 31 = .ok (.iload_n 2, 1) := dk_28 (dk_at dksX2_readingsOf_1 7 rfl rfl)
theorem dX2_readingsOf_32 : decode cX2_readingsOf 32 = .ok (.lconst 0, 1) := dk_9 (dk_at dksX2_readingsOf_1 8 rfl rfl)
theorem dX2_readingsOf_33 : decode cX2_readingsOf 33 = .ok (.lastore, 1) := dk_80 (dk_at dksX2_readingsOf_1 9 rfl rfl)
theorem dX2_readingsOf_34 : decode cX2_readingsOf 34 = .ok (.iinc 2 1, 3) := dk_132 2 1 (dk_at dksX2_readingsOf_1 10 rfl rfl)
theorem dX2_readingsOf_37 : decode cX2_readingsOf 37 = .ok (.goto (-17), 3) := dk_167 255 239 (dk_at dksX2_readingsOf_1 13 rfl rfl)
theorem dX2_readingsOf_40 : decode cX2_readingsOf 40 = .ok (.iconst 1, 1) := dk_4 (dk_at dksX2_readingsOf_1 16 rfl rfl)
theorem dX2_readingsOf_41 : decode cX2_readingsOf 41 = .ok (.istore_n 2, 1) := dk_61 (dk_at dksX2_readingsOf_1 17 rfl rfl)
theorem dX2_readingsOf_42 : decode cX2_readingsOf 42 = .ok (.iload_n 2, 1) := dk_28 (dk_at dksX2_readingsOf_1 18 rfl rfl)
theorem dX2_readingsOf_43 : decode cX2_readingsOf 43 = .ok (.iload_n 1, 1) := dk_27 (dk_at dksX2_readingsOf_1 19 rfl rfl)
theorem dX2_readingsOf_44 : decode cX2_readingsOf 44 = .ok (.if_icmp .gt 112, 3) := dk_163 0 112 (dk_at dksX2_readingsOf_1 20 rfl rfl)
theorem dX2_readingsOf_47 : decode cX2_readingsOf 47 = .ok (.iconst 0, 1) := dk_3 (dk_at dksX2_readingsOf_1 23 rfl rfl)
theorem dX2_readingsOf_48 : decode cX2_readingsOf 48 = .ok (.istore_n 3, 1) := dk_62 (dk_at dksX2_readingsOf_2 0 rfl rfl)
theorem dX2_readingsOf_49 : decode cX2_readingsOf 49 = .ok (.iload_n 3, 1) := dk_29 (dk_at dksX2_readingsOf_2 1 rfl rfl)
theorem dX2_readingsOf_50 : decode cX2_readingsOf 50 = .ok (.iload_n 2, 1) := dk_28 (dk_at dksX2_readingsOf_2 2 rfl rfl)
theorem dX2_readingsOf_51 : decode cX2_readingsOf 51 = .ok (.iadd, 1) := dk_96 (dk_at dksX2_readingsOf_2 3 rfl rfl)
theorem dX2_readingsOf_52 : decode cX2_readingsOf 52 = .ok (.iload_n 1, 1) := dk_27 (dk_at dksX2_readingsOf_2 4 rfl rfl)
theorem dX2_readingsOf_53 : decode cX2_readingsOf 53 = .ok (.if_icmp .gt 97, 3) := dk_163 0 97 (dk_at dksX2_readingsOf_2 5 rfl rfl)
theorem dX2_readingsOf_56 : decode cX2_readingsOf 56 = .ok (.bipush 24, 2) := dk_16 24 (dk_at dksX2_readingsOf_2 8 rfl rfl)
theorem dX2_readingsOf_58 : decode cX2_readingsOf 58 = .ok (.aload_n 0, 1) := dk_42 (dk_at dksX2_readingsOf_2 10 rfl rfl)
theorem dX2_readingsOf_59 : decode cX2_readingsOf 59 = .ok (.getfield 233, 3) := dk_180 0 233 (dk_at dksX2_readingsOf_2 11 rfl rfl)
theorem dX2_readingsOf_62 : decode cX2_readingsOf 62 = .ok (.imul, 1) := dk_104 (dk_at dksX2_readingsOf_2 14 rfl rfl)
theorem dX2_readingsOf_63 : decode cX2_readingsOf 63 = .ok (.aload_n 0, 1) := dk_42 (dk_at dksX2_readingsOf_2 15 rfl rfl)
theorem dX2_readingsOf_64 : decode cX2_readingsOf 64 = .ok (.getfield 30, 3) := dk_180 0 30 (dk_at dksX2_readingsOf_2 16 rfl rfl)
theorem dX2_readingsOf_67 : decode cX2_readingsOf 67 = .ok (.aload_n 0, 1) := dk_42 (dk_at dksX2_readingsOf_2 19 rfl rfl)
theorem dX2_readingsOf_68 : decode cX2_readingsOf 68 = .ok (.getfield 233, 3) := dk_180 0 233 (dk_at dksX2_readingsOf_2 20 rfl rfl)
theorem dX2_readingsOf_71 : decode cX2_readingsOf 71 = .ok (.iaload, 1) := dk_46 (dk_at dksX2_readingsOf_2 23 rfl rfl)
theorem dX2_readingsOf_72 : decode cX2_readingsOf 72 = .ok (.iadd, 1) := dk_96 (dk_at dksX2_readingsOf_3 0 rfl rfl)
theorem dX2_readingsOf_73 : decode cX2_readingsOf 73 = .ok (.iconst 1, 1) := dk_4 (dk_at dksX2_readingsOf_3 1 rfl rfl)
theorem dX2_readingsOf_74 : decode cX2_readingsOf 74 = .ok (.isub, 1) := dk_100 (dk_at dksX2_readingsOf_3 2 rfl rfl)
theorem dX2_readingsOf_75 : decode cX2_readingsOf 75 = .ok (.istore 4, 2) := dk_54 4 (dk_at dksX2_readingsOf_3 3 rfl rfl)
theorem dX2_readingsOf_77 : decode cX2_readingsOf 77 = .ok (.iload 4, 2) := dk_21 4 (dk_at dksX2_readingsOf_3 5 rfl rfl)
theorem dX2_readingsOf_79 : decode cX2_readingsOf 79 = .ok (.bipush 24, 2) := dk_16 24 (dk_at dksX2_readingsOf_3 7 rfl rfl)
theorem dX2_readingsOf_81 : decode cX2_readingsOf 81 = .ok (.aload_n 0, 1) := dk_42 (dk_at dksX2_readingsOf_3 9 rfl rfl)
theorem dX2_readingsOf_82 : decode cX2_readingsOf 82 = .ok (.getfield 233, 3) := dk_180 0 233 (dk_at dksX2_readingsOf_3 10 rfl rfl)
theorem dX2_readingsOf_85 : decode cX2_readingsOf 85 = .ok (.imul, 1) := dk_104 (dk_at dksX2_readingsOf_3 13 rfl rfl)
theorem dX2_readingsOf_86 : decode cX2_readingsOf 86 = .ok (.if_icmp .lt 58, 3) := dk_161 0 58 (dk_at dksX2_readingsOf_3 14 rfl rfl)
theorem dX2_readingsOf_89 : decode cX2_readingsOf 89 = .ok (.bipush 56, 2) := dk_16 56 (dk_at dksX2_readingsOf_3 17 rfl rfl)
theorem dX2_readingsOf_91 : decode cX2_readingsOf 91 = .ok (.aload_n 0, 1) := dk_42 (dk_at dksX2_readingsOf_3 19 rfl rfl)
theorem dX2_readingsOf_92 : decode cX2_readingsOf 92 = .ok (.getfield 48, 3) := dk_180 0 48 (dk_at dksX2_readingsOf_3 20 rfl rfl)
theorem dX2_readingsOf_95 : decode cX2_readingsOf 95 = .ok (.iload 4, 2) := dk_21 4 (dk_at dksX2_readingsOf_4 0 rfl rfl)
theorem dX2_readingsOf_97 : decode cX2_readingsOf 97 = .ok (.iaload, 1) := dk_46 (dk_at dksX2_readingsOf_4 2 rfl rfl)
theorem dX2_readingsOf_98 : decode cX2_readingsOf 98 = .ok (.imul, 1) := dk_104 (dk_at dksX2_readingsOf_4 3 rfl rfl)
theorem dX2_readingsOf_99 : decode cX2_readingsOf 99 = .ok (.bipush 7, 2) := dk_16 7 (dk_at dksX2_readingsOf_4 4 rfl rfl)
theorem dX2_readingsOf_101 : decode cX2_readingsOf 101 = .ok (.iload_n 3, 1) := dk_29 (dk_at dksX2_readingsOf_4 6 rfl rfl)
theorem dX2_readingsOf_102 : decode cX2_readingsOf 102 = .ok (.imul, 1) := dk_104 (dk_at dksX2_readingsOf_4 7 rfl rfl)
theorem dX2_readingsOf_103 : decode cX2_readingsOf 103 = .ok (.iadd, 1) := dk_96 (dk_at dksX2_readingsOf_4 8 rfl rfl)
theorem dX2_readingsOf_104 : decode cX2_readingsOf 104 = .ok (.iload_n 3, 1) := dk_29 (dk_at dksX2_readingsOf_4 9 rfl rfl)
theorem dX2_readingsOf_105 : decode cX2_readingsOf 105 = .ok (.iadd, 1) := dk_96 (dk_at dksX2_readingsOf_4 10 rfl rfl)
theorem dX2_readingsOf_106 : decode cX2_readingsOf 106 = .ok (.iload_n 2, 1) := dk_28 (dk_at dksX2_readingsOf_4 11 rfl rfl)
theorem dX2_readingsOf_107 : decode cX2_readingsOf 107 = .ok (.iadd, 1) := dk_96 (dk_at dksX2_readingsOf_4 12 rfl rfl)
theorem dX2_readingsOf_108 : decode cX2_readingsOf 108 = .ok (.istore 5, 2) := dk_54 5 (dk_at dksX2_readingsOf_4 13 rfl rfl)
theorem dX2_readingsOf_110 : decode cX2_readingsOf 110 = .ok (.aload_n 0, 1) := dk_42 (dk_at dksX2_readingsOf_4 15 rfl rfl)
theorem dX2_readingsOf_111 : decode cX2_readingsOf 111 = .ok (.getfield 83, 3) := dk_180 0 83 (dk_at dksX2_readingsOf_4 16 rfl rfl)
theorem dX2_readingsOf_114 : decode cX2_readingsOf 114 = .ok (.iload 5, 2) := dk_21 5 (dk_at dksX2_readingsOf_4 19 rfl rfl)
theorem dX2_readingsOf_116 : decode cX2_readingsOf 116 = .ok (.aload_n 0, 1) := dk_42 (dk_at dksX2_readingsOf_4 21 rfl rfl)
theorem dX2_readingsOf_117 : decode cX2_readingsOf 117 = .ok (.getfield 83, 3) := dk_180 0 83 (dk_at dksX2_readingsOf_5 0 rfl rfl)
theorem dX2_readingsOf_120 : decode cX2_readingsOf 120 = .ok (.iload 5, 2) := dk_21 5 (dk_at dksX2_readingsOf_5 3 rfl rfl)
theorem dX2_readingsOf_122 : decode cX2_readingsOf 122 = .ok (.laload, 1) := dk_47 (dk_at dksX2_readingsOf_5 5 rfl rfl)
theorem dX2_readingsOf_123 : decode cX2_readingsOf 123 = .ok (.aload_n 0, 1) := dk_42 (dk_at dksX2_readingsOf_5 6 rfl rfl)
theorem dX2_readingsOf_124 : decode cX2_readingsOf 124 = .ok (.iload 4, 2) := dk_21 4 (dk_at dksX2_readingsOf_5 7 rfl rfl)
theorem dX2_readingsOf_126 : decode cX2_readingsOf 126 = .ok (.iload_n 3, 1) := dk_29 (dk_at dksX2_readingsOf_5 9 rfl rfl)
theorem dX2_readingsOf_127 : decode cX2_readingsOf 127 = .ok (.iload_n 3, 1) := dk_29 (dk_at dksX2_readingsOf_5 10 rfl rfl)
theorem dX2_readingsOf_128 : decode cX2_readingsOf 128 = .ok (.iload_n 2, 1) := dk_28 (dk_at dksX2_readingsOf_5 11 rfl rfl)
theorem dX2_readingsOf_129 : decode cX2_readingsOf 129 = .ok (.iadd, 1) := dk_96 (dk_at dksX2_readingsOf_5 12 rfl rfl)
theorem dX2_readingsOf_130 : decode cX2_readingsOf 130 = .ok (.invokevirtual 326, 3) := dk_182 1 70 (dk_at dksX2_readingsOf_5 13 rfl rfl)
theorem dX2_readingsOf_133 : decode cX2_readingsOf 133 = .ok (.ladd, 1) := dk_97 (dk_at dksX2_readingsOf_5 16 rfl rfl)
theorem dX2_readingsOf_134 : decode cX2_readingsOf 134 = .ok (.invokestatic 330, 3) := dk_184 1 74 (dk_at dksX2_readingsOf_5 17 rfl rfl)
theorem dX2_readingsOf_137 : decode cX2_readingsOf 137 = .ok (.lastore, 1) := dk_80 (dk_at dksX2_readingsOf_5 20 rfl rfl)
theorem dX2_readingsOf_138 : decode cX2_readingsOf 138 = .ok (.iinc 4 (-1), 3) := dk_132 4 255 (dk_at dksX2_readingsOf_5 21 rfl rfl)
theorem dX2_readingsOf_141 : decode cX2_readingsOf 141 = .ok (.goto (-64), 3) := dk_167 255 192 (dk_at dksX2_readingsOf_6 0 rfl rfl)
theorem dX2_readingsOf_144 : decode cX2_readingsOf 144 = .ok (.iinc 3 1, 3) := dk_132 3 1 (dk_at dksX2_readingsOf_6 3 rfl rfl)
theorem dX2_readingsOf_147 : decode cX2_readingsOf 147 = .ok (.goto (-98), 3) := dk_167 255 158 (dk_at dksX2_readingsOf_6 6 rfl rfl)
theorem dX2_readingsOf_150 : decode cX2_readingsOf 150 = .ok (.iinc 2 1, 3) := dk_132 2 1 (dk_at dksX2_readingsOf_6 9 rfl rfl)
theorem dX2_readingsOf_153 : decode cX2_readingsOf 153 = .ok (.goto (-111), 3) := dk_167 255 145 (dk_at dksX2_readingsOf_6 12 rfl rfl)
theorem dX2_readingsOf_156 : decode cX2_readingsOf 156 = .ok (.aload_n 0, 1) := dk_42 (dk_at dksX2_readingsOf_6 15 rfl rfl)
theorem dX2_readingsOf_157 : decode cX2_readingsOf 157 = .ok (.getfield 83, 3) := dk_180 0 83 (dk_at dksX2_readingsOf_6 16 rfl rfl)
theorem dX2_readingsOf_160 : decode cX2_readingsOf 160 = .ok (.iload_n 1, 1) := dk_27 (dk_at dksX2_readingsOf_6 19 rfl rfl)
theorem dX2_readingsOf_161 : decode cX2_readingsOf 161 = .ok (.laload, 1) := dk_47 (dk_at dksX2_readingsOf_6 20 rfl rfl)
theorem dX2_readingsOf_162 : decode cX2_readingsOf 162 = .ok (.lreturn, 1) := dk_173 (dk_at dksX2_readingsOf_6 21 rfl rfl)
abbrev cX2_waysBy : ByteArray := prog_9_method_43_code
def yX2_waysBy : MethodName := ⟨RX2, "waysBy", "(III)J"⟩
def dkwX2_waysBy_12 : List UInt8 := [47, 173]
abbrev dktX2_waysBy_12 : List UInt8 := dkwX2_waysBy_12 ++ []
def dkwX2_waysBy_11 : List UInt8 := [180, 0, 89, 21, 5, 47, 80, 132, 5, 1, 167, 255, 232, 132, 4, 1, 167, 255, 22, 42, 180, 0, 86, 29]
abbrev dktX2_waysBy_11 : List UInt8 := dkwX2_waysBy_11 ++ dktX2_waysBy_12
def dkwX2_waysBy_10 : List UInt8 := [132, 5, 1, 167, 255, 100, 3, 54, 5, 21, 5, 16, 7, 162, 0, 23, 42, 180, 0, 86, 21, 5, 42]
abbrev dktX2_waysBy_10 : List UInt8 := dkwX2_waysBy_10 ++ dktX2_waysBy_11
def dkwX2_waysBy_9 : List UInt8 := [104, 16, 7, 21, 5, 104, 96, 21, 6, 96, 47, 105, 97, 184, 1, 74, 80, 132, 6, 1, 167, 255, 194]
abbrev dktX2_waysBy_9 : List UInt8 := dkwX2_waysBy_9 ++ dktX2_waysBy_10
def dkwX2_waysBy_8 : List UInt8 := [47, 42, 180, 0, 86, 21, 5, 47, 42, 180, 0, 83, 16, 56, 42, 180, 0, 54, 21, 4, 46, 16, 8, 100]
abbrev dktX2_waysBy_8 : List UInt8 := dkwX2_waysBy_8 ++ dktX2_waysBy_9
def dkwX2_waysBy_7 : List UInt8 := [21, 5, 4, 96, 54, 6, 21, 6, 29, 163, 0, 62, 42, 180, 0, 89, 21, 6, 42, 180, 0, 89, 21, 6]
abbrev dktX2_waysBy_7 : List UInt8 := dkwX2_waysBy_7 ++ dktX2_waysBy_8
def dkwX2_waysBy_6 : List UInt8 := [42, 180, 0, 89, 21, 5, 4, 96, 47, 42, 180, 0, 86, 21, 5, 47, 97, 184, 1, 74, 80, 167, 0, 74]
abbrev dktX2_waysBy_6 : List UInt8 := dkwX2_waysBy_6 ++ dktX2_waysBy_7
def dkwX2_waysBy_5 : List UInt8 := [180, 0, 77, 21, 5, 46, 42, 180, 0, 54, 21, 4, 46, 160, 0, 106, 42, 180, 0, 89, 21, 5, 4, 96]
abbrev dktX2_waysBy_5 : List UInt8 := dkwX2_waysBy_5 ++ dktX2_waysBy_6
def dkwX2_waysBy_4 : List UInt8 := [21, 5, 47, 9, 148, 154, 0, 6, 167, 0, 135, 42, 180, 0, 54, 21, 4, 46, 16, 8, 162, 0, 52, 42]
abbrev dktX2_waysBy_4 : List UInt8 := dkwX2_waysBy_4 ++ dktX2_waysBy_5
def dkwX2_waysBy_3 : List UInt8 := [21, 5, 9, 80, 132, 5, 1, 167, 255, 238, 28, 54, 5, 21, 5, 29, 162, 0, 156, 42, 180, 0, 86]
abbrev dktX2_waysBy_3 : List UInt8 := dkwX2_waysBy_3 ++ dktX2_waysBy_4
def dkwX2_waysBy_2 : List UInt8 := [180, 0, 51, 27, 46, 96, 162, 0, 225, 3, 54, 5, 21, 5, 16, 7, 162, 0, 17, 42, 180, 0, 89]
abbrev dktX2_waysBy_2 : List UInt8 := dkwX2_waysBy_2 ++ dktX2_waysBy_3
def dkwX2_waysBy_1 : List UInt8 := [167, 0, 4, 9, 80, 132, 4, 1, 167, 255, 228, 7, 27, 104, 54, 4, 21, 4, 7, 27, 104, 42]
abbrev dktX2_waysBy_1 : List UInt8 := dkwX2_waysBy_1 ++ dktX2_waysBy_2
def dkwX2_waysBy_0 : List UInt8 := [3, 54, 4, 21, 4, 16, 7, 162, 0, 27, 42, 180, 0, 86, 21, 4, 21, 4, 28, 160, 0, 7, 10]
abbrev dktX2_waysBy_0 : List UInt8 := dkwX2_waysBy_0 ++ dktX2_waysBy_1
theorem dksX2_waysBy_0 : cX2_waysBy.data.toList.drop 0 = dktX2_waysBy_0 := by decide +kernel
theorem dksX2_waysBy_1 : cX2_waysBy.data.toList.drop 23 = dktX2_waysBy_1 := dk_seg dksX2_waysBy_0 23 rfl rfl
theorem dksX2_waysBy_2 : cX2_waysBy.data.toList.drop 45 = dktX2_waysBy_2 := dk_seg dksX2_waysBy_1 22 rfl rfl
theorem dksX2_waysBy_3 : cX2_waysBy.data.toList.drop 68 = dktX2_waysBy_3 := dk_seg dksX2_waysBy_2 23 rfl rfl
theorem dksX2_waysBy_4 : cX2_waysBy.data.toList.drop 91 = dktX2_waysBy_4 := dk_seg dksX2_waysBy_3 23 rfl rfl
theorem dksX2_waysBy_5 : cX2_waysBy.data.toList.drop 115 = dktX2_waysBy_5 := dk_seg dksX2_waysBy_4 24 rfl rfl
theorem dksX2_waysBy_6 : cX2_waysBy.data.toList.drop 139 = dktX2_waysBy_6 := dk_seg dksX2_waysBy_5 24 rfl rfl
theorem dksX2_waysBy_7 : cX2_waysBy.data.toList.drop 163 = dktX2_waysBy_7 := dk_seg dksX2_waysBy_6 24 rfl rfl
theorem dksX2_waysBy_8 : cX2_waysBy.data.toList.drop 187 = dktX2_waysBy_8 := dk_seg dksX2_waysBy_7 24 rfl rfl
theorem dksX2_waysBy_9 : cX2_waysBy.data.toList.drop 211 = dktX2_waysBy_9 := dk_seg dksX2_waysBy_8 24 rfl rfl
theorem dksX2_waysBy_10 : cX2_waysBy.data.toList.drop 234 = dktX2_waysBy_10 := dk_seg dksX2_waysBy_9 23 rfl rfl
theorem dksX2_waysBy_11 : cX2_waysBy.data.toList.drop 257 = dktX2_waysBy_11 := dk_seg dksX2_waysBy_10 23 rfl rfl
theorem dksX2_waysBy_12 : cX2_waysBy.data.toList.drop 281 = dktX2_waysBy_12 := dk_seg dksX2_waysBy_11 24 rfl rfl
theorem dX2_waysBy_0 : decode cX2_waysBy 0 = .ok (.iconst 0, 1) := dk_3 (dk_at dksX2_waysBy_0 0 rfl rfl)
theorem dX2_waysBy_1 : decode cX2_waysBy 1 = .ok (.istore 4, 2) := dk_54 4 (dk_at dksX2_waysBy_0 1 rfl rfl)
theorem dX2_waysBy_3 : decode cX2_waysBy 3 = .ok (.iload 4, 2) := dk_21 4 (dk_at dksX2_waysBy_0 3 rfl rfl)
theorem dX2_waysBy_5 : decode cX2_waysBy 5 = .ok (.bipush 7, 2) := dk_16 7 (dk_at dksX2_waysBy_0 5 rfl rfl)
theorem dX2_waysBy_7 : decode cX2_waysBy 7 = .ok (.if_icmp .ge 27, 3) := dk_162 0 27 (dk_at dksX2_waysBy_0 7 rfl rfl)
theorem dX2_waysBy_10 : decode cX2_waysBy 10 = .ok (.aload_n 0, 1) := dk_42 (dk_at dksX2_waysBy_0 10 rfl rfl)
theorem dX2_waysBy_11 : decode cX2_waysBy 11 = .ok (.getfield 86, 3) := dk_180 0 86 (dk_at dksX2_waysBy_0 11 rfl rfl)
theorem dX2_waysBy_14 : decode cX2_waysBy 14 = .ok (.iload 4, 2) := dk_21 4 (dk_at dksX2_waysBy_0 14 rfl rfl)
theorem dX2_waysBy_16 : decode cX2_waysBy 16 = .ok (.iload 4, 2) := dk_21 4 (dk_at dksX2_waysBy_0 16 rfl rfl)
theorem dX2_waysBy_18 : decode cX2_waysBy 18 = .ok (.iload_n 2, 1) := dk_28 (dk_at dksX2_waysBy_0 18 rfl rfl)
theorem dX2_waysBy_19 : decode cX2_waysBy 19 = .ok (.if_icmp .ne 7, 3) := dk_160 0 7 (dk_at dksX2_waysBy_0 19 rfl rfl)
theorem dX2_waysBy_22 : decode cX2_waysBy 22 = .ok (.lconst 1, 1) := dk_10 (dk_at dksX2_waysBy_0 22 rfl rfl)
theorem dX2_waysBy_23 : decode cX2_waysBy 23 = .ok (.goto 4, 3) := dk_167 0 4 (dk_at dksX2_waysBy_1 0 rfl rfl)
theorem dX2_waysBy_26 : decode cX2_waysBy 26 = .ok (.lconst 0, 1) := dk_9 (dk_at dksX2_waysBy_1 3 rfl rfl)
theorem dX2_waysBy_27 : decode cX2_waysBy 27 = .ok (.lastore, 1) := dk_80 (dk_at dksX2_waysBy_1 4 rfl rfl)
theorem dX2_waysBy_28 : decode cX2_waysBy 28 = .ok (.iinc 4 1, 3) := dk_132 4 1 (dk_at dksX2_waysBy_1 5 rfl rfl)
theorem dX2_waysBy_31 : decode cX2_waysBy 31 = .ok (.goto (-28), 3) := dk_167 255 228 (dk_at dksX2_waysBy_1 8 rfl rfl)
theorem dX2_waysBy_34 : decode cX2_waysBy 34 = .ok (.iconst 4, 1) := dk_7 (dk_at dksX2_waysBy_1 11 rfl rfl)
theorem dX2_waysBy_35 : decode cX2_waysBy 35 = .ok (.iload_n 1, 1) := dk_27 (dk_at dksX2_waysBy_1 12 rfl rfl)
theorem dX2_waysBy_36 : decode cX2_waysBy 36 = .ok (.imul, 1) := dk_104 (dk_at dksX2_waysBy_1 13 rfl rfl)
theorem dX2_waysBy_37 : decode cX2_waysBy 37 = .ok (.istore 4, 2) := dk_54 4 (dk_at dksX2_waysBy_1 14 rfl rfl)
theorem dX2_waysBy_39 : decode cX2_waysBy 39 = .ok (.iload 4, 2) := dk_21 4 (dk_at dksX2_waysBy_1 16 rfl rfl)
theorem dX2_waysBy_41 : decode cX2_waysBy 41 = .ok (.iconst 4, 1) := dk_7 (dk_at dksX2_waysBy_1 18 rfl rfl)
theorem dX2_waysBy_42 : decode cX2_waysBy 42 = .ok (.iload_n 1, 1) := dk_27 (dk_at dksX2_waysBy_1 19 rfl rfl)
theorem dX2_waysBy_43 : decode cX2_waysBy 43 = .ok (.imul, 1) := dk_104 (dk_at dksX2_waysBy_1 20 rfl rfl)
theorem dX2_waysBy_44 : decode cX2_waysBy 44 = .ok (.aload_n 0, 1) := dk_42 (dk_at dksX2_waysBy_1 21 rfl rfl)
theorem dX2_waysBy_45 : decode cX2_waysBy 45 = .ok (.getfield 51, 3) := dk_180 0 51 (dk_at dksX2_waysBy_2 0 rfl rfl)
theorem dX2_waysBy_48 : decode cX2_waysBy 48 = .ok (.iload_n 1, 1) := dk_27 (dk_at dksX2_waysBy_2 3 rfl rfl)
theorem dX2_waysBy_49 : decode cX2_waysBy 49 = .ok (.iaload, 1) := dk_46 (dk_at dksX2_waysBy_2 4 rfl rfl)
theorem dX2_waysBy_50 : decode cX2_waysBy 50 = .ok (.iadd, 1) := dk_96 (dk_at dksX2_waysBy_2 5 rfl rfl)
theorem dX2_waysBy_51 : decode cX2_waysBy 51 = .ok (.if_icmp .ge 225, 3) := dk_162 0 225 (dk_at dksX2_waysBy_2 6 rfl rfl)
theorem dX2_waysBy_54 : decode cX2_waysBy 54 = .ok (.iconst 0, 1) := dk_3 (dk_at dksX2_waysBy_2 9 rfl rfl)
theorem dX2_waysBy_55 : decode cX2_waysBy 55 = .ok (.istore 5, 2) := dk_54 5 (dk_at dksX2_waysBy_2 10 rfl rfl)
theorem dX2_waysBy_57 : decode cX2_waysBy 57 = .ok (.iload 5, 2) := dk_21 5 (dk_at dksX2_waysBy_2 12 rfl rfl)
theorem dX2_waysBy_59 : decode cX2_waysBy 59 = .ok (.bipush 7, 2) := dk_16 7 (dk_at dksX2_waysBy_2 14 rfl rfl)
theorem dX2_waysBy_61 : decode cX2_waysBy 61 = .ok (.if_icmp .ge 17, 3) := dk_162 0 17 (dk_at dksX2_waysBy_2 16 rfl rfl)
theorem dX2_waysBy_64 : decode cX2_waysBy 64 = .ok (.aload_n 0, 1) := dk_42 (dk_at dksX2_waysBy_2 19 rfl rfl)
theorem dX2_waysBy_65 : decode cX2_waysBy 65 = .ok (.getfield 89, 3) := dk_180 0 89 (dk_at dksX2_waysBy_2 20 rfl rfl)
theorem dX2_waysBy_68 : decode cX2_waysBy 68 = .ok (.iload 5, 2) := dk_21 5 (dk_at dksX2_waysBy_3 0 rfl rfl)
theorem dX2_waysBy_70 : decode cX2_waysBy 70 = .ok (.lconst 0, 1) := dk_9 (dk_at dksX2_waysBy_3 2 rfl rfl)
theorem dX2_waysBy_71 : decode cX2_waysBy 71 = .ok (.lastore, 1) := dk_80 (dk_at dksX2_waysBy_3 3 rfl rfl)
theorem dX2_waysBy_72 : decode cX2_waysBy 72 = .ok (.iinc 5 1, 3) := dk_132 5 1 (dk_at dksX2_waysBy_3 4 rfl rfl)
theorem dX2_waysBy_75 : decode cX2_waysBy 75 = .ok (.goto (-18), 3) := dk_167 255 238 (dk_at dksX2_waysBy_3 7 rfl rfl)
theorem dX2_waysBy_78 : decode cX2_waysBy 78 = .ok (.iload_n 2, 1) := dk_28 (dk_at dksX2_waysBy_3 10 rfl rfl)
theorem dX2_waysBy_79 : decode cX2_waysBy 79 = .ok (.istore 5, 2) := dk_54 5 (dk_at dksX2_waysBy_3 11 rfl rfl)
theorem dX2_waysBy_81 : decode cX2_waysBy 81 = .ok (.iload 5, 2) := dk_21 5 (dk_at dksX2_waysBy_3 13 rfl rfl)
theorem dX2_waysBy_83 : decode cX2_waysBy 83 = .ok (.iload_n 3, 1) := dk_29 (dk_at dksX2_waysBy_3 15 rfl rfl)
theorem dX2_waysBy_84 : decode cX2_waysBy 84 = .ok (.if_icmp .ge 156, 3) := dk_162 0 156 (dk_at dksX2_waysBy_3 16 rfl rfl)
theorem dX2_waysBy_87 : decode cX2_waysBy 87 = .ok (.aload_n 0, 1) := dk_42 (dk_at dksX2_waysBy_3 19 rfl rfl)
theorem dX2_waysBy_88 : decode cX2_waysBy 88 = .ok (.getfield 86, 3) := dk_180 0 86 (dk_at dksX2_waysBy_3 20 rfl rfl)
theorem dX2_waysBy_91 : decode cX2_waysBy 91 = .ok (.iload 5, 2) := dk_21 5 (dk_at dksX2_waysBy_4 0 rfl rfl)
theorem dX2_waysBy_93 : decode cX2_waysBy 93 = .ok (.laload, 1) := dk_47 (dk_at dksX2_waysBy_4 2 rfl rfl)
theorem dX2_waysBy_94 : decode cX2_waysBy 94 = .ok (.lconst 0, 1) := dk_9 (dk_at dksX2_waysBy_4 3 rfl rfl)
theorem dX2_waysBy_95 : decode cX2_waysBy 95 = .ok (.lcmp, 1) := dk_148 (dk_at dksX2_waysBy_4 4 rfl rfl)
theorem dX2_waysBy_96 : decode cX2_waysBy 96 = .ok (.ifCond .ne 6, 3) := dk_154 0 6 (dk_at dksX2_waysBy_4 5 rfl rfl)
theorem dX2_waysBy_99 : decode cX2_waysBy 99 = .ok (.goto 135, 3) := dk_167 0 135 (dk_at dksX2_waysBy_4 8 rfl rfl)
theorem dX2_waysBy_102 : decode cX2_waysBy 102 = .ok (.aload_n 0, 1) := dk_42 (dk_at dksX2_waysBy_4 11 rfl rfl)
theorem dX2_waysBy_103 : decode cX2_waysBy 103 = .ok (.getfield 54, 3) := dk_180 0 54 (dk_at dksX2_waysBy_4 12 rfl rfl)
theorem dX2_waysBy_106 : decode cX2_waysBy 106 = .ok (.iload 4, 2) := dk_21 4 (dk_at dksX2_waysBy_4 15 rfl rfl)
theorem dX2_waysBy_108 : decode cX2_waysBy 108 = .ok (.iaload, 1) := dk_46 (dk_at dksX2_waysBy_4 17 rfl rfl)
theorem dX2_waysBy_109 : decode cX2_waysBy 109 = .ok (.bipush 8, 2) := dk_16 8 (dk_at dksX2_waysBy_4 18 rfl rfl)
theorem dX2_waysBy_111 : decode cX2_waysBy 111 = .ok (.if_icmp .ge 52, 3) := dk_162 0 52 (dk_at dksX2_waysBy_4 20 rfl rfl)
theorem dX2_waysBy_114 : decode cX2_waysBy 114 = .ok (.aload_n 0, 1) := dk_42 (dk_at dksX2_waysBy_4 23 rfl rfl)
theorem dX2_waysBy_115 : decode cX2_waysBy 115 = .ok (.getfield 77, 3) := dk_180 0 77 (dk_at dksX2_waysBy_5 0 rfl rfl)
theorem dX2_waysBy_118 : decode cX2_waysBy 118 = .ok (.iload 5, 2) := dk_21 5 (dk_at dksX2_waysBy_5 3 rfl rfl)
theorem dX2_waysBy_120 : decode cX2_waysBy 120 = .ok (.iaload, 1) := dk_46 (dk_at dksX2_waysBy_5 5 rfl rfl)
theorem dX2_waysBy_121 : decode cX2_waysBy 121 = .ok (.aload_n 0, 1) := dk_42 (dk_at dksX2_waysBy_5 6 rfl rfl)
theorem dX2_waysBy_122 : decode cX2_waysBy 122 = .ok (.getfield 54, 3) := dk_180 0 54 (dk_at dksX2_waysBy_5 7 rfl rfl)
theorem dX2_waysBy_125 : decode cX2_waysBy 125 = .ok (.iload 4, 2) := dk_21 4 (dk_at dksX2_waysBy_5 10 rfl rfl)
theorem dX2_waysBy_127 : decode cX2_waysBy 127 = .ok (.iaload, 1) := dk_46 (dk_at dksX2_waysBy_5 12 rfl rfl)
theorem dX2_waysBy_128 : decode cX2_waysBy 128 = .ok (.if_icmp .ne 106, 3) := dk_160 0 106 (dk_at dksX2_waysBy_5 13 rfl rfl)
theorem dX2_waysBy_131 : decode cX2_waysBy 131 = .ok (.aload_n 0, 1) := dk_42 (dk_at dksX2_waysBy_5 16 rfl rfl)
theorem dX2_waysBy_132 : decode cX2_waysBy 132 = .ok (.getfield 89, 3) := dk_180 0 89 (dk_at dksX2_waysBy_5 17 rfl rfl)
theorem dX2_waysBy_135 : decode cX2_waysBy 135 = .ok (.iload 5, 2) := dk_21 5 (dk_at dksX2_waysBy_5 20 rfl rfl)
theorem dX2_waysBy_137 : decode cX2_waysBy 137 = .ok (.iconst 1, 1) := dk_4 (dk_at dksX2_waysBy_5 22 rfl rfl)
theorem dX2_waysBy_138 : decode cX2_waysBy 138 = .ok (.iadd, 1) := dk_96 (dk_at dksX2_waysBy_5 23 rfl rfl)
theorem dX2_waysBy_139 : decode cX2_waysBy 139 = .ok (.aload_n 0, 1) := dk_42 (dk_at dksX2_waysBy_6 0 rfl rfl)
theorem dX2_waysBy_140 : decode cX2_waysBy 140 = .ok (.getfield 89, 3) := dk_180 0 89 (dk_at dksX2_waysBy_6 1 rfl rfl)
theorem dX2_waysBy_143 : decode cX2_waysBy 143 = .ok (.iload 5, 2) := dk_21 5 (dk_at dksX2_waysBy_6 4 rfl rfl)
theorem dX2_waysBy_145 : decode cX2_waysBy 145 = .ok (.iconst 1, 1) := dk_4 (dk_at dksX2_waysBy_6 6 rfl rfl)
theorem dX2_waysBy_146 : decode cX2_waysBy 146 = .ok (.iadd, 1) := dk_96 (dk_at dksX2_waysBy_6 7 rfl rfl)
theorem dX2_waysBy_147 : decode cX2_waysBy 147 = .ok (.laload, 1) := dk_47 (dk_at dksX2_waysBy_6 8 rfl rfl)
theorem dX2_waysBy_148 : decode cX2_waysBy 148 = .ok (.aload_n 0, 1) := dk_42 (dk_at dksX2_waysBy_6 9 rfl rfl)
theorem dX2_waysBy_149 : decode cX2_waysBy 149 = .ok (.getfield 86, 3) := dk_180 0 86 (dk_at dksX2_waysBy_6 10 rfl rfl)
theorem dX2_waysBy_152 : decode cX2_waysBy 152 = .ok (.iload 5, 2) := dk_21 5 (dk_at dksX2_waysBy_6 13 rfl rfl)
theorem dX2_waysBy_154 : decode cX2_waysBy 154 = .ok (.laload, 1) := dk_47 (dk_at dksX2_waysBy_6 15 rfl rfl)
theorem dX2_waysBy_155 : decode cX2_waysBy 155 = .ok (.ladd, 1) := dk_97 (dk_at dksX2_waysBy_6 16 rfl rfl)
theorem dX2_waysBy_156 : decode cX2_waysBy 156 = .ok (.invokestatic 330, 3) := dk_184 1 74 (dk_at dksX2_waysBy_6 17 rfl rfl)
theorem dX2_waysBy_159 : decode cX2_waysBy 159 = .ok (.lastore, 1) := dk_80 (dk_at dksX2_waysBy_6 20 rfl rfl)
theorem dX2_waysBy_160 : decode cX2_waysBy 160 = .ok (.goto 74, 3) := dk_167 0 74 (dk_at dksX2_waysBy_6 21 rfl rfl)
theorem dX2_waysBy_163 : decode cX2_waysBy 163 = .ok (.iload 5, 2) := dk_21 5 (dk_at dksX2_waysBy_7 0 rfl rfl)
theorem dX2_waysBy_165 : decode cX2_waysBy 165 = .ok (.iconst 1, 1) := dk_4 (dk_at dksX2_waysBy_7 2 rfl rfl)
theorem dX2_waysBy_166 : decode cX2_waysBy 166 = .ok (.iadd, 1) := dk_96 (dk_at dksX2_waysBy_7 3 rfl rfl)
theorem dX2_waysBy_167 : decode cX2_waysBy 167 = .ok (.istore 6, 2) := dk_54 6 (dk_at dksX2_waysBy_7 4 rfl rfl)
theorem dX2_waysBy_169 : decode cX2_waysBy 169 = .ok (.iload 6, 2) := dk_21 6 (dk_at dksX2_waysBy_7 6 rfl rfl)
theorem dX2_waysBy_171 : decode cX2_waysBy 171 = .ok (.iload_n 3, 1) := dk_29 (dk_at dksX2_waysBy_7 8 rfl rfl)
theorem dX2_waysBy_172 : decode cX2_waysBy 172 = .ok (.if_icmp .gt 62, 3) := dk_163 0 62 (dk_at dksX2_waysBy_7 9 rfl rfl)
theorem dX2_waysBy_175 : decode cX2_waysBy 175 = .ok (.aload_n 0, 1) := dk_42 (dk_at dksX2_waysBy_7 12 rfl rfl)
theorem dX2_waysBy_176 : decode cX2_waysBy 176 = .ok (.getfield 89, 3) := dk_180 0 89 (dk_at dksX2_waysBy_7 13 rfl rfl)
theorem dX2_waysBy_179 : decode cX2_waysBy 179 = .ok (.iload 6, 2) := dk_21 6 (dk_at dksX2_waysBy_7 16 rfl rfl)
theorem dX2_waysBy_181 : decode cX2_waysBy 181 = .ok (.aload_n 0, 1) := dk_42 (dk_at dksX2_waysBy_7 18 rfl rfl)
theorem dX2_waysBy_182 : decode cX2_waysBy 182 = .ok (.getfield 89, 3) := dk_180 0 89 (dk_at dksX2_waysBy_7 19 rfl rfl)
theorem dX2_waysBy_185 : decode cX2_waysBy 185 = .ok (.iload 6, 2) := dk_21 6 (dk_at dksX2_waysBy_7 22 rfl rfl)
theorem dX2_waysBy_187 : decode cX2_waysBy 187 = .ok (.laload, 1) := dk_47 (dk_at dksX2_waysBy_8 0 rfl rfl)
theorem dX2_waysBy_188 : decode cX2_waysBy 188 = .ok (.aload_n 0, 1) := dk_42 (dk_at dksX2_waysBy_8 1 rfl rfl)
theorem dX2_waysBy_189 : decode cX2_waysBy 189 = .ok (.getfield 86, 3) := dk_180 0 86 (dk_at dksX2_waysBy_8 2 rfl rfl)
theorem dX2_waysBy_192 : decode cX2_waysBy 192 = .ok (.iload 5, 2) := dk_21 5 (dk_at dksX2_waysBy_8 5 rfl rfl)
theorem dX2_waysBy_194 : decode cX2_waysBy 194 = .ok (.laload, 1) := dk_47 (dk_at dksX2_waysBy_8 7 rfl rfl)
theorem dX2_waysBy_195 : decode cX2_waysBy 195 = .ok (.aload_n 0, 1) := dk_42 (dk_at dksX2_waysBy_8 8 rfl rfl)
theorem dX2_waysBy_196 : decode cX2_waysBy 196 = .ok (.getfield 83, 3) := dk_180 0 83 (dk_at dksX2_waysBy_8 9 rfl rfl)
theorem dX2_waysBy_199 : decode cX2_waysBy 199 = .ok (.bipush 56, 2) := dk_16 56 (dk_at dksX2_waysBy_8 12 rfl rfl)
theorem dX2_waysBy_201 : decode cX2_waysBy 201 = .ok (.aload_n 0, 1) := dk_42 (dk_at dksX2_waysBy_8 14 rfl rfl)
theorem dX2_waysBy_202 : decode cX2_waysBy 202 = .ok (.getfield 54, 3) := dk_180 0 54 (dk_at dksX2_waysBy_8 15 rfl rfl)
theorem dX2_waysBy_205 : decode cX2_waysBy 205 = .ok (.iload 4, 2) := dk_21 4 (dk_at dksX2_waysBy_8 18 rfl rfl)
theorem dX2_waysBy_207 : decode cX2_waysBy 207 = .ok (.iaload, 1) := dk_46 (dk_at dksX2_waysBy_8 20 rfl rfl)
theorem dX2_waysBy_208 : decode cX2_waysBy 208 = .ok (.bipush 8, 2) := dk_16 8 (dk_at dksX2_waysBy_8 21 rfl rfl)
theorem dX2_waysBy_210 : decode cX2_waysBy 210 = .ok (.isub, 1) := dk_100 (dk_at dksX2_waysBy_8 23 rfl rfl)
theorem dX2_waysBy_211 : decode cX2_waysBy 211 = .ok (.imul, 1) := dk_104 (dk_at dksX2_waysBy_9 0 rfl rfl)
theorem dX2_waysBy_212 : decode cX2_waysBy 212 = .ok (.bipush 7, 2) := dk_16 7 (dk_at dksX2_waysBy_9 1 rfl rfl)
theorem dX2_waysBy_214 : decode cX2_waysBy 214 = .ok (.iload 5, 2) := dk_21 5 (dk_at dksX2_waysBy_9 3 rfl rfl)
theorem dX2_waysBy_216 : decode cX2_waysBy 216 = .ok (.imul, 1) := dk_104 (dk_at dksX2_waysBy_9 5 rfl rfl)
theorem dX2_waysBy_217 : decode cX2_waysBy 217 = .ok (.iadd, 1) := dk_96 (dk_at dksX2_waysBy_9 6 rfl rfl)
theorem dX2_waysBy_218 : decode cX2_waysBy 218 = .ok (.iload 6, 2) := dk_21 6 (dk_at dksX2_waysBy_9 7 rfl rfl)
theorem dX2_waysBy_220 : decode cX2_waysBy 220 = .ok (.iadd, 1) := dk_96 (dk_at dksX2_waysBy_9 9 rfl rfl)
theorem dX2_waysBy_221 : decode cX2_waysBy 221 = .ok (.laload, 1) := dk_47 (dk_at dksX2_waysBy_9 10 rfl rfl)
theorem dX2_waysBy_222 : decode cX2_waysBy 222 = .ok (.lmul, 1) := dk_105 (dk_at dksX2_waysBy_9 11 rfl rfl)
theorem dX2_waysBy_223 : decode cX2_waysBy 223 = .ok (.ladd, 1) := dk_97 (dk_at dksX2_waysBy_9 12 rfl rfl)
theorem dX2_waysBy_224 : decode cX2_waysBy 224 = .ok (.invokestatic 330, 3) := dk_184 1 74 (dk_at dksX2_waysBy_9 13 rfl rfl)
theorem dX2_waysBy_227 : decode cX2_waysBy 227 = .ok (.lastore, 1) := dk_80 (dk_at dksX2_waysBy_9 16 rfl rfl)
theorem dX2_waysBy_228 : decode cX2_waysBy 228 = .ok (.iinc 6 1, 3) := dk_132 6 1 (dk_at dksX2_waysBy_9 17 rfl rfl)
theorem dX2_waysBy_231 : decode cX2_waysBy 231 = .ok (.goto (-62), 3) := dk_167 255 194 (dk_at dksX2_waysBy_9 20 rfl rfl)
theorem dX2_waysBy_234 : decode cX2_waysBy 234 = .ok (.iinc 5 1, 3) := dk_132 5 1 (dk_at dksX2_waysBy_10 0 rfl rfl)
theorem dX2_waysBy_237 : decode cX2_waysBy 237 = .ok (.goto (-156), 3) := dk_167 255 100 (dk_at dksX2_waysBy_10 3 rfl rfl)
theorem dX2_waysBy_240 : decode cX2_waysBy 240 = .ok (.iconst 0, 1) := dk_3 (dk_at dksX2_waysBy_10 6 rfl rfl)
theorem dX2_waysBy_241 : decode cX2_waysBy 241 = .ok (.istore 5, 2) := dk_54 5 (dk_at dksX2_waysBy_10 7 rfl rfl)
theorem dX2_waysBy_243 : decode cX2_waysBy 243 = .ok (.iload 5, 2) := dk_21 5 (dk_at dksX2_waysBy_10 9 rfl rfl)
theorem dX2_waysBy_245 : decode cX2_waysBy 245 = .ok (.bipush 7, 2) := dk_16 7 (dk_at dksX2_waysBy_10 11 rfl rfl)
theorem dX2_waysBy_247 : decode cX2_waysBy 247 = .ok (.if_icmp .ge 23, 3) := dk_162 0 23 (dk_at dksX2_waysBy_10 13 rfl rfl)
theorem dX2_waysBy_250 : decode cX2_waysBy 250 = .ok (.aload_n 0, 1) := dk_42 (dk_at dksX2_waysBy_10 16 rfl rfl)
theorem dX2_waysBy_251 : decode cX2_waysBy 251 = .ok (.getfield 86, 3) := dk_180 0 86 (dk_at dksX2_waysBy_10 17 rfl rfl)
theorem dX2_waysBy_254 : decode cX2_waysBy 254 = .ok (.iload 5, 2) := dk_21 5 (dk_at dksX2_waysBy_10 20 rfl rfl)
theorem dX2_waysBy_256 : decode cX2_waysBy 256 = .ok (.aload_n 0, 1) := dk_42 (dk_at dksX2_waysBy_10 22 rfl rfl)
theorem dX2_waysBy_257 : decode cX2_waysBy 257 = .ok (.getfield 89, 3) := dk_180 0 89 (dk_at dksX2_waysBy_11 0 rfl rfl)
theorem dX2_waysBy_260 : decode cX2_waysBy 260 = .ok (.iload 5, 2) := dk_21 5 (dk_at dksX2_waysBy_11 3 rfl rfl)
theorem dX2_waysBy_262 : decode cX2_waysBy 262 = .ok (.laload, 1) := dk_47 (dk_at dksX2_waysBy_11 5 rfl rfl)
theorem dX2_waysBy_263 : decode cX2_waysBy 263 = .ok (.lastore, 1) := dk_80 (dk_at dksX2_waysBy_11 6 rfl rfl)
theorem dX2_waysBy_264 : decode cX2_waysBy 264 = .ok (.iinc 5 1, 3) := dk_132 5 1 (dk_at dksX2_waysBy_11 7 rfl rfl)
theorem dX2_waysBy_267 : decode cX2_waysBy 267 = .ok (.goto (-24), 3) := dk_167 255 232 (dk_at dksX2_waysBy_11 10 rfl rfl)
theorem dX2_waysBy_270 : decode cX2_waysBy 270 = .ok (.iinc 4 1, 3) := dk_132 4 1 (dk_at dksX2_waysBy_11 13 rfl rfl)
theorem dX2_waysBy_273 : decode cX2_waysBy 273 = .ok (.goto (-234), 3) := dk_167 255 22 (dk_at dksX2_waysBy_11 16 rfl rfl)
theorem dX2_waysBy_276 : decode cX2_waysBy 276 = .ok (.aload_n 0, 1) := dk_42 (dk_at dksX2_waysBy_11 19 rfl rfl)
theorem dX2_waysBy_277 : decode cX2_waysBy 277 = .ok (.getfield 86, 3) := dk_180 0 86 (dk_at dksX2_waysBy_11 20 rfl rfl)
theorem dX2_waysBy_280 : decode cX2_waysBy 280 = .ok (.iload_n 3, 1) := dk_29 (dk_at dksX2_waysBy_11 23 rfl rfl)
theorem dX2_waysBy_281 : decode cX2_waysBy 281 = .ok (.laload, 1) := dk_47 (dk_at dksX2_waysBy_12 0 rfl rfl)
theorem dX2_waysBy_282 : decode cX2_waysBy 282 = .ok (.lreturn, 1) := dk_173 (dk_at dksX2_waysBy_12 1 rfl rfl)
abbrev cX2_atMost : ByteArray := prog_9_method_42_code
def yX2_atMost : MethodName := ⟨RX2, "atMost", "(J)J"⟩
def dkwX2_atMost_0 : List UInt8 := [30, 20, 1, 78, 148, 158, 0, 9, 20, 1, 78, 167, 0, 4, 30, 173]
abbrev dktX2_atMost_0 : List UInt8 := dkwX2_atMost_0 ++ []
theorem dksX2_atMost_0 : cX2_atMost.data.toList.drop 0 = dktX2_atMost_0 := by decide +kernel
theorem dX2_atMost_0 : decode cX2_atMost 0 = .ok (.lload_n 0, 1) := dk_30 (dk_at dksX2_atMost_0 0 rfl rfl)
theorem dX2_atMost_1 : decode cX2_atMost 1 = .ok (.ldc2_w 334, 3) := dk_20 1 78 (dk_at dksX2_atMost_0 1 rfl rfl)
theorem dX2_atMost_4 : decode cX2_atMost 4 = .ok (.lcmp, 1) := dk_148 (dk_at dksX2_atMost_0 4 rfl rfl)
theorem dX2_atMost_5 : decode cX2_atMost 5 = .ok (.ifCond .le 9, 3) := dk_158 0 9 (dk_at dksX2_atMost_0 5 rfl rfl)
theorem dX2_atMost_8 : decode cX2_atMost 8 = .ok (.ldc2_w 334, 3) := dk_20 1 78 (dk_at dksX2_atMost_0 8 rfl rfl)
theorem dX2_atMost_11 : decode cX2_atMost 11 = .ok (.goto 4, 3) := dk_167 0 4 (dk_at dksX2_atMost_0 11 rfl rfl)
theorem dX2_atMost_14 : decode cX2_atMost 14 = .ok (.lload_n 0, 1) := dk_30 (dk_at dksX2_atMost_0 14 rfl rfl)
theorem dX2_atMost_15 : decode cX2_atMost 15 = .ok (.lreturn, 1) := dk_173 (dk_at dksX2_atMost_0 15 rfl rfl)
abbrev cX2_means : ByteArray := prog_9_method_54_code
def yX2_means : MethodName := ⟨RX2, "means", "(I)I"⟩
def dkwX2_means_1 : List UInt8 := [172]
abbrev dktX2_means_1 : List UInt8 := dkwX2_means_1 ++ []
def dkwX2_means_0 : List UInt8 := [27, 184, 1, 52, 154, 0, 7, 19, 1, 55, 172, 42, 182, 1, 95, 42, 42, 180, 1, 80, 27, 182, 1, 111]
abbrev dktX2_means_0 : List UInt8 := dkwX2_means_0 ++ dktX2_means_1
theorem dksX2_means_0 : cX2_means.data.toList.drop 0 = dktX2_means_0 := by decide +kernel
theorem dksX2_means_1 : cX2_means.data.toList.drop 24 = dktX2_means_1 := dk_seg dksX2_means_0 24 rfl rfl
theorem dX2_means_0 : decode cX2_means 0 = .ok (.iload_n 1, 1) := dk_27 (dk_at dksX2_means_0 0 rfl rfl)
theorem dX2_means_1 : decode cX2_means 1 = .ok (.invokestatic 308, 3) := dk_184 1 52 (dk_at dksX2_means_0 1 rfl rfl)
theorem dX2_means_4 : decode cX2_means 4 = .ok (.ifCond .ne 7, 3) := dk_154 0 7 (dk_at dksX2_means_0 4 rfl rfl)
theorem dX2_means_7 : decode cX2_means 7 = .ok (.ldc_w 311, 3) := dk_19 1 55 (dk_at dksX2_means_0 7 rfl rfl)
theorem dX2_means_10 : decode cX2_means 10 = .ok (.ireturn, 1) := dk_172 (dk_at dksX2_means_0 10 rfl rfl)
theorem dX2_means_11 : decode cX2_means 11 = .ok (.aload_n 0, 1) := dk_42 (dk_at dksX2_means_0 11 rfl rfl)
theorem dX2_means_12 : decode cX2_means 12 = .ok (.invokevirtual 351, 3) := dk_182 1 95 (dk_at dksX2_means_0 12 rfl rfl)
theorem dX2_means_15 : decode cX2_means 15 = .ok (.aload_n 0, 1) := dk_42 (dk_at dksX2_means_0 15 rfl rfl)
theorem dX2_means_16 : decode cX2_means 16 = .ok (.aload_n 0, 1) := dk_42 (dk_at dksX2_means_0 16 rfl rfl)
theorem dX2_means_17 : decode cX2_means 17 = .ok (.getfield 336, 3) := dk_180 1 80 (dk_at dksX2_means_0 17 rfl rfl)
theorem dX2_means_20 : decode cX2_means 20 = .ok (.iload_n 1, 1) := dk_27 (dk_at dksX2_means_0 20 rfl rfl)
theorem dX2_means_21 : decode cX2_means 21 = .ok (.invokevirtual 367, 3) := dk_182 1 111 (dk_at dksX2_means_0 21 rfl rfl)
theorem dX2_means_24 : decode cX2_means 24 = .ok (.ireturn, 1) := dk_172 (dk_at dksX2_means_1 0 rfl rfl)
abbrev cX2_meansOf : ByteArray := prog_9_method_53_code
def yX2_meansOf : MethodName := ⟨RX2, "meansOf", "(II)I"⟩
def dkwX2_meansOf_3 : List UInt8 := [167, 255, 189, 29, 172]
abbrev dktX2_meansOf_3 : List UInt8 := dkwX2_meansOf_3 ++ []
def dkwX2_meansOf_2 : List UInt8 := [4, 100, 46, 42, 180, 0, 77, 21, 4, 46, 28, 182, 1, 56, 167, 0, 4, 3, 96, 96, 62, 132, 4, 1]
abbrev dktX2_meansOf_2 : List UInt8 := dkwX2_meansOf_2 ++ dktX2_meansOf_3
def dkwX2_meansOf_1 : List UInt8 := [42, 180, 0, 77, 21, 4, 46, 96, 104, 28, 96, 46, 21, 4, 158, 0, 27, 42, 42, 180, 0, 77, 21, 4]
abbrev dktX2_meansOf_1 : List UInt8 := dkwX2_meansOf_1 ++ dktX2_meansOf_2
def dkwX2_meansOf_0 : List UInt8 := [3, 62, 3, 54, 4, 21, 4, 27, 162, 0, 67, 29, 42, 180, 0, 42, 6, 16, 8, 42, 180, 0, 233, 104]
abbrev dktX2_meansOf_0 : List UInt8 := dkwX2_meansOf_0 ++ dktX2_meansOf_1
theorem dksX2_meansOf_0 : cX2_meansOf.data.toList.drop 0 = dktX2_meansOf_0 := by decide +kernel
theorem dksX2_meansOf_1 : cX2_meansOf.data.toList.drop 24 = dktX2_meansOf_1 := dk_seg dksX2_meansOf_0 24 rfl rfl
theorem dksX2_meansOf_2 : cX2_meansOf.data.toList.drop 48 = dktX2_meansOf_2 := dk_seg dksX2_meansOf_1 24 rfl rfl
theorem dksX2_meansOf_3 : cX2_meansOf.data.toList.drop 72 = dktX2_meansOf_3 := dk_seg dksX2_meansOf_2 24 rfl rfl
theorem dX2_meansOf_0 : decode cX2_meansOf 0 = .ok (.iconst 0, 1) := dk_3 (dk_at dksX2_meansOf_0 0 rfl rfl)
theorem dX2_meansOf_1 : decode cX2_meansOf 1 = .ok (.istore_n 3, 1) := dk_62 (dk_at dksX2_meansOf_0 1 rfl rfl)
theorem dX2_meansOf_2 : decode cX2_meansOf 2 = .ok (.iconst 0, 1) := dk_3 (dk_at dksX2_meansOf_0 2 rfl rfl)
theorem dX2_meansOf_3 : decode cX2_meansOf 3 = .ok (.istore 4, 2) := dk_54 4 (dk_at dksX2_meansOf_0 3 rfl rfl)
theorem dX2_meansOf_5 : decode cX2_meansOf 5 = .ok (.iload 4, 2) := dk_21 4 (dk_at dksX2_meansOf_0 5 rfl rfl)
theorem dX2_meansOf_7 : decode cX2_meansOf 7 = .ok (.iload_n 1, 1) := dk_27 (dk_at dksX2_meansOf_0 7 rfl rfl)
theorem dX2_meansOf_8 : decode cX2_meansOf 8 = .ok (.if_icmp .ge 67, 3) := dk_162 0 67 (dk_at dksX2_meansOf_0 8 rfl rfl)
theorem dX2_meansOf_11 : decode cX2_meansOf 11 = .ok (.iload_n 3, 1) := dk_29 (dk_at dksX2_meansOf_0 11 rfl rfl)
theorem dX2_meansOf_12 : decode cX2_meansOf 12 = .ok (.aload_n 0, 1) := dk_42 (dk_at dksX2_meansOf_0 12 rfl rfl)
theorem dX2_meansOf_13 : decode cX2_meansOf 13 = .ok (.getfield 42, 3) := dk_180 0 42 (dk_at dksX2_meansOf_0 13 rfl rfl)
theorem dX2_meansOf_16 : decode cX2_meansOf 16 = .ok (.iconst 3, 1) := dk_6 (dk_at dksX2_meansOf_0 16 rfl rfl)
theorem dX2_meansOf_17 : decode cX2_meansOf 17 = .ok (.bipush 8, 2) := dk_16 8 (dk_at dksX2_meansOf_0 17 rfl rfl)
theorem dX2_meansOf_19 : decode cX2_meansOf 19 = .ok (.aload_n 0, 1) := dk_42 (dk_at dksX2_meansOf_0 19 rfl rfl)
theorem dX2_meansOf_20 : decode cX2_meansOf 20 = .ok (.getfield 233, 3) := dk_180 0 233 (dk_at dksX2_meansOf_0 20 rfl rfl)
theorem dX2_meansOf_23 : decode cX2_meansOf 23 = .ok (.imul, 1) := dk_104 (dk_at dksX2_meansOf_0 23 rfl rfl)
theorem dX2_meansOf_24 : decode cX2_meansOf 24 = .ok (.aload_n 0, 1) := dk_42 (dk_at dksX2_meansOf_1 0 rfl rfl)
theorem dX2_meansOf_25 : decode cX2_meansOf 25 = .ok (.getfield 77, 3) := dk_180 0 77 (dk_at dksX2_meansOf_1 1 rfl rfl)
theorem dX2_meansOf_28 : decode cX2_meansOf 28 = .ok (.iload 4, 2) := dk_21 4 (dk_at dksX2_meansOf_1 4 rfl rfl)
theorem dX2_meansOf_30 : decode cX2_meansOf 30 = .ok (.iaload, 1) := dk_46 (dk_at dksX2_meansOf_1 6 rfl rfl)
theorem dX2_meansOf_31 : decode cX2_meansOf 31 = .ok (.iadd, 1) := dk_96 (dk_at dksX2_meansOf_1 7 rfl rfl)
theorem dX2_meansOf_32 : decode cX2_meansOf 32 = .ok (.imul, 1) := dk_104 (dk_at dksX2_meansOf_1 8 rfl rfl)
theorem dX2_meansOf_33 : decode cX2_meansOf 33 = .ok (.iload_n 2, 1) := dk_28 (dk_at dksX2_meansOf_1 9 rfl rfl)
theorem dX2_meansOf_34 : decode cX2_meansOf 34 = .ok (.iadd, 1) := dk_96 (dk_at dksX2_meansOf_1 10 rfl rfl)
theorem dX2_meansOf_35 : decode cX2_meansOf 35 = .ok (.iaload, 1) := dk_46 (dk_at dksX2_meansOf_1 11 rfl rfl)
theorem dX2_meansOf_36 : decode cX2_meansOf 36 = .ok (.iload 4, 2) := dk_21 4 (dk_at dksX2_meansOf_1 12 rfl rfl)
theorem dX2_meansOf_38 : decode cX2_meansOf 38 = .ok (.ifCond .le 27, 3) := dk_158 0 27 (dk_at dksX2_meansOf_1 14 rfl rfl)
theorem dX2_meansOf_41 : decode cX2_meansOf 41 = .ok (.aload_n 0, 1) := dk_42 (dk_at dksX2_meansOf_1 17 rfl rfl)
theorem dX2_meansOf_42 : decode cX2_meansOf 42 = .ok (.aload_n 0, 1) := dk_42 (dk_at dksX2_meansOf_1 18 rfl rfl)
theorem dX2_meansOf_43 : decode cX2_meansOf 43 = .ok (.getfield 77, 3) := dk_180 0 77 (dk_at dksX2_meansOf_1 19 rfl rfl)
theorem dX2_meansOf_46 : decode cX2_meansOf 46 = .ok (.iload 4, 2) := dk_21 4 (dk_at dksX2_meansOf_1 22 rfl rfl)
theorem dX2_meansOf_48 : decode cX2_meansOf 48 = .ok (.iconst 1, 1) := dk_4 (dk_at dksX2_meansOf_2 0 rfl rfl)
theorem dX2_meansOf_49 : decode cX2_meansOf 49 = .ok (.isub, 1) := dk_100 (dk_at dksX2_meansOf_2 1 rfl rfl)
theorem dX2_meansOf_50 : decode cX2_meansOf 50 = .ok (.iaload, 1) := dk_46 (dk_at dksX2_meansOf_2 2 rfl rfl)
theorem dX2_meansOf_51 : decode cX2_meansOf 51 = .ok (.aload_n 0, 1) := dk_42 (dk_at dksX2_meansOf_2 3 rfl rfl)
theorem dX2_meansOf_52 : decode cX2_meansOf 52 = .ok (.getfield 77, 3) := dk_180 0 77 (dk_at dksX2_meansOf_2 4 rfl rfl)
theorem dX2_meansOf_55 : decode cX2_meansOf 55 = .ok (.iload 4, 2) := dk_21 4 (dk_at dksX2_meansOf_2 7 rfl rfl)
theorem dX2_meansOf_57 : decode cX2_meansOf 57 = .ok (.iaload, 1) := dk_46 (dk_at dksX2_meansOf_2 9 rfl rfl)
theorem dX2_meansOf_58 : decode cX2_meansOf 58 = .ok (.iload_n 2, 1) := dk_28 (dk_at dksX2_meansOf_2 10 rfl rfl)
theorem dX2_meansOf_59 : decode cX2_meansOf 59 = .ok (.invokevirtual 312, 3) := dk_182 1 56 (dk_at dksX2_meansOf_2 11 rfl rfl)
theorem dX2_meansOf_62 : decode cX2_meansOf 62 = .ok (.goto 4, 3) := dk_167 0 4 (dk_at dksX2_meansOf_2 14 rfl rfl)
theorem dX2_meansOf_65 : decode cX2_meansOf 65 = .ok (.iconst 0, 1) := dk_3 (dk_at dksX2_meansOf_2 17 rfl rfl)
theorem dX2_meansOf_66 : decode cX2_meansOf 66 = .ok (.iadd, 1) := dk_96 (dk_at dksX2_meansOf_2 18 rfl rfl)
theorem dX2_meansOf_67 : decode cX2_meansOf 67 = .ok (.iadd, 1) := dk_96 (dk_at dksX2_meansOf_2 19 rfl rfl)
theorem dX2_meansOf_68 : decode cX2_meansOf 68 = .ok (.istore_n 3, 1) := dk_62 (dk_at dksX2_meansOf_2 20 rfl rfl)
theorem dX2_meansOf_69 : decode cX2_meansOf 69 = .ok (.iinc 4 1, 3) := dk_132 4 1 (dk_at dksX2_meansOf_2 21 rfl rfl)
theorem dX2_meansOf_72 : decode cX2_meansOf 72 = .ok (.goto (-67), 3) := dk_167 255 189 (dk_at dksX2_meansOf_3 0 rfl rfl)
theorem dX2_meansOf_75 : decode cX2_meansOf 75 = .ok (.iload_n 3, 1) := dk_29 (dk_at dksX2_meansOf_3 3 rfl rfl)
theorem dX2_meansOf_76 : decode cX2_meansOf 76 = .ok (.ireturn, 1) := dk_172 (dk_at dksX2_meansOf_3 4 rfl rfl)
abbrev cX2_write : ByteArray := prog_9_method_56_code
def yX2_write : MethodName := ⟨RX2, "write", "(I)I"⟩
def dkwX2_write_2 : List UInt8 := [172]
abbrev dktX2_write_2 : List UInt8 := dkwX2_write_2 ++ []
def dkwX2_write_1 : List UInt8 := [42, 180, 0, 92, 42, 180, 1, 80, 27, 79, 42, 89, 180, 1, 80, 4, 96, 181, 1, 80, 42, 180, 1, 80]
abbrev dktX2_write_1 : List UInt8 := dkwX2_write_1 ++ dktX2_write_2
def dkwX2_write_0 : List UInt8 := [42, 27, 182, 1, 49, 153, 0, 11, 42, 27, 182, 1, 104, 154, 0, 5, 2, 172, 42, 2, 27, 182, 1, 114]
abbrev dktX2_write_0 : List UInt8 := dkwX2_write_0 ++ dktX2_write_1
theorem dksX2_write_0 : cX2_write.data.toList.drop 0 = dktX2_write_0 := by decide +kernel
theorem dksX2_write_1 : cX2_write.data.toList.drop 24 = dktX2_write_1 := dk_seg dksX2_write_0 24 rfl rfl
theorem dksX2_write_2 : cX2_write.data.toList.drop 48 = dktX2_write_2 := dk_seg dksX2_write_1 24 rfl rfl
theorem dX2_write_0 : decode cX2_write 0 = .ok (.aload_n 0, 1) := dk_42 (dk_at dksX2_write_0 0 rfl rfl)
theorem dX2_write_1 : decode cX2_write 1 = .ok (.iload_n 1, 1) := dk_27 (dk_at dksX2_write_0 1 rfl rfl)
theorem dX2_write_2 : decode cX2_write 2 = .ok (.invokevirtual 305, 3) := dk_182 1 49 (dk_at dksX2_write_0 2 rfl rfl)
theorem dX2_write_5 : decode cX2_write 5 = .ok (.ifCond .eq 11, 3) := dk_153 0 11 (dk_at dksX2_write_0 5 rfl rfl)
theorem dX2_write_8 : decode cX2_write 8 = .ok (.aload_n 0, 1) := dk_42 (dk_at dksX2_write_0 8 rfl rfl)
theorem dX2_write_9 : decode cX2_write 9 = .ok (.iload_n 1, 1) := dk_27 (dk_at dksX2_write_0 9 rfl rfl)
theorem dX2_write_10 : decode cX2_write 10 = .ok (.invokevirtual 360, 3) := dk_182 1 104 (dk_at dksX2_write_0 10 rfl rfl)
theorem dX2_write_13 : decode cX2_write 13 = .ok (.ifCond .ne 5, 3) := dk_154 0 5 (dk_at dksX2_write_0 13 rfl rfl)
theorem dX2_write_16 : decode cX2_write 16 = .ok (.iconst (-1), 1) := dk_2 (dk_at dksX2_write_0 16 rfl rfl)
theorem dX2_write_17 : decode cX2_write 17 = .ok (.ireturn, 1) := dk_172 (dk_at dksX2_write_0 17 rfl rfl)
theorem dX2_write_18 : decode cX2_write 18 = .ok (.aload_n 0, 1) := dk_42 (dk_at dksX2_write_0 18 rfl rfl)
theorem dX2_write_19 : decode cX2_write 19 = .ok (.iconst (-1), 1) := dk_2 (dk_at dksX2_write_0 19 rfl rfl)
theorem dX2_write_20 : decode cX2_write 20 = .ok (.iload_n 1, 1) := dk_27 (dk_at dksX2_write_0 20 rfl rfl)
theorem dX2_write_21 : decode cX2_write 21 = .ok (.invokevirtual 370, 3) := dk_182 1 114 (dk_at dksX2_write_0 21 rfl rfl)
theorem dX2_write_24 : decode cX2_write 24 = .ok (.aload_n 0, 1) := dk_42 (dk_at dksX2_write_1 0 rfl rfl)
theorem dX2_write_25 : decode cX2_write 25 = .ok (.getfield 92, 3) := dk_180 0 92 (dk_at dksX2_write_1 1 rfl rfl)
theorem dX2_write_28 : decode cX2_write 28 = .ok (.aload_n 0, 1) := dk_42 (dk_at dksX2_write_1 4 rfl rfl)
theorem dX2_write_29 : decode cX2_write 29 = .ok (.getfield 336, 3) := dk_180 1 80 (dk_at dksX2_write_1 5 rfl rfl)
theorem dX2_write_32 : decode cX2_write 32 = .ok (.iload_n 1, 1) := dk_27 (dk_at dksX2_write_1 8 rfl rfl)
theorem dX2_write_33 : decode cX2_write 33 = .ok (.iastore, 1) := dk_79 (dk_at dksX2_write_1 9 rfl rfl)
theorem dX2_write_34 : decode cX2_write 34 = .ok (.aload_n 0, 1) := dk_42 (dk_at dksX2_write_1 10 rfl rfl)
theorem dX2_write_35 : decode cX2_write 35 = .ok (.dup, 1) := dk_89 (dk_at dksX2_write_1 11 rfl rfl)
theorem dX2_write_36 : decode cX2_write 36 = .ok (.getfield 336, 3) := dk_180 1 80 (dk_at dksX2_write_1 12 rfl rfl)
theorem dX2_write_39 : decode cX2_write 39 = .ok (.iconst 1, 1) := dk_4 (dk_at dksX2_write_1 15 rfl rfl)
theorem dX2_write_40 : decode cX2_write 40 = .ok (.iadd, 1) := dk_96 (dk_at dksX2_write_1 16 rfl rfl)
theorem dX2_write_41 : decode cX2_write 41 = .ok (.putfield 336, 3) := dk_181 1 80 (dk_at dksX2_write_1 17 rfl rfl)
theorem dX2_write_44 : decode cX2_write 44 = .ok (.aload_n 0, 1) := dk_42 (dk_at dksX2_write_1 20 rfl rfl)
theorem dX2_write_45 : decode cX2_write 45 = .ok (.getfield 336, 3) := dk_180 1 80 (dk_at dksX2_write_1 21 rfl rfl)
theorem dX2_write_48 : decode cX2_write 48 = .ok (.ireturn, 1) := dk_172 (dk_at dksX2_write_2 0 rfl rfl)
abbrev cX2_keepAct : ByteArray := prog_9_method_55_code
def yX2_keepAct : MethodName := ⟨RX2, "keepAct", "(II)V"⟩
def dkwX2_keepAct_4 : List UInt8 := [177]
abbrev dktX2_keepAct_4 : List UInt8 := dkwX2_keepAct_4 ++ []
def dkwX2_keepAct_3 : List UInt8 := [180, 0, 104, 42, 180, 1, 83, 28, 79, 42, 89, 180, 1, 83, 4, 96, 181, 1, 83, 42, 3, 181, 1, 86]
abbrev dktX2_keepAct_3 : List UInt8 := dkwX2_keepAct_3 ++ dktX2_keepAct_4
def dkwX2_keepAct_2 : List UInt8 := [167, 255, 219, 42, 89, 180, 1, 83, 4, 100, 181, 1, 83, 42, 180, 0, 101, 42, 180, 1, 83, 27, 79, 42]
abbrev dktX2_keepAct_2 : List UInt8 := dkwX2_keepAct_2 ++ dktX2_keepAct_3
def dkwX2_keepAct_1 : List UInt8 := [42, 180, 0, 101, 29, 46, 79, 42, 180, 0, 104, 29, 4, 100, 42, 180, 0, 104, 29, 46, 79, 132, 3, 1]
abbrev dktX2_keepAct_1 : List UInt8 := dkwX2_keepAct_1 ++ dktX2_keepAct_2
def dkwX2_keepAct_0 : List UInt8 := [42, 180, 1, 83, 16, 40, 160, 0, 55, 4, 62, 29, 16, 40, 162, 0, 37, 42, 180, 0, 101, 29, 4, 100]
abbrev dktX2_keepAct_0 : List UInt8 := dkwX2_keepAct_0 ++ dktX2_keepAct_1
theorem dksX2_keepAct_0 : cX2_keepAct.data.toList.drop 0 = dktX2_keepAct_0 := by decide +kernel
theorem dksX2_keepAct_1 : cX2_keepAct.data.toList.drop 24 = dktX2_keepAct_1 := dk_seg dksX2_keepAct_0 24 rfl rfl
theorem dksX2_keepAct_2 : cX2_keepAct.data.toList.drop 48 = dktX2_keepAct_2 := dk_seg dksX2_keepAct_1 24 rfl rfl
theorem dksX2_keepAct_3 : cX2_keepAct.data.toList.drop 72 = dktX2_keepAct_3 := dk_seg dksX2_keepAct_2 24 rfl rfl
theorem dksX2_keepAct_4 : cX2_keepAct.data.toList.drop 96 = dktX2_keepAct_4 := dk_seg dksX2_keepAct_3 24 rfl rfl
theorem dX2_keepAct_0 : decode cX2_keepAct 0 = .ok (.aload_n 0, 1) := dk_42 (dk_at dksX2_keepAct_0 0 rfl rfl)
theorem dX2_keepAct_1 : decode cX2_keepAct 1 = .ok (.getfield 339, 3) := dk_180 1 83 (dk_at dksX2_keepAct_0 1 rfl rfl)
theorem dX2_keepAct_4 : decode cX2_keepAct 4 = .ok (.bipush 40, 2) := dk_16 40 (dk_at dksX2_keepAct_0 4 rfl rfl)
theorem dX2_keepAct_6 : decode cX2_keepAct 6 = .ok (.if_icmp .ne 55, 3) := dk_160 0 55 (dk_at dksX2_keepAct_0 6 rfl rfl)
theorem dX2_keepAct_9 : decode cX2_keepAct 9 = .ok (.iconst 1, 1) := dk_4 (dk_at dksX2_keepAct_0 9 rfl rfl)
theorem dX2_keepAct_10 : decode cX2_keepAct 10 = .ok (.istore_n 3, 1) := dk_62 (dk_at dksX2_keepAct_0 10 rfl rfl)
theorem dX2_keepAct_11 : decode cX2_keepAct 11 = .ok (.iload_n 3, 1) := dk_29 (dk_at dksX2_keepAct_0 11 rfl rfl)
theorem dX2_keepAct_12 : decode cX2_keepAct 12 = .ok (.bipush 40, 2) := dk_16 40 (dk_at dksX2_keepAct_0 12 rfl rfl)
theorem dX2_keepAct_14 : decode cX2_keepAct 14 = .ok (.if_icmp .ge 37, 3) := dk_162 0 37 (dk_at dksX2_keepAct_0 14 rfl rfl)
theorem dX2_keepAct_17 : decode cX2_keepAct 17 = .ok (.aload_n 0, 1) := dk_42 (dk_at dksX2_keepAct_0 17 rfl rfl)
theorem dX2_keepAct_18 : decode cX2_keepAct 18 = .ok (.getfield 101, 3) := dk_180 0 101 (dk_at dksX2_keepAct_0 18 rfl rfl)
theorem dX2_keepAct_21 : decode cX2_keepAct 21 = .ok (.iload_n 3, 1) := dk_29 (dk_at dksX2_keepAct_0 21 rfl rfl)
theorem dX2_keepAct_22 : decode cX2_keepAct 22 = .ok (.iconst 1, 1) := dk_4 (dk_at dksX2_keepAct_0 22 rfl rfl)
theorem dX2_keepAct_23 : decode cX2_keepAct 23 = .ok (.isub, 1) := dk_100 (dk_at dksX2_keepAct_0 23 rfl rfl)
theorem dX2_keepAct_24 : decode cX2_keepAct 24 = .ok (.aload_n 0, 1) := dk_42 (dk_at dksX2_keepAct_1 0 rfl rfl)
theorem dX2_keepAct_25 : decode cX2_keepAct 25 = .ok (.getfield 101, 3) := dk_180 0 101 (dk_at dksX2_keepAct_1 1 rfl rfl)
theorem dX2_keepAct_28 : decode cX2_keepAct 28 = .ok (.iload_n 3, 1) := dk_29 (dk_at dksX2_keepAct_1 4 rfl rfl)
theorem dX2_keepAct_29 : decode cX2_keepAct 29 = .ok (.iaload, 1) := dk_46 (dk_at dksX2_keepAct_1 5 rfl rfl)
theorem dX2_keepAct_30 : decode cX2_keepAct 30 = .ok (.iastore, 1) := dk_79 (dk_at dksX2_keepAct_1 6 rfl rfl)
theorem dX2_keepAct_31 : decode cX2_keepAct 31 = .ok (.aload_n 0, 1) := dk_42 (dk_at dksX2_keepAct_1 7 rfl rfl)
theorem dX2_keepAct_32 : decode cX2_keepAct 32 = .ok (.getfield 104, 3) := dk_180 0 104 (dk_at dksX2_keepAct_1 8 rfl rfl)
theorem dX2_keepAct_35 : decode cX2_keepAct 35 = .ok (.iload_n 3, 1) := dk_29 (dk_at dksX2_keepAct_1 11 rfl rfl)
theorem dX2_keepAct_36 : decode cX2_keepAct 36 = .ok (.iconst 1, 1) := dk_4 (dk_at dksX2_keepAct_1 12 rfl rfl)
theorem dX2_keepAct_37 : decode cX2_keepAct 37 = .ok (.isub, 1) := dk_100 (dk_at dksX2_keepAct_1 13 rfl rfl)
theorem dX2_keepAct_38 : decode cX2_keepAct 38 = .ok (.aload_n 0, 1) := dk_42 (dk_at dksX2_keepAct_1 14 rfl rfl)
theorem dX2_keepAct_39 : decode cX2_keepAct 39 = .ok (.getfield 104, 3) := dk_180 0 104 (dk_at dksX2_keepAct_1 15 rfl rfl)
theorem dX2_keepAct_42 : decode cX2_keepAct 42 = .ok (.iload_n 3, 1) := dk_29 (dk_at dksX2_keepAct_1 18 rfl rfl)
theorem dX2_keepAct_43 : decode cX2_keepAct 43 = .ok (.iaload, 1) := dk_46 (dk_at dksX2_keepAct_1 19 rfl rfl)
theorem dX2_keepAct_44 : decode cX2_keepAct 44 = .ok (.iastore, 1) := dk_79 (dk_at dksX2_keepAct_1 20 rfl rfl)
theorem dX2_keepAct_45 : decode cX2_keepAct 45 = .ok (.iinc 3 1, 3) := dk_132 3 1 (dk_at dksX2_keepAct_1 21 rfl rfl)
theorem dX2_keepAct_48 : decode cX2_keepAct 48 = .ok (.goto (-37), 3) := dk_167 255 219 (dk_at dksX2_keepAct_2 0 rfl rfl)
theorem dX2_keepAct_51 : decode cX2_keepAct 51 = .ok (.aload_n 0, 1) := dk_42 (dk_at dksX2_keepAct_2 3 rfl rfl)
theorem dX2_keepAct_52 : decode cX2_keepAct 52 = .ok (.dup, 1) := dk_89 (dk_at dksX2_keepAct_2 4 rfl rfl)
theorem dX2_keepAct_53 : decode cX2_keepAct 53 = .ok (.getfield 339, 3) := dk_180 1 83 (dk_at dksX2_keepAct_2 5 rfl rfl)
theorem dX2_keepAct_56 : decode cX2_keepAct 56 = .ok (.iconst 1, 1) := dk_4 (dk_at dksX2_keepAct_2 8 rfl rfl)
theorem dX2_keepAct_57 : decode cX2_keepAct 57 = .ok (.isub, 1) := dk_100 (dk_at dksX2_keepAct_2 9 rfl rfl)
theorem dX2_keepAct_58 : decode cX2_keepAct 58 = .ok (.putfield 339, 3) := dk_181 1 83 (dk_at dksX2_keepAct_2 10 rfl rfl)
theorem dX2_keepAct_61 : decode cX2_keepAct 61 = .ok (.aload_n 0, 1) := dk_42 (dk_at dksX2_keepAct_2 13 rfl rfl)
theorem dX2_keepAct_62 : decode cX2_keepAct 62 = .ok (.getfield 101, 3) := dk_180 0 101 (dk_at dksX2_keepAct_2 14 rfl rfl)
theorem dX2_keepAct_65 : decode cX2_keepAct 65 = .ok (.aload_n 0, 1) := dk_42 (dk_at dksX2_keepAct_2 17 rfl rfl)
theorem dX2_keepAct_66 : decode cX2_keepAct 66 = .ok (.getfield 339, 3) := dk_180 1 83 (dk_at dksX2_keepAct_2 18 rfl rfl)
theorem dX2_keepAct_69 : decode cX2_keepAct 69 = .ok (.iload_n 1, 1) := dk_27 (dk_at dksX2_keepAct_2 21 rfl rfl)
theorem dX2_keepAct_70 : decode cX2_keepAct 70 = .ok (.iastore, 1) := dk_79 (dk_at dksX2_keepAct_2 22 rfl rfl)
theorem dX2_keepAct_71 : decode cX2_keepAct 71 = .ok (.aload_n 0, 1) := dk_42 (dk_at dksX2_keepAct_2 23 rfl rfl)
theorem dX2_keepAct_72 : decode cX2_keepAct 72 = .ok (.getfield 104, 3) := dk_180 0 104 (dk_at dksX2_keepAct_3 0 rfl rfl)
theorem dX2_keepAct_75 : decode cX2_keepAct 75 = .ok (.aload_n 0, 1) := dk_42 (dk_at dksX2_keepAct_3 3 rfl rfl)
theorem dX2_keepAct_76 : decode cX2_keepAct 76 = .ok (.getfield 339, 3) := dk_180 1 83 (dk_at dksX2_keepAct_3 4 rfl rfl)
theorem dX2_keepAct_79 : decode cX2_keepAct 79 = .ok (.iload_n 2, 1) := dk_28 (dk_at dksX2_keepAct_3 7 rfl rfl)
theorem dX2_keepAct_80 : decode cX2_keepAct 80 = .ok (.iastore, 1) := dk_79 (dk_at dksX2_keepAct_3 8 rfl rfl)
theorem dX2_keepAct_81 : decode cX2_keepAct 81 = .ok (.aload_n 0, 1) := dk_42 (dk_at dksX2_keepAct_3 9 rfl rfl)
theorem dX2_keepAct_82 : decode cX2_keepAct 82 = .ok (.dup, 1) := dk_89 (dk_at dksX2_keepAct_3 10 rfl rfl)
theorem dX2_keepAct_83 : decode cX2_keepAct 83 = .ok (.getfield 339, 3) := dk_180 1 83 (dk_at dksX2_keepAct_3 11 rfl rfl)
theorem dX2_keepAct_86 : decode cX2_keepAct 86 = .ok (.iconst 1, 1) := dk_4 (dk_at dksX2_keepAct_3 14 rfl rfl)
theorem dX2_keepAct_87 : decode cX2_keepAct 87 = .ok (.iadd, 1) := dk_96 (dk_at dksX2_keepAct_3 15 rfl rfl)
theorem dX2_keepAct_88 : decode cX2_keepAct 88 = .ok (.putfield 339, 3) := dk_181 1 83 (dk_at dksX2_keepAct_3 16 rfl rfl)
theorem dX2_keepAct_91 : decode cX2_keepAct 91 = .ok (.aload_n 0, 1) := dk_42 (dk_at dksX2_keepAct_3 19 rfl rfl)
theorem dX2_keepAct_92 : decode cX2_keepAct 92 = .ok (.iconst 0, 1) := dk_3 (dk_at dksX2_keepAct_3 20 rfl rfl)
theorem dX2_keepAct_93 : decode cX2_keepAct 93 = .ok (.putfield 342, 3) := dk_181 1 86 (dk_at dksX2_keepAct_3 21 rfl rfl)
theorem dX2_keepAct_96 : decode cX2_keepAct 96 = .ok (.return_, 1) := dk_177 (dk_at dksX2_keepAct_4 0 rfl rfl)
abbrev cX2_sell : ByteArray := prog_9_method_57_code
def yX2_sell : MethodName := ⟨RX2, "sell", "(II)I"⟩
def dkwX2_sell_1 : List UInt8 := [2, 172, 42, 180, 0, 95, 27, 46, 62, 42, 27, 29, 182, 1, 114, 42, 180, 0, 95, 27, 28, 79, 29, 172]
abbrev dktX2_sell_1 : List UInt8 := dkwX2_sell_1 ++ []
def dkwX2_sell_0 : List UInt8 := [27, 42, 180, 1, 80, 42, 182, 1, 46, 4, 100, 184, 1, 42, 153, 0, 10, 28, 184, 1, 52, 154, 0, 5]
abbrev dktX2_sell_0 : List UInt8 := dkwX2_sell_0 ++ dktX2_sell_1
theorem dksX2_sell_0 : cX2_sell.data.toList.drop 0 = dktX2_sell_0 := by decide +kernel
theorem dksX2_sell_1 : cX2_sell.data.toList.drop 24 = dktX2_sell_1 := dk_seg dksX2_sell_0 24 rfl rfl
theorem dX2_sell_0 : decode cX2_sell 0 = .ok (.iload_n 1, 1) := dk_27 (dk_at dksX2_sell_0 0 rfl rfl)
theorem dX2_sell_1 : decode cX2_sell 1 = .ok (.aload_n 0, 1) := dk_42 (dk_at dksX2_sell_0 1 rfl rfl)
theorem dX2_sell_2 : decode cX2_sell 2 = .ok (.getfield 336, 3) := dk_180 1 80 (dk_at dksX2_sell_0 2 rfl rfl)
theorem dX2_sell_5 : decode cX2_sell 5 = .ok (.aload_n 0, 1) := dk_42 (dk_at dksX2_sell_0 5 rfl rfl)
theorem dX2_sell_6 : decode cX2_sell 6 = .ok (.invokevirtual 302, 3) := dk_182 1 46 (dk_at dksX2_sell_0 6 rfl rfl)
theorem dX2_sell_9 : decode cX2_sell 9 = .ok (.iconst 1, 1) := dk_4 (dk_at dksX2_sell_0 9 rfl rfl)
theorem dX2_sell_10 : decode cX2_sell 10 = .ok (.isub, 1) := dk_100 (dk_at dksX2_sell_0 10 rfl rfl)
theorem dX2_sell_11 : decode cX2_sell 11 = .ok (.invokestatic 298, 3) := dk_184 1 42 (dk_at dksX2_sell_0 11 rfl rfl)
theorem dX2_sell_14 : decode cX2_sell 14 = .ok (.ifCond .eq 10, 3) := dk_153 0 10 (dk_at dksX2_sell_0 14 rfl rfl)
theorem dX2_sell_17 : decode cX2_sell 17 = .ok (.iload_n 2, 1) := dk_28 (dk_at dksX2_sell_0 17 rfl rfl)
theorem dX2_sell_18 : decode cX2_sell 18 = .ok (.invokestatic 308, 3) := dk_184 1 52 (dk_at dksX2_sell_0 18 rfl rfl)
theorem dX2_sell_21 : decode cX2_sell 21 = .ok (.ifCond .ne 5, 3) := dk_154 0 5 (dk_at dksX2_sell_0 21 rfl rfl)
theorem dX2_sell_24 : decode cX2_sell 24 = .ok (.iconst (-1), 1) := dk_2 (dk_at dksX2_sell_1 0 rfl rfl)
theorem dX2_sell_25 : decode cX2_sell 25 = .ok (.ireturn, 1) := dk_172 (dk_at dksX2_sell_1 1 rfl rfl)
theorem dX2_sell_26 : decode cX2_sell 26 = .ok (.aload_n 0, 1) := dk_42 (dk_at dksX2_sell_1 2 rfl rfl)
theorem dX2_sell_27 : decode cX2_sell 27 = .ok (.getfield 95, 3) := dk_180 0 95 (dk_at dksX2_sell_1 3 rfl rfl)
theorem dX2_sell_30 : decode cX2_sell 30 = .ok (.iload_n 1, 1) := dk_27 (dk_at dksX2_sell_1 6 rfl rfl)
theorem dX2_sell_31 : decode cX2_sell 31 = .ok (.iaload, 1) := dk_46 (dk_at dksX2_sell_1 7 rfl rfl)
theorem dX2_sell_32 : decode cX2_sell 32 = .ok (.istore_n 3, 1) := dk_62 (dk_at dksX2_sell_1 8 rfl rfl)
theorem dX2_sell_33 : decode cX2_sell 33 = .ok (.aload_n 0, 1) := dk_42 (dk_at dksX2_sell_1 9 rfl rfl)
theorem dX2_sell_34 : decode cX2_sell 34 = .ok (.iload_n 1, 1) := dk_27 (dk_at dksX2_sell_1 10 rfl rfl)
theorem dX2_sell_35 : decode cX2_sell 35 = .ok (.iload_n 3, 1) := dk_29 (dk_at dksX2_sell_1 11 rfl rfl)
theorem dX2_sell_36 : decode cX2_sell 36 = .ok (.invokevirtual 370, 3) := dk_182 1 114 (dk_at dksX2_sell_1 12 rfl rfl)
theorem dX2_sell_39 : decode cX2_sell 39 = .ok (.aload_n 0, 1) := dk_42 (dk_at dksX2_sell_1 15 rfl rfl)
theorem dX2_sell_40 : decode cX2_sell 40 = .ok (.getfield 95, 3) := dk_180 0 95 (dk_at dksX2_sell_1 16 rfl rfl)
theorem dX2_sell_43 : decode cX2_sell 43 = .ok (.iload_n 1, 1) := dk_27 (dk_at dksX2_sell_1 19 rfl rfl)
theorem dX2_sell_44 : decode cX2_sell 44 = .ok (.iload_n 2, 1) := dk_28 (dk_at dksX2_sell_1 20 rfl rfl)
theorem dX2_sell_45 : decode cX2_sell 45 = .ok (.iastore, 1) := dk_79 (dk_at dksX2_sell_1 21 rfl rfl)
theorem dX2_sell_46 : decode cX2_sell 46 = .ok (.iload_n 3, 1) := dk_29 (dk_at dksX2_sell_1 22 rfl rfl)
theorem dX2_sell_47 : decode cX2_sell 47 = .ok (.ireturn, 1) := dk_172 (dk_at dksX2_sell_1 23 rfl rfl)
abbrev cX2_undo : ByteArray := prog_9_method_59_code
def yX2_undo : MethodName := ⟨RX2, "undo", "()Z"⟩
def dkwX2_undo_1 : List UInt8 := [4, 96, 181, 1, 86, 42, 4, 182, 1, 117, 4, 172]
abbrev dktX2_undo_1 : List UInt8 := dkwX2_undo_1 ++ []
def dkwX2_undo_0 : List UInt8 := [42, 180, 1, 83, 154, 0, 5, 3, 172, 42, 89, 180, 1, 83, 4, 100, 181, 1, 83, 42, 89, 180, 1, 86]
abbrev dktX2_undo_0 : List UInt8 := dkwX2_undo_0 ++ dktX2_undo_1
theorem dksX2_undo_0 : cX2_undo.data.toList.drop 0 = dktX2_undo_0 := by decide +kernel
theorem dksX2_undo_1 : cX2_undo.data.toList.drop 24 = dktX2_undo_1 := dk_seg dksX2_undo_0 24 rfl rfl
theorem dX2_undo_0 : decode cX2_undo 0 = .ok (.aload_n 0, 1) := dk_42 (dk_at dksX2_undo_0 0 rfl rfl)
theorem dX2_undo_1 : decode cX2_undo 1 = .ok (.getfield 339, 3) := dk_180 1 83 (dk_at dksX2_undo_0 1 rfl rfl)
theorem dX2_undo_4 : decode cX2_undo 4 = .ok (.ifCond .ne 5, 3) := dk_154 0 5 (dk_at dksX2_undo_0 4 rfl rfl)
theorem dX2_undo_7 : decode cX2_undo 7 = .ok (.iconst 0, 1) := dk_3 (dk_at dksX2_undo_0 7 rfl rfl)
theorem dX2_undo_8 : decode cX2_undo 8 = .ok (.ireturn, 1) := dk_172 (dk_at dksX2_undo_0 8 rfl rfl)
theorem dX2_undo_9 : decode cX2_undo 9 = .ok (.aload_n 0, 1) := dk_42 (dk_at dksX2_undo_0 9 rfl rfl)
theorem dX2_undo_10 : decode cX2_undo 10 = .ok (.dup, 1) := dk_89 (dk_at dksX2_undo_0 10 rfl rfl)
theorem dX2_undo_11 : decode cX2_undo 11 = .ok (.getfield 339, 3) := dk_180 1 83 (dk_at dksX2_undo_0 11 rfl rfl)
theorem dX2_undo_14 : decode cX2_undo 14 = .ok (.iconst 1, 1) := dk_4 (dk_at dksX2_undo_0 14 rfl rfl)
theorem dX2_undo_15 : decode cX2_undo 15 = .ok (.isub, 1) := dk_100 (dk_at dksX2_undo_0 15 rfl rfl)
theorem dX2_undo_16 : decode cX2_undo 16 = .ok (.putfield 339, 3) := dk_181 1 83 (dk_at dksX2_undo_0 16 rfl rfl)
theorem dX2_undo_19 : decode cX2_undo 19 = .ok (.aload_n 0, 1) := dk_42 (dk_at dksX2_undo_0 19 rfl rfl)
theorem dX2_undo_20 : decode cX2_undo 20 = .ok (.dup, 1) := dk_89 (dk_at dksX2_undo_0 20 rfl rfl)
theorem dX2_undo_21 : decode cX2_undo 21 = .ok (.getfield 342, 3) := dk_180 1 86 (dk_at dksX2_undo_0 21 rfl rfl)
theorem dX2_undo_24 : decode cX2_undo 24 = .ok (.iconst 1, 1) := dk_4 (dk_at dksX2_undo_1 0 rfl rfl)
theorem dX2_undo_25 : decode cX2_undo 25 = .ok (.iadd, 1) := dk_96 (dk_at dksX2_undo_1 1 rfl rfl)
theorem dX2_undo_26 : decode cX2_undo 26 = .ok (.putfield 342, 3) := dk_181 1 86 (dk_at dksX2_undo_1 2 rfl rfl)
theorem dX2_undo_29 : decode cX2_undo 29 = .ok (.aload_n 0, 1) := dk_42 (dk_at dksX2_undo_1 5 rfl rfl)
theorem dX2_undo_30 : decode cX2_undo 30 = .ok (.iconst 1, 1) := dk_4 (dk_at dksX2_undo_1 6 rfl rfl)
theorem dX2_undo_31 : decode cX2_undo 31 = .ok (.invokevirtual 373, 3) := dk_182 1 117 (dk_at dksX2_undo_1 7 rfl rfl)
theorem dX2_undo_34 : decode cX2_undo 34 = .ok (.iconst 1, 1) := dk_4 (dk_at dksX2_undo_1 10 rfl rfl)
theorem dX2_undo_35 : decode cX2_undo 35 = .ok (.ireturn, 1) := dk_172 (dk_at dksX2_undo_1 11 rfl rfl)
abbrev cX2_exchange : ByteArray := prog_9_method_58_code
def yX2_exchange : MethodName := ⟨RX2, "exchange", "(Z)V"⟩
def dkwX2_exchange_4 : List UInt8 := [180, 0, 104, 42, 180, 1, 83, 28, 79, 177]
abbrev dktX2_exchange_4 : List UInt8 := dkwX2_exchange_4 ++ []
def dkwX2_exchange_3 : List UInt8 := [42, 180, 0, 95, 42, 180, 0, 101, 42, 180, 1, 83, 46, 42, 180, 0, 104, 42, 180, 1, 83, 46, 79, 42]
abbrev dktX2_exchange_3 : List UInt8 := dkwX2_exchange_3 ++ dktX2_exchange_4
def dkwX2_exchange_2 : List UInt8 := [167, 0, 4, 4, 96, 181, 1, 80, 177, 42, 180, 0, 95, 42, 180, 0, 101, 42, 180, 1, 83, 46, 46, 61]
abbrev dktX2_exchange_2 : List UInt8 := dkwX2_exchange_2 ++ dktX2_exchange_3
def dkwX2_exchange_1 : List UInt8 := [180, 1, 80, 42, 180, 0, 104, 42, 180, 1, 83, 46, 79, 42, 89, 180, 1, 80, 27, 153, 0, 7, 2]
abbrev dktX2_exchange_1 : List UInt8 := dkwX2_exchange_1 ++ dktX2_exchange_2
def dkwX2_exchange_0 : List UInt8 := [42, 180, 0, 101, 42, 180, 1, 83, 46, 2, 160, 0, 44, 27, 154, 0, 21, 42, 180, 0, 92, 42]
abbrev dktX2_exchange_0 : List UInt8 := dkwX2_exchange_0 ++ dktX2_exchange_1
theorem dksX2_exchange_0 : cX2_exchange.data.toList.drop 0 = dktX2_exchange_0 := by decide +kernel
theorem dksX2_exchange_1 : cX2_exchange.data.toList.drop 22 = dktX2_exchange_1 := dk_seg dksX2_exchange_0 22 rfl rfl
theorem dksX2_exchange_2 : cX2_exchange.data.toList.drop 45 = dktX2_exchange_2 := dk_seg dksX2_exchange_1 23 rfl rfl
theorem dksX2_exchange_3 : cX2_exchange.data.toList.drop 69 = dktX2_exchange_3 := dk_seg dksX2_exchange_2 24 rfl rfl
theorem dksX2_exchange_4 : cX2_exchange.data.toList.drop 93 = dktX2_exchange_4 := dk_seg dksX2_exchange_3 24 rfl rfl
theorem dX2_exchange_0 : decode cX2_exchange 0 = .ok (.aload_n 0, 1) := dk_42 (dk_at dksX2_exchange_0 0 rfl rfl)
theorem dX2_exchange_1 : decode cX2_exchange 1 = .ok (.getfield 101, 3) := dk_180 0 101 (dk_at dksX2_exchange_0 1 rfl rfl)
theorem dX2_exchange_4 : decode cX2_exchange 4 = .ok (.aload_n 0, 1) := dk_42 (dk_at dksX2_exchange_0 4 rfl rfl)
theorem dX2_exchange_5 : decode cX2_exchange 5 = .ok (.getfield 339, 3) := dk_180 1 83 (dk_at dksX2_exchange_0 5 rfl rfl)
theorem dX2_exchange_8 : decode cX2_exchange 8 = .ok (.iaload, 1) := dk_46 (dk_at dksX2_exchange_0 8 rfl rfl)
theorem dX2_exchange_9 : decode cX2_exchange 9 = .ok (.iconst (-1), 1) := dk_2 (dk_at dksX2_exchange_0 9 rfl rfl)
theorem dX2_exchange_10 : decode cX2_exchange 10 = .ok (.if_icmp .ne 44, 3) := dk_160 0 44 (dk_at dksX2_exchange_0 10 rfl rfl)
theorem dX2_exchange_13 : decode cX2_exchange 13 = .ok (.iload_n 1, 1) := dk_27 (dk_at dksX2_exchange_0 13 rfl rfl)
theorem dX2_exchange_14 : decode cX2_exchange 14 = .ok (.ifCond .ne 21, 3) := dk_154 0 21 (dk_at dksX2_exchange_0 14 rfl rfl)
theorem dX2_exchange_17 : decode cX2_exchange 17 = .ok (.aload_n 0, 1) := dk_42 (dk_at dksX2_exchange_0 17 rfl rfl)
theorem dX2_exchange_18 : decode cX2_exchange 18 = .ok (.getfield 92, 3) := dk_180 0 92 (dk_at dksX2_exchange_0 18 rfl rfl)
theorem dX2_exchange_21 : decode cX2_exchange 21 = .ok (.aload_n 0, 1) := dk_42 (dk_at dksX2_exchange_0 21 rfl rfl)
theorem dX2_exchange_22 : decode cX2_exchange 22 = .ok (.getfield 336, 3) := dk_180 1 80 (dk_at dksX2_exchange_1 0 rfl rfl)
theorem dX2_exchange_25 : decode cX2_exchange 25 = .ok (.aload_n 0, 1) := dk_42 (dk_at dksX2_exchange_1 3 rfl rfl)
theorem dX2_exchange_26 : decode cX2_exchange 26 = .ok (.getfield 104, 3) := dk_180 0 104 (dk_at dksX2_exchange_1 4 rfl rfl)
theorem dX2_exchange_29 : decode cX2_exchange 29 = .ok (.aload_n 0, 1) := dk_42 (dk_at dksX2_exchange_1 7 rfl rfl)
theorem dX2_exchange_30 : decode cX2_exchange 30 = .ok (.getfield 339, 3) := dk_180 1 83 (dk_at dksX2_exchange_1 8 rfl rfl)
theorem dX2_exchange_33 : decode cX2_exchange 33 = .ok (.iaload, 1) := dk_46 (dk_at dksX2_exchange_1 11 rfl rfl)
theorem dX2_exchange_34 : decode cX2_exchange 34 = .ok (.iastore, 1) := dk_79 (dk_at dksX2_exchange_1 12 rfl rfl)
theorem dX2_exchange_35 : decode cX2_exchange 35 = .ok (.aload_n 0, 1) := dk_42 (dk_at dksX2_exchange_1 13 rfl rfl)
theorem dX2_exchange_36 : decode cX2_exchange 36 = .ok (.dup, 1) := dk_89 (dk_at dksX2_exchange_1 14 rfl rfl)
theorem dX2_exchange_37 : decode cX2_exchange 37 = .ok (.getfield 336, 3) := dk_180 1 80 (dk_at dksX2_exchange_1 15 rfl rfl)
theorem dX2_exchange_40 : decode cX2_exchange 40 = .ok (.iload_n 1, 1) := dk_27 (dk_at dksX2_exchange_1 18 rfl rfl)
theorem dX2_exchange_41 : decode cX2_exchange 41 = .ok (.ifCond .eq 7, 3) := dk_153 0 7 (dk_at dksX2_exchange_1 19 rfl rfl)
theorem dX2_exchange_44 : decode cX2_exchange 44 = .ok (.iconst (-1), 1) := dk_2 (dk_at dksX2_exchange_1 22 rfl rfl)
theorem dX2_exchange_45 : decode cX2_exchange 45 = .ok (.goto 4, 3) := dk_167 0 4 (dk_at dksX2_exchange_2 0 rfl rfl)
theorem dX2_exchange_48 : decode cX2_exchange 48 = .ok (.iconst 1, 1) := dk_4 (dk_at dksX2_exchange_2 3 rfl rfl)
theorem dX2_exchange_49 : decode cX2_exchange 49 = .ok (.iadd, 1) := dk_96 (dk_at dksX2_exchange_2 4 rfl rfl)
theorem dX2_exchange_50 : decode cX2_exchange 50 = .ok (.putfield 336, 3) := dk_181 1 80 (dk_at dksX2_exchange_2 5 rfl rfl)
theorem dX2_exchange_53 : decode cX2_exchange 53 = .ok (.return_, 1) := dk_177 (dk_at dksX2_exchange_2 8 rfl rfl)
theorem dX2_exchange_54 : decode cX2_exchange 54 = .ok (.aload_n 0, 1) := dk_42 (dk_at dksX2_exchange_2 9 rfl rfl)
theorem dX2_exchange_55 : decode cX2_exchange 55 = .ok (.getfield 95, 3) := dk_180 0 95 (dk_at dksX2_exchange_2 10 rfl rfl)
theorem dX2_exchange_58 : decode cX2_exchange 58 = .ok (.aload_n 0, 1) := dk_42 (dk_at dksX2_exchange_2 13 rfl rfl)
theorem dX2_exchange_59 : decode cX2_exchange 59 = .ok (.getfield 101, 3) := dk_180 0 101 (dk_at dksX2_exchange_2 14 rfl rfl)
theorem dX2_exchange_62 : decode cX2_exchange 62 = .ok (.aload_n 0, 1) := dk_42 (dk_at dksX2_exchange_2 17 rfl rfl)
theorem dX2_exchange_63 : decode cX2_exchange 63 = .ok (.getfield 339, 3) := dk_180 1 83 (dk_at dksX2_exchange_2 18 rfl rfl)
theorem dX2_exchange_66 : decode cX2_exchange 66 = .ok (.iaload, 1) := dk_46 (dk_at dksX2_exchange_2 21 rfl rfl)
theorem dX2_exchange_67 : decode cX2_exchange 67 = .ok (.iaload, 1) := dk_46 (dk_at dksX2_exchange_2 22 rfl rfl)
theorem dX2_exchange_68 : decode cX2_exchange 68 = .ok (.istore_n 2, 1) := dk_61 (dk_at dksX2_exchange_2 23 rfl rfl)
theorem dX2_exchange_69 : decode cX2_exchange 69 = .ok (.aload_n 0, 1) := dk_42 (dk_at dksX2_exchange_3 0 rfl rfl)
theorem dX2_exchange_70 : decode cX2_exchange 70 = .ok (.getfield 95, 3) := dk_180 0 95 (dk_at dksX2_exchange_3 1 rfl rfl)
theorem dX2_exchange_73 : decode cX2_exchange 73 = .ok (.aload_n 0, 1) := dk_42 (dk_at dksX2_exchange_3 4 rfl rfl)
theorem dX2_exchange_74 : decode cX2_exchange 74 = .ok (.getfield 101, 3) := dk_180 0 101 (dk_at dksX2_exchange_3 5 rfl rfl)
theorem dX2_exchange_77 : decode cX2_exchange 77 = .ok (.aload_n 0, 1) := dk_42 (dk_at dksX2_exchange_3 8 rfl rfl)
theorem dX2_exchange_78 : decode cX2_exchange 78 = .ok (.getfield 339, 3) := dk_180 1 83 (dk_at dksX2_exchange_3 9 rfl rfl)
theorem dX2_exchange_81 : decode cX2_exchange 81 = .ok (.iaload, 1) := dk_46 (dk_at dksX2_exchange_3 12 rfl rfl)
theorem dX2_exchange_82 : decode cX2_exchange 82 = .ok (.aload_n 0, 1) := dk_42 (dk_at dksX2_exchange_3 13 rfl rfl)
theorem dX2_exchange_83 : decode cX2_exchange 83 = .ok (.getfield 104, 3) := dk_180 0 104 (dk_at dksX2_exchange_3 14 rfl rfl)
theorem dX2_exchange_86 : decode cX2_exchange 86 = .ok (.aload_n 0, 1) := dk_42 (dk_at dksX2_exchange_3 17 rfl rfl)
theorem dX2_exchange_87 : decode cX2_exchange 87 = .ok (.getfield 339, 3) := dk_180 1 83 (dk_at dksX2_exchange_3 18 rfl rfl)
theorem dX2_exchange_90 : decode cX2_exchange 90 = .ok (.iaload, 1) := dk_46 (dk_at dksX2_exchange_3 21 rfl rfl)
theorem dX2_exchange_91 : decode cX2_exchange 91 = .ok (.iastore, 1) := dk_79 (dk_at dksX2_exchange_3 22 rfl rfl)
theorem dX2_exchange_92 : decode cX2_exchange 92 = .ok (.aload_n 0, 1) := dk_42 (dk_at dksX2_exchange_3 23 rfl rfl)
theorem dX2_exchange_93 : decode cX2_exchange 93 = .ok (.getfield 104, 3) := dk_180 0 104 (dk_at dksX2_exchange_4 0 rfl rfl)
theorem dX2_exchange_96 : decode cX2_exchange 96 = .ok (.aload_n 0, 1) := dk_42 (dk_at dksX2_exchange_4 3 rfl rfl)
theorem dX2_exchange_97 : decode cX2_exchange 97 = .ok (.getfield 339, 3) := dk_180 1 83 (dk_at dksX2_exchange_4 4 rfl rfl)
theorem dX2_exchange_100 : decode cX2_exchange 100 = .ok (.iload_n 2, 1) := dk_28 (dk_at dksX2_exchange_4 7 rfl rfl)
theorem dX2_exchange_101 : decode cX2_exchange 101 = .ok (.iastore, 1) := dk_79 (dk_at dksX2_exchange_4 8 rfl rfl)
theorem dX2_exchange_102 : decode cX2_exchange 102 = .ok (.return_, 1) := dk_177 (dk_at dksX2_exchange_4 9 rfl rfl)
abbrev cX2_redo : ByteArray := prog_9_method_60_code
def yX2_redo : MethodName := ⟨RX2, "redo", "()Z"⟩
def dkwX2_redo_1 : List UInt8 := [42, 89, 180, 1, 86, 4, 100, 181, 1, 86, 4, 172]
abbrev dktX2_redo_1 : List UInt8 := dkwX2_redo_1 ++ []
def dkwX2_redo_0 : List UInt8 := [42, 180, 1, 86, 154, 0, 5, 3, 172, 42, 3, 182, 1, 117, 42, 89, 180, 1, 83, 4, 96, 181, 1, 83]
abbrev dktX2_redo_0 : List UInt8 := dkwX2_redo_0 ++ dktX2_redo_1
theorem dksX2_redo_0 : cX2_redo.data.toList.drop 0 = dktX2_redo_0 := by decide +kernel
theorem dksX2_redo_1 : cX2_redo.data.toList.drop 24 = dktX2_redo_1 := dk_seg dksX2_redo_0 24 rfl rfl
theorem dX2_redo_0 : decode cX2_redo 0 = .ok (.aload_n 0, 1) := dk_42 (dk_at dksX2_redo_0 0 rfl rfl)
theorem dX2_redo_1 : decode cX2_redo 1 = .ok (.getfield 342, 3) := dk_180 1 86 (dk_at dksX2_redo_0 1 rfl rfl)
theorem dX2_redo_4 : decode cX2_redo 4 = .ok (.ifCond .ne 5, 3) := dk_154 0 5 (dk_at dksX2_redo_0 4 rfl rfl)
theorem dX2_redo_7 : decode cX2_redo 7 = .ok (.iconst 0, 1) := dk_3 (dk_at dksX2_redo_0 7 rfl rfl)
theorem dX2_redo_8 : decode cX2_redo 8 = .ok (.ireturn, 1) := dk_172 (dk_at dksX2_redo_0 8 rfl rfl)
theorem dX2_redo_9 : decode cX2_redo 9 = .ok (.aload_n 0, 1) := dk_42 (dk_at dksX2_redo_0 9 rfl rfl)
theorem dX2_redo_10 : decode cX2_redo 10 = .ok (.iconst 0, 1) := dk_3 (dk_at dksX2_redo_0 10 rfl rfl)
theorem dX2_redo_11 : decode cX2_redo 11 = .ok (.invokevirtual 373, 3) := dk_182 1 117 (dk_at dksX2_redo_0 11 rfl rfl)
theorem dX2_redo_14 : decode cX2_redo 14 = .ok (.aload_n 0, 1) := dk_42 (dk_at dksX2_redo_0 14 rfl rfl)
theorem dX2_redo_15 : decode cX2_redo 15 = .ok (.dup, 1) := dk_89 (dk_at dksX2_redo_0 15 rfl rfl)
theorem dX2_redo_16 : decode cX2_redo 16 = .ok (.getfield 339, 3) := dk_180 1 83 (dk_at dksX2_redo_0 16 rfl rfl)
theorem dX2_redo_19 : decode cX2_redo 19 = .ok (.iconst 1, 1) := dk_4 (dk_at dksX2_redo_0 19 rfl rfl)
theorem dX2_redo_20 : decode cX2_redo 20 = .ok (.iadd, 1) := dk_96 (dk_at dksX2_redo_0 20 rfl rfl)
theorem dX2_redo_21 : decode cX2_redo 21 = .ok (.putfield 339, 3) := dk_181 1 83 (dk_at dksX2_redo_0 21 rfl rfl)
theorem dX2_redo_24 : decode cX2_redo 24 = .ok (.aload_n 0, 1) := dk_42 (dk_at dksX2_redo_1 0 rfl rfl)
theorem dX2_redo_25 : decode cX2_redo 25 = .ok (.dup, 1) := dk_89 (dk_at dksX2_redo_1 1 rfl rfl)
theorem dX2_redo_26 : decode cX2_redo 26 = .ok (.getfield 342, 3) := dk_180 1 86 (dk_at dksX2_redo_1 2 rfl rfl)
theorem dX2_redo_29 : decode cX2_redo 29 = .ok (.iconst 1, 1) := dk_4 (dk_at dksX2_redo_1 5 rfl rfl)
theorem dX2_redo_30 : decode cX2_redo 30 = .ok (.isub, 1) := dk_100 (dk_at dksX2_redo_1 6 rfl rfl)
theorem dX2_redo_31 : decode cX2_redo 31 = .ok (.putfield 342, 3) := dk_181 1 86 (dk_at dksX2_redo_1 7 rfl rfl)
theorem dX2_redo_34 : decode cX2_redo 34 = .ok (.iconst 1, 1) := dk_4 (dk_at dksX2_redo_1 10 rfl rfl)
theorem dX2_redo_35 : decode cX2_redo 35 = .ok (.ireturn, 1) := dk_172 (dk_at dksX2_redo_1 11 rfl rfl)
abbrev cX2_wipe : ByteArray := prog_9_method_61_code
def yX2_wipe : MethodName := ⟨RX2, "wipe", "()I"⟩
def dkwX2_wipe_0 : List UInt8 := [42, 180, 1, 80, 60, 42, 182, 0, 161, 27, 172]
abbrev dktX2_wipe_0 : List UInt8 := dkwX2_wipe_0 ++ []
theorem dksX2_wipe_0 : cX2_wipe.data.toList.drop 0 = dktX2_wipe_0 := by decide +kernel
theorem dX2_wipe_0 : decode cX2_wipe 0 = .ok (.aload_n 0, 1) := dk_42 (dk_at dksX2_wipe_0 0 rfl rfl)
theorem dX2_wipe_1 : decode cX2_wipe 1 = .ok (.getfield 336, 3) := dk_180 1 80 (dk_at dksX2_wipe_0 1 rfl rfl)
theorem dX2_wipe_4 : decode cX2_wipe 4 = .ok (.istore_n 1, 1) := dk_60 (dk_at dksX2_wipe_0 4 rfl rfl)
theorem dX2_wipe_5 : decode cX2_wipe 5 = .ok (.aload_n 0, 1) := dk_42 (dk_at dksX2_wipe_0 5 rfl rfl)
theorem dX2_wipe_6 : decode cX2_wipe 6 = .ok (.invokevirtual 161, 3) := dk_182 0 161 (dk_at dksX2_wipe_0 6 rfl rfl)
theorem dX2_wipe_9 : decode cX2_wipe 9 = .ok (.iload_n 1, 1) := dk_27 (dk_at dksX2_wipe_0 9 rfl rfl)
theorem dX2_wipe_10 : decode cX2_wipe 10 = .ok (.ireturn, 1) := dk_172 (dk_at dksX2_wipe_0 10 rfl rfl)
abbrev cX2_lies : ByteArray := prog_9_method_80_code
def yX2_lies : MethodName := ⟨RX2, "lies", "(I)I"⟩
def dkwX2_lies_1 : List UInt8 := [172]
abbrev dktX2_lies_1 : List UInt8 := dkwX2_lies_1 ++ []
def dkwX2_lies_0 : List UInt8 := [27, 3, 42, 180, 0, 248, 4, 100, 184, 1, 42, 153, 0, 12, 42, 180, 0, 128, 27, 46, 167, 0, 4, 2]
abbrev dktX2_lies_0 : List UInt8 := dkwX2_lies_0 ++ dktX2_lies_1
theorem dksX2_lies_0 : cX2_lies.data.toList.drop 0 = dktX2_lies_0 := by decide +kernel
theorem dksX2_lies_1 : cX2_lies.data.toList.drop 24 = dktX2_lies_1 := dk_seg dksX2_lies_0 24 rfl rfl
theorem dX2_lies_0 : decode cX2_lies 0 = .ok (.iload_n 1, 1) := dk_27 (dk_at dksX2_lies_0 0 rfl rfl)
theorem dX2_lies_1 : decode cX2_lies 1 = .ok (.iconst 0, 1) := dk_3 (dk_at dksX2_lies_0 1 rfl rfl)
theorem dX2_lies_2 : decode cX2_lies 2 = .ok (.aload_n 0, 1) := dk_42 (dk_at dksX2_lies_0 2 rfl rfl)
theorem dX2_lies_3 : decode cX2_lies 3 = .ok (.getfield 248, 3) := dk_180 0 248 (dk_at dksX2_lies_0 3 rfl rfl)
theorem dX2_lies_6 : decode cX2_lies 6 = .ok (.iconst 1, 1) := dk_4 (dk_at dksX2_lies_0 6 rfl rfl)
theorem dX2_lies_7 : decode cX2_lies 7 = .ok (.isub, 1) := dk_100 (dk_at dksX2_lies_0 7 rfl rfl)
theorem dX2_lies_8 : decode cX2_lies 8 = .ok (.invokestatic 298, 3) := dk_184 1 42 (dk_at dksX2_lies_0 8 rfl rfl)
theorem dX2_lies_11 : decode cX2_lies 11 = .ok (.ifCond .eq 12, 3) := dk_153 0 12 (dk_at dksX2_lies_0 11 rfl rfl)
theorem dX2_lies_14 : decode cX2_lies 14 = .ok (.aload_n 0, 1) := dk_42 (dk_at dksX2_lies_0 14 rfl rfl)
theorem dX2_lies_15 : decode cX2_lies 15 = .ok (.getfield 128, 3) := dk_180 0 128 (dk_at dksX2_lies_0 15 rfl rfl)
theorem dX2_lies_18 : decode cX2_lies 18 = .ok (.iload_n 1, 1) := dk_27 (dk_at dksX2_lies_0 18 rfl rfl)
theorem dX2_lies_19 : decode cX2_lies 19 = .ok (.iaload, 1) := dk_46 (dk_at dksX2_lies_0 19 rfl rfl)
theorem dX2_lies_20 : decode cX2_lies 20 = .ok (.goto 4, 3) := dk_167 0 4 (dk_at dksX2_lies_0 20 rfl rfl)
theorem dX2_lies_23 : decode cX2_lies 23 = .ok (.iconst (-1), 1) := dk_2 (dk_at dksX2_lies_0 23 rfl rfl)
theorem dX2_lies_24 : decode cX2_lies 24 = .ok (.ireturn, 1) := dk_172 (dk_at dksX2_lies_1 0 rfl rfl)
abbrev cX2_written : ByteArray := prog_9_method_81_code
def yX2_written : MethodName := ⟨RX2, "written", "(I)I"⟩
def dkwX2_written_2 : List UInt8 := [180, 0, 110, 6, 28, 104, 27, 96, 46, 172]
abbrev dktX2_written_2 : List UInt8 := dkwX2_written_2 ++ []
def dkwX2_written_1 : List UInt8 := [182, 1, 181, 42, 3, 182, 1, 184, 61, 28, 156, 0, 7, 19, 1, 55, 172, 42, 28, 182, 1, 187, 42]
abbrev dktX2_written_1 : List UInt8 := dkwX2_written_1 ++ dktX2_written_2
def dkwX2_written_0 : List UInt8 := [42, 3, 181, 0, 248, 27, 184, 1, 52, 153, 0, 10, 42, 182, 1, 178, 154, 0, 7, 19, 1, 55, 172, 42]
abbrev dktX2_written_0 : List UInt8 := dkwX2_written_0 ++ dktX2_written_1
theorem dksX2_written_0 : cX2_written.data.toList.drop 0 = dktX2_written_0 := by decide +kernel
theorem dksX2_written_1 : cX2_written.data.toList.drop 24 = dktX2_written_1 := dk_seg dksX2_written_0 24 rfl rfl
theorem dksX2_written_2 : cX2_written.data.toList.drop 47 = dktX2_written_2 := dk_seg dksX2_written_1 23 rfl rfl
theorem dX2_written_0 : decode cX2_written 0 = .ok (.aload_n 0, 1) := dk_42 (dk_at dksX2_written_0 0 rfl rfl)
theorem dX2_written_1 : decode cX2_written 1 = .ok (.iconst 0, 1) := dk_3 (dk_at dksX2_written_0 1 rfl rfl)
theorem dX2_written_2 : decode cX2_written 2 = .ok (.putfield 248, 3) := dk_181 0 248 (dk_at dksX2_written_0 2 rfl rfl)
theorem dX2_written_5 : decode cX2_written 5 = .ok (.iload_n 1, 1) := dk_27 (dk_at dksX2_written_0 5 rfl rfl)
theorem dX2_written_6 : decode cX2_written 6 = .ok (.invokestatic 308, 3) := dk_184 1 52 (dk_at dksX2_written_0 6 rfl rfl)
theorem dX2_written_9 : decode cX2_written 9 = .ok (.ifCond .eq 10, 3) := dk_153 0 10 (dk_at dksX2_written_0 9 rfl rfl)
theorem dX2_written_12 : decode cX2_written 12 = .ok (.aload_n 0, 1) := dk_42 (dk_at dksX2_written_0 12 rfl rfl)
theorem dX2_written_13 : decode cX2_written 13 = .ok (.invokevirtual 434, 3) := dk_182 1 178 (dk_at dksX2_written_0 13 rfl rfl)
theorem dX2_written_16 : decode cX2_written 16 = .ok (.ifCond .ne 7, 3) := dk_154 0 7 (dk_at dksX2_written_0 16 rfl rfl)
theorem dX2_written_19 : decode cX2_written 19 = .ok (.ldc_w 311, 3) := dk_19 1 55 (dk_at dksX2_written_0 19 rfl rfl)
theorem dX2_written_22 : decode cX2_written 22 = .ok (.ireturn, 1) := dk_172 (dk_at dksX2_written_0 22 rfl rfl)
theorem dX2_written_23 : decode cX2_written 23 = .ok (.aload_n 0, 1) := dk_42 (dk_at dksX2_written_0 23 rfl rfl)
theorem dX2_written_24 : decode cX2_written 24 = .ok (.invokevirtual 437, 3) := dk_182 1 181 (dk_at dksX2_written_1 0 rfl rfl)
theorem dX2_written_27 : decode cX2_written 27 = .ok (.aload_n 0, 1) := dk_42 (dk_at dksX2_written_1 3 rfl rfl)
theorem dX2_written_28 : decode cX2_written 28 = .ok (.iconst 0, 1) := dk_3 (dk_at dksX2_written_1 4 rfl rfl)
theorem dX2_written_29 : decode cX2_written 29 = .ok (.invokevirtual 440, 3) := dk_182 1 184 (dk_at dksX2_written_1 5 rfl rfl)
theorem dX2_written_32 : decode cX2_written 32 = .ok (.istore_n 2, 1) := dk_61 (dk_at dksX2_written_1 8 rfl rfl)
theorem dX2_written_33 : decode cX2_written 33 = .ok (.iload_n 2, 1) := dk_28 (dk_at dksX2_written_1 9 rfl rfl)
theorem dX2_written_34 : decode cX2_written 34 = .ok (.ifCond .ge 7, 3) := dk_156 0 7 (dk_at dksX2_written_1 10 rfl rfl)
theorem dX2_written_37 : decode cX2_written 37 = .ok (.ldc_w 311, 3) := dk_19 1 55 (dk_at dksX2_written_1 13 rfl rfl)
theorem dX2_written_40 : decode cX2_written 40 = .ok (.ireturn, 1) := dk_172 (dk_at dksX2_written_1 16 rfl rfl)
theorem dX2_written_41 : decode cX2_written 41 = .ok (.aload_n 0, 1) := dk_42 (dk_at dksX2_written_1 17 rfl rfl)
theorem dX2_written_42 : decode cX2_written 42 = .ok (.iload_n 2, 1) := dk_28 (dk_at dksX2_written_1 18 rfl rfl)
theorem dX2_written_43 : decode cX2_written 43 = .ok (.invokevirtual 443, 3) := dk_182 1 187 (dk_at dksX2_written_1 19 rfl rfl)
theorem dX2_written_46 : decode cX2_written 46 = .ok (.aload_n 0, 1) := dk_42 (dk_at dksX2_written_1 22 rfl rfl)
theorem dX2_written_47 : decode cX2_written 47 = .ok (.getfield 110, 3) := dk_180 0 110 (dk_at dksX2_written_2 0 rfl rfl)
theorem dX2_written_50 : decode cX2_written 50 = .ok (.iconst 3, 1) := dk_6 (dk_at dksX2_written_2 3 rfl rfl)
theorem dX2_written_51 : decode cX2_written 51 = .ok (.iload_n 2, 1) := dk_28 (dk_at dksX2_written_2 4 rfl rfl)
theorem dX2_written_52 : decode cX2_written 52 = .ok (.imul, 1) := dk_104 (dk_at dksX2_written_2 5 rfl rfl)
theorem dX2_written_53 : decode cX2_written 53 = .ok (.iload_n 1, 1) := dk_27 (dk_at dksX2_written_2 6 rfl rfl)
theorem dX2_written_54 : decode cX2_written 54 = .ok (.iadd, 1) := dk_96 (dk_at dksX2_written_2 7 rfl rfl)
theorem dX2_written_55 : decode cX2_written 55 = .ok (.iaload, 1) := dk_46 (dk_at dksX2_written_2 8 rfl rfl)
theorem dX2_written_56 : decode cX2_written 56 = .ok (.ireturn, 1) := dk_172 (dk_at dksX2_written_2 9 rfl rfl)
abbrev cX2_layFromRow : ByteArray := prog_9_method_69_code
def yX2_layFromRow : MethodName := ⟨RX2, "layFromRow", "()Z"⟩
def dkwX2_layFromRow_1 : List UInt8 := [132, 1, 1, 167, 255, 233, 42, 42, 180, 1, 80, 3, 182, 1, 149, 172]
abbrev dktX2_layFromRow_1 : List UInt8 := dkwX2_layFromRow_1 ++ []
def dkwX2_layFromRow_0 : List UInt8 := [3, 60, 27, 42, 180, 1, 80, 162, 0, 21, 42, 180, 0, 119, 27, 42, 180, 0, 92, 27, 46, 79]
abbrev dktX2_layFromRow_0 : List UInt8 := dkwX2_layFromRow_0 ++ dktX2_layFromRow_1
theorem dksX2_layFromRow_0 : cX2_layFromRow.data.toList.drop 0 = dktX2_layFromRow_0 := by decide +kernel
theorem dksX2_layFromRow_1 : cX2_layFromRow.data.toList.drop 22 = dktX2_layFromRow_1 := dk_seg dksX2_layFromRow_0 22 rfl rfl
theorem dX2_layFromRow_0 : decode cX2_layFromRow 0 = .ok (.iconst 0, 1) := dk_3 (dk_at dksX2_layFromRow_0 0 rfl rfl)
theorem dX2_layFromRow_1 : decode cX2_layFromRow 1 = .ok (.istore_n 1, 1) := dk_60 (dk_at dksX2_layFromRow_0 1 rfl rfl)
theorem dX2_layFromRow_2 : decode cX2_layFromRow 2 = .ok (.iload_n 1, 1) := dk_27 (dk_at dksX2_layFromRow_0 2 rfl rfl)
theorem dX2_layFromRow_3 : decode cX2_layFromRow 3 = .ok (.aload_n 0, 1) := dk_42 (dk_at dksX2_layFromRow_0 3 rfl rfl)
theorem dX2_layFromRow_4 : decode cX2_layFromRow 4 = .ok (.getfield 336, 3) := dk_180 1 80 (dk_at dksX2_layFromRow_0 4 rfl rfl)
theorem dX2_layFromRow_7 : decode cX2_layFromRow 7 = .ok (.if_icmp .ge 21, 3) := dk_162 0 21 (dk_at dksX2_layFromRow_0 7 rfl rfl)
theorem dX2_layFromRow_10 : decode cX2_layFromRow 10 = .ok (.aload_n 0, 1) := dk_42 (dk_at dksX2_layFromRow_0 10 rfl rfl)
theorem dX2_layFromRow_11 : decode cX2_layFromRow 11 = .ok (.getfield 119, 3) := dk_180 0 119 (dk_at dksX2_layFromRow_0 11 rfl rfl)
theorem dX2_layFromRow_14 : decode cX2_layFromRow 14 = .ok (.iload_n 1, 1) := dk_27 (dk_at dksX2_layFromRow_0 14 rfl rfl)
theorem dX2_layFromRow_15 : decode cX2_layFromRow 15 = .ok (.aload_n 0, 1) := dk_42 (dk_at dksX2_layFromRow_0 15 rfl rfl)
theorem dX2_layFromRow_16 : decode cX2_layFromRow 16 = .ok (.getfield 92, 3) := dk_180 0 92 (dk_at dksX2_layFromRow_0 16 rfl rfl)
theorem dX2_layFromRow_19 : decode cX2_layFromRow 19 = .ok (.iload_n 1, 1) := dk_27 (dk_at dksX2_layFromRow_0 19 rfl rfl)
theorem dX2_layFromRow_20 : decode cX2_layFromRow 20 = .ok (.iaload, 1) := dk_46 (dk_at dksX2_layFromRow_0 20 rfl rfl)
theorem dX2_layFromRow_21 : decode cX2_layFromRow 21 = .ok (.iastore, 1) := dk_79 (dk_at dksX2_layFromRow_0 21 rfl rfl)
theorem dX2_layFromRow_22 : decode cX2_layFromRow 22 = .ok (.iinc 1 1, 3) := dk_132 1 1 (dk_at dksX2_layFromRow_1 0 rfl rfl)
theorem dX2_layFromRow_25 : decode cX2_layFromRow 25 = .ok (.goto (-23), 3) := dk_167 255 233 (dk_at dksX2_layFromRow_1 3 rfl rfl)
theorem dX2_layFromRow_28 : decode cX2_layFromRow 28 = .ok (.aload_n 0, 1) := dk_42 (dk_at dksX2_layFromRow_1 6 rfl rfl)
theorem dX2_layFromRow_29 : decode cX2_layFromRow 29 = .ok (.aload_n 0, 1) := dk_42 (dk_at dksX2_layFromRow_1 7 rfl rfl)
theorem dX2_layFromRow_30 : decode cX2_layFromRow 30 = .ok (.getfield 336, 3) := dk_180 1 80 (dk_at dksX2_layFromRow_1 8 rfl rfl)
theorem dX2_layFromRow_33 : decode cX2_layFromRow 33 = .ok (.iconst 0, 1) := dk_3 (dk_at dksX2_layFromRow_1 11 rfl rfl)
theorem dX2_layFromRow_34 : decode cX2_layFromRow 34 = .ok (.invokevirtual 405, 3) := dk_182 1 149 (dk_at dksX2_layFromRow_1 12 rfl rfl)
theorem dX2_layFromRow_37 : decode cX2_layFromRow 37 = .ok (.ireturn, 1) := dk_172 (dk_at dksX2_layFromRow_1 15 rfl rfl)
abbrev cX2_layList : ByteArray := prog_9_method_66_code
def yX2_layList : MethodName := ⟨RX2, "layList", "(IZ)Z"⟩
def dkwX2_layList_10 : List UInt8 := [180, 1, 131, 17, 11, 184, 163, 0, 7, 4, 167, 0, 4, 3, 172]
abbrev dktX2_layList_10 : List UInt8 := dkwX2_layList_10 ++ []
def dkwX2_layList_9 : List UInt8 := [180, 0, 119, 21, 5, 2, 79, 21, 5, 42, 182, 1, 46, 160, 255, 123, 42, 182, 1, 143, 167, 255, 116, 42]
abbrev dktX2_layList_9 : List UInt8 := dkwX2_layList_9 ++ dktX2_layList_10
def dkwX2_layList_8 : List UInt8 := [182, 1, 140, 154, 0, 6, 167, 255, 153, 42, 89, 180, 1, 131, 4, 96, 181, 1, 131, 132, 5, 1, 42]
abbrev dktX2_layList_8 : List UInt8 := dkwX2_layList_8 ++ dktX2_layList_9
def dkwX2_layList_7 : List UInt8 := [42, 180, 0, 98, 21, 5, 46, 42, 180, 0, 119, 21, 5, 46, 160, 255, 167, 42, 21, 5, 4, 96]
abbrev dktX2_layList_7 : List UInt8 := dkwX2_layList_7 ++ dktX2_layList_8
def dkwX2_layList_6 : List UInt8 := [46, 161, 0, 9, 132, 5, 255, 167, 255, 198, 28, 153, 0, 30, 42, 180, 0, 98, 21, 5, 46, 155, 0, 20]
abbrev dktX2_layList_6 : List UInt8 := dkwX2_layList_6 ++ dktX2_layList_7
def dkwX2_layList_5 : List UInt8 := [21, 5, 42, 182, 1, 46, 159, 0, 22, 42, 180, 0, 119, 21, 5, 46, 42, 180, 0, 20, 42, 180, 0, 233]
abbrev dktX2_layList_5 : List UInt8 := dkwX2_layList_5 ++ dktX2_layList_6
def dkwX2_layList_4 : List UInt8 := [161, 0, 140, 42, 180, 1, 131, 17, 11, 184, 163, 0, 130, 42, 180, 0, 119, 21, 5, 92, 46, 4, 96, 79]
abbrev dktX2_layList_4 : List UInt8 := dkwX2_layList_4 ++ dktX2_layList_5
def dkwX2_layList_3 : List UInt8 := [21, 5, 42, 182, 1, 46, 160, 0, 7, 42, 182, 1, 143, 42, 180, 0, 119, 21, 5, 2, 79, 21, 5, 27]
abbrev dktX2_layList_3 : List UInt8 := dkwX2_layList_3 ++ dktX2_layList_4
def dkwX2_layList_2 : List UInt8 := [42, 27, 181, 1, 137, 42, 27, 182, 1, 140, 154, 0, 5, 4, 172, 27, 54, 5, 42, 4, 181, 1, 131]
abbrev dktX2_layList_2 : List UInt8 := dkwX2_layList_2 ++ dktX2_layList_3
def dkwX2_layList_1 : List UInt8 := [163, 0, 7, 4, 167, 0, 4, 3, 172, 42, 33, 181, 0, 242, 42, 3, 181, 1, 134, 42, 3, 181, 1, 131]
abbrev dktX2_layList_1 : List UInt8 := dkwX2_layList_1 ++ dktX2_layList_2
def dkwX2_layList_0 : List UInt8 := [42, 27, 28, 182, 1, 127, 66, 33, 42, 180, 0, 242, 148, 154, 0, 19, 42, 180, 1, 131, 17, 11, 184]
abbrev dktX2_layList_0 : List UInt8 := dkwX2_layList_0 ++ dktX2_layList_1
theorem dksX2_layList_0 : cX2_layList.data.toList.drop 0 = dktX2_layList_0 := by decide +kernel
theorem dksX2_layList_1 : cX2_layList.data.toList.drop 23 = dktX2_layList_1 := dk_seg dksX2_layList_0 23 rfl rfl
theorem dksX2_layList_2 : cX2_layList.data.toList.drop 47 = dktX2_layList_2 := dk_seg dksX2_layList_1 24 rfl rfl
theorem dksX2_layList_3 : cX2_layList.data.toList.drop 70 = dktX2_layList_3 := dk_seg dksX2_layList_2 23 rfl rfl
theorem dksX2_layList_4 : cX2_layList.data.toList.drop 94 = dktX2_layList_4 := dk_seg dksX2_layList_3 24 rfl rfl
theorem dksX2_layList_5 : cX2_layList.data.toList.drop 118 = dktX2_layList_5 := dk_seg dksX2_layList_4 24 rfl rfl
theorem dksX2_layList_6 : cX2_layList.data.toList.drop 142 = dktX2_layList_6 := dk_seg dksX2_layList_5 24 rfl rfl
theorem dksX2_layList_7 : cX2_layList.data.toList.drop 166 = dktX2_layList_7 := dk_seg dksX2_layList_6 24 rfl rfl
theorem dksX2_layList_8 : cX2_layList.data.toList.drop 188 = dktX2_layList_8 := dk_seg dksX2_layList_7 22 rfl rfl
theorem dksX2_layList_9 : cX2_layList.data.toList.drop 211 = dktX2_layList_9 := dk_seg dksX2_layList_8 23 rfl rfl
theorem dksX2_layList_10 : cX2_layList.data.toList.drop 235 = dktX2_layList_10 := dk_seg dksX2_layList_9 24 rfl rfl
theorem dX2_layList_0 : decode cX2_layList 0 = .ok (.aload_n 0, 1) := dk_42 (dk_at dksX2_layList_0 0 rfl rfl)
theorem dX2_layList_1 : decode cX2_layList 1 = .ok (.iload_n 1, 1) := dk_27 (dk_at dksX2_layList_0 1 rfl rfl)
theorem dX2_layList_2 : decode cX2_layList 2 = .ok (.iload_n 2, 1) := dk_28 (dk_at dksX2_layList_0 2 rfl rfl)
theorem dX2_layList_3 : decode cX2_layList 3 = .ok (.invokevirtual 383, 3) := dk_182 1 127 (dk_at dksX2_layList_0 3 rfl rfl)
theorem dX2_layList_6 : decode cX2_layList 6 = .ok (.lstore_n 3, 1) := dk_66 (dk_at dksX2_layList_0 6 rfl rfl)
theorem dX2_layList_7 : decode cX2_layList 7 = .ok (.lload_n 3, 1) := dk_33 (dk_at dksX2_layList_0 7 rfl rfl)
theorem dX2_layList_8 : decode cX2_layList 8 = .ok (.aload_n 0, 1) := dk_42 (dk_at dksX2_layList_0 8 rfl rfl)
theorem dX2_layList_9 : decode cX2_layList 9 = .ok (.getfield 242, 3) := dk_180 0 242 (dk_at dksX2_layList_0 9 rfl rfl)
theorem dX2_layList_12 : decode cX2_layList 12 = .ok (.lcmp, 1) := dk_148 (dk_at dksX2_layList_0 12 rfl rfl)
theorem dX2_layList_13 : decode cX2_layList 13 = .ok (.ifCond .ne 19, 3) := dk_154 0 19 (dk_at dksX2_layList_0 13 rfl rfl)
theorem dX2_layList_16 : decode cX2_layList 16 = .ok (.aload_n 0, 1) := dk_42 (dk_at dksX2_layList_0 16 rfl rfl)
theorem dX2_layList_17 : decode cX2_layList 17 = .ok (.getfield 387, 3) := dk_180 1 131 (dk_at dksX2_layList_0 17 rfl rfl)
theorem dX2_layList_20 : decode cX2_layList 20 = .ok (.sipush 3000, 3) := dk_17 11 184 (dk_at dksX2_layList_0 20 rfl rfl)
theorem dX2_layList_23 : decode cX2_layList 23 = .ok (.if_icmp .gt 7, 3) := dk_163 0 7 (dk_at dksX2_layList_1 0 rfl rfl)
theorem dX2_layList_26 : decode cX2_layList 26 = .ok (.iconst 1, 1) := dk_4 (dk_at dksX2_layList_1 3 rfl rfl)
theorem dX2_layList_27 : decode cX2_layList 27 = .ok (.goto 4, 3) := dk_167 0 4 (dk_at dksX2_layList_1 4 rfl rfl)
theorem dX2_layList_30 : decode cX2_layList 30 = .ok (.iconst 0, 1) := dk_3 (dk_at dksX2_layList_1 7 rfl rfl)
theorem dX2_layList_31 : decode cX2_layList 31 = .ok (.ireturn, 1) := dk_172 (dk_at dksX2_layList_1 8 rfl rfl)
theorem dX2_layList_32 : decode cX2_layList 32 = .ok (.aload_n 0, 1) := dk_42 (dk_at dksX2_layList_1 9 rfl rfl)
theorem dX2_layList_33 : decode cX2_layList 33 = .ok (.lload_n 3, 1) := dk_33 (dk_at dksX2_layList_1 10 rfl rfl)
theorem dX2_layList_34 : decode cX2_layList 34 = .ok (.putfield 242, 3) := dk_181 0 242 (dk_at dksX2_layList_1 11 rfl rfl)
theorem dX2_layList_37 : decode cX2_layList 37 = .ok (.aload_n 0, 1) := dk_42 (dk_at dksX2_layList_1 14 rfl rfl)
theorem dX2_layList_38 : decode cX2_layList 38 = .ok (.iconst 0, 1) := dk_3 (dk_at dksX2_layList_1 15 rfl rfl)
theorem dX2_layList_39 : decode cX2_layList 39 = .ok (.putfield 390, 3) := dk_181 1 134 (dk_at dksX2_layList_1 16 rfl rfl)
theorem dX2_layList_42 : decode cX2_layList 42 = .ok (.aload_n 0, 1) := dk_42 (dk_at dksX2_layList_1 19 rfl rfl)
theorem dX2_layList_43 : decode cX2_layList 43 = .ok (.iconst 0, 1) := dk_3 (dk_at dksX2_layList_1 20 rfl rfl)
theorem dX2_layList_44 : decode cX2_layList 44 = .ok (.putfield 387, 3) := dk_181 1 131 (dk_at dksX2_layList_1 21 rfl rfl)
theorem dX2_layList_47 : decode cX2_layList 47 = .ok (.aload_n 0, 1) := dk_42 (dk_at dksX2_layList_2 0 rfl rfl)
theorem dX2_layList_48 : decode cX2_layList 48 = .ok (.iload_n 1, 1) := dk_27 (dk_at dksX2_layList_2 1 rfl rfl)
theorem dX2_layList_49 : decode cX2_layList 49 = .ok (.putfield 393, 3) := dk_181 1 137 (dk_at dksX2_layList_2 2 rfl rfl)
theorem dX2_layList_52 : decode cX2_layList 52 = .ok (.aload_n 0, 1) := dk_42 (dk_at dksX2_layList_2 5 rfl rfl)
theorem dX2_layList_53 : decode cX2_layList 53 = .ok (.iload_n 1, 1) := dk_27 (dk_at dksX2_layList_2 6 rfl rfl)
theorem dX2_layList_54 : decode cX2_layList 54 = .ok (.invokevirtual 396, 3) := dk_182 1 140 (dk_at dksX2_layList_2 7 rfl rfl)
theorem dX2_layList_57 : decode cX2_layList 57 = .ok (.ifCond .ne 5, 3) := dk_154 0 5 (dk_at dksX2_layList_2 10 rfl rfl)
theorem dX2_layList_60 : decode cX2_layList 60 = .ok (.iconst 1, 1) := dk_4 (dk_at dksX2_layList_2 13 rfl rfl)
theorem dX2_layList_61 : decode cX2_layList 61 = .ok (.ireturn, 1) := dk_172 (dk_at dksX2_layList_2 14 rfl rfl)
theorem dX2_layList_62 : decode cX2_layList 62 = .ok (.iload_n 1, 1) := dk_27 (dk_at dksX2_layList_2 15 rfl rfl)
theorem dX2_layList_63 : decode cX2_layList 63 = .ok (.istore 5, 2) := dk_54 5 (dk_at dksX2_layList_2 16 rfl rfl)
theorem dX2_layList_65 : decode cX2_layList 65 = .ok (.aload_n 0, 1) := dk_42 (dk_at dksX2_layList_2 18 rfl rfl)
theorem dX2_layList_66 : decode cX2_layList 66 = .ok (.iconst 1, 1) := dk_4 (dk_at dksX2_layList_2 19 rfl rfl)
theorem dX2_layList_67 : decode cX2_layList 67 = .ok (.putfield 387, 3) := dk_181 1 131 (dk_at dksX2_layList_2 20 rfl rfl)
theorem dX2_layList_70 : decode cX2_layList 70 = .ok (.iload 5, 2) := dk_21 5 (dk_at dksX2_layList_3 0 rfl rfl)
theorem dX2_layList_72 : decode cX2_layList 72 = .ok (.aload_n 0, 1) := dk_42 (dk_at dksX2_layList_3 2 rfl rfl)
theorem dX2_layList_73 : decode cX2_layList 73 = .ok (.invokevirtual 302, 3) := dk_182 1 46 (dk_at dksX2_layList_3 3 rfl rfl)
theorem dX2_layList_76 : decode cX2_layList 76 = .ok (.if_icmp .ne 7, 3) := dk_160 0 7 (dk_at dksX2_layList_3 6 rfl rfl)
theorem dX2_layList_79 : decode cX2_layList 79 = .ok (.aload_n 0, 1) := dk_42 (dk_at dksX2_layList_3 9 rfl rfl)
theorem dX2_layList_80 : decode cX2_layList 80 = .ok (.invokevirtual 399, 3) := dk_182 1 143 (dk_at dksX2_layList_3 10 rfl rfl)
theorem dX2_layList_83 : decode cX2_layList 83 = .ok (.aload_n 0, 1) := dk_42 (dk_at dksX2_layList_3 13 rfl rfl)
theorem dX2_layList_84 : decode cX2_layList 84 = .ok (.getfield 119, 3) := dk_180 0 119 (dk_at dksX2_layList_3 14 rfl rfl)
theorem dX2_layList_87 : decode cX2_layList 87 = .ok (.iload 5, 2) := dk_21 5 (dk_at dksX2_layList_3 17 rfl rfl)
theorem dX2_layList_89 : decode cX2_layList 89 = .ok (.iconst (-1), 1) := dk_2 (dk_at dksX2_layList_3 19 rfl rfl)
theorem dX2_layList_90 : decode cX2_layList 90 = .ok (.iastore, 1) := dk_79 (dk_at dksX2_layList_3 20 rfl rfl)
theorem dX2_layList_91 : decode cX2_layList 91 = .ok (.iload 5, 2) := dk_21 5 (dk_at dksX2_layList_3 21 rfl rfl)
theorem dX2_layList_93 : decode cX2_layList 93 = .ok (.iload_n 1, 1) := dk_27 (dk_at dksX2_layList_3 23 rfl rfl)
theorem dX2_layList_94 : decode cX2_layList 94 = .ok (.if_icmp .lt 140, 3) := dk_161 0 140 (dk_at dksX2_layList_4 0 rfl rfl)
theorem dX2_layList_97 : decode cX2_layList 97 = .ok (.aload_n 0, 1) := dk_42 (dk_at dksX2_layList_4 3 rfl rfl)
theorem dX2_layList_98 : decode cX2_layList 98 = .ok (.getfield 387, 3) := dk_180 1 131 (dk_at dksX2_layList_4 4 rfl rfl)
theorem dX2_layList_101 : decode cX2_layList 101 = .ok (.sipush 3000, 3) := dk_17 11 184 (dk_at dksX2_layList_4 7 rfl rfl)
theorem dX2_layList_104 : decode cX2_layList 104 = .ok (.if_icmp .gt 130, 3) := dk_163 0 130 (dk_at dksX2_layList_4 10 rfl rfl)
theorem dX2_layList_107 : decode cX2_layList 107 = .ok (.aload_n 0, 1) := dk_42 (dk_at dksX2_layList_4 13 rfl rfl)
theorem dX2_layList_108 : decode cX2_layList 108 = .ok (.getfield 119, 3) := dk_180 0 119 (dk_at dksX2_layList_4 14 rfl rfl)
theorem dX2_layList_111 : decode cX2_layList 111 = .ok (.iload 5, 2) := dk_21 5 (dk_at dksX2_layList_4 17 rfl rfl)
theorem dX2_layList_113 : decode cX2_layList 113 = .ok (.dup2, 1) := dk_92 (dk_at dksX2_layList_4 19 rfl rfl)
theorem dX2_layList_114 : decode cX2_layList 114 = .ok (.iaload, 1) := dk_46 (dk_at dksX2_layList_4 20 rfl rfl)
theorem dX2_layList_115 : decode cX2_layList 115 = .ok (.iconst 1, 1) := dk_4 (dk_at dksX2_layList_4 21 rfl rfl)
theorem dX2_layList_116 : decode cX2_layList 116 = .ok (.iadd, 1) := dk_96 (dk_at dksX2_layList_4 22 rfl rfl)
theorem dX2_layList_117 : decode cX2_layList 117 = .ok (.iastore, 1) := dk_79 (dk_at dksX2_layList_4 23 rfl rfl)
theorem dX2_layList_118 : decode cX2_layList 118 = .ok (.iload 5, 2) := dk_21 5 (dk_at dksX2_layList_5 0 rfl rfl)
theorem dX2_layList_120 : decode cX2_layList 120 = .ok (.aload_n 0, 1) := dk_42 (dk_at dksX2_layList_5 2 rfl rfl)
theorem dX2_layList_121 : decode cX2_layList 121 = .ok (.invokevirtual 302, 3) := dk_182 1 46 (dk_at dksX2_layList_5 3 rfl rfl)
theorem dX2_layList_124 : decode cX2_layList 124 = .ok (.if_icmp .eq 22, 3) := dk_159 0 22 (dk_at dksX2_layList_5 6 rfl rfl)
theorem dX2_layList_127 : decode cX2_layList 127 = .ok (.aload_n 0, 1) := dk_42 (dk_at dksX2_layList_5 9 rfl rfl)
theorem dX2_layList_128 : decode cX2_layList 128 = .ok (.getfield 119, 3) := dk_180 0 119 (dk_at dksX2_layList_5 10 rfl rfl)
theorem dX2_layList_131 : decode cX2_layList 131 = .ok (.iload 5, 2) := dk_21 5 (dk_at dksX2_layList_5 13 rfl rfl)
theorem dX2_layList_133 : decode cX2_layList 133 = .ok (.iaload, 1) := dk_46 (dk_at dksX2_layList_5 15 rfl rfl)
theorem dX2_layList_134 : decode cX2_layList 134 = .ok (.aload_n 0, 1) := dk_42 (dk_at dksX2_layList_5 16 rfl rfl)
theorem dX2_layList_135 : decode cX2_layList 135 = .ok (.getfield 20, 3) := dk_180 0 20 (dk_at dksX2_layList_5 17 rfl rfl)
theorem dX2_layList_138 : decode cX2_layList 138 = .ok (.aload_n 0, 1) := dk_42 (dk_at dksX2_layList_5 20 rfl rfl)
theorem dX2_layList_139 : decode cX2_layList 139 = .ok (.getfield 233, 3) := dk_180 0 233 (dk_at dksX2_layList_5 21 rfl rfl)
theorem dX2_layList_142 : decode cX2_layList 142 = .ok (.iaload, 1) := dk_46 (dk_at dksX2_layList_6 0 rfl rfl)
theorem dX2_layList_143 : decode cX2_layList 143 = .ok (.if_icmp .lt 9, 3) := dk_161 0 9 (dk_at dksX2_layList_6 1 rfl rfl)
theorem dX2_layList_146 : decode cX2_layList 146 = .ok (.iinc 5 (-1), 3) := dk_132 5 255 (dk_at dksX2_layList_6 4 rfl rfl)
theorem dX2_layList_149 : decode cX2_layList 149 = .ok (.goto (-58), 3) := dk_167 255 198 (dk_at dksX2_layList_6 7 rfl rfl)
theorem dX2_layList_152 : decode cX2_layList 152 = .ok (.iload_n 2, 1) := dk_28 (dk_at dksX2_layList_6 10 rfl rfl)
theorem dX2_layList_153 : decode cX2_layList 153 = .ok (.ifCond .eq 30, 3) := dk_153 0 30 (dk_at dksX2_layList_6 11 rfl rfl)
theorem dX2_layList_156 : decode cX2_layList 156 = .ok (.aload_n 0, 1) := dk_42 (dk_at dksX2_layList_6 14 rfl rfl)
theorem dX2_layList_157 : decode cX2_layList 157 = .ok (.getfield 98, 3) := dk_180 0 98 (dk_at dksX2_layList_6 15 rfl rfl)
theorem dX2_layList_160 : decode cX2_layList 160 = .ok (.iload 5, 2) := dk_21 5 (dk_at dksX2_layList_6 18 rfl rfl)
theorem dX2_layList_162 : decode cX2_layList 162 = .ok (.iaload, 1) := dk_46 (dk_at dksX2_layList_6 20 rfl rfl)
theorem dX2_layList_163 : decode cX2_layList 163 = .ok (.ifCond .lt 20, 3) := dk_155 0 20 (dk_at dksX2_layList_6 21 rfl rfl)
theorem dX2_layList_166 : decode cX2_layList 166 = .ok (.aload_n 0, 1) := dk_42 (dk_at dksX2_layList_7 0 rfl rfl)
theorem dX2_layList_167 : decode cX2_layList 167 = .ok (.getfield 98, 3) := dk_180 0 98 (dk_at dksX2_layList_7 1 rfl rfl)
theorem dX2_layList_170 : decode cX2_layList 170 = .ok (.iload 5, 2) := dk_21 5 (dk_at dksX2_layList_7 4 rfl rfl)
theorem dX2_layList_172 : decode cX2_layList 172 = .ok (.iaload, 1) := dk_46 (dk_at dksX2_layList_7 6 rfl rfl)
theorem dX2_layList_173 : decode cX2_layList 173 = .ok (.aload_n 0, 1) := dk_42 (dk_at dksX2_layList_7 7 rfl rfl)
theorem dX2_layList_174 : decode cX2_layList 174 = .ok (.getfield 119, 3) := dk_180 0 119 (dk_at dksX2_layList_7 8 rfl rfl)
theorem dX2_layList_177 : decode cX2_layList 177 = .ok (.iload 5, 2) := dk_21 5 (dk_at dksX2_layList_7 11 rfl rfl)
theorem dX2_layList_179 : decode cX2_layList 179 = .ok (.iaload, 1) := dk_46 (dk_at dksX2_layList_7 13 rfl rfl)
theorem dX2_layList_180 : decode cX2_layList 180 = .ok (.if_icmp .ne (-89), 3) := dk_160 255 167 (dk_at dksX2_layList_7 14 rfl rfl)
theorem dX2_layList_183 : decode cX2_layList 183 = .ok (.aload_n 0, 1) := dk_42 (dk_at dksX2_layList_7 17 rfl rfl)
theorem dX2_layList_184 : decode cX2_layList 184 = .ok (.iload 5, 2) := dk_21 5 (dk_at dksX2_layList_7 18 rfl rfl)
theorem dX2_layList_186 : decode cX2_layList 186 = .ok (.iconst 1, 1) := dk_4 (dk_at dksX2_layList_7 20 rfl rfl)
theorem dX2_layList_187 : decode cX2_layList 187 = .ok (.iadd, 1) := dk_96 (dk_at dksX2_layList_7 21 rfl rfl)
theorem dX2_layList_188 : decode cX2_layList 188 = .ok (.invokevirtual 396, 3) := dk_182 1 140 (dk_at dksX2_layList_8 0 rfl rfl)
theorem dX2_layList_191 : decode cX2_layList 191 = .ok (.ifCond .ne 6, 3) := dk_154 0 6 (dk_at dksX2_layList_8 3 rfl rfl)
theorem dX2_layList_194 : decode cX2_layList 194 = .ok (.goto (-103), 3) := dk_167 255 153 (dk_at dksX2_layList_8 6 rfl rfl)
theorem dX2_layList_197 : decode cX2_layList 197 = .ok (.aload_n 0, 1) := dk_42 (dk_at dksX2_layList_8 9 rfl rfl)
theorem dX2_layList_198 : decode cX2_layList 198 = .ok (.dup, 1) := dk_89 (dk_at dksX2_layList_8 10 rfl rfl)
theorem dX2_layList_199 : decode cX2_layList 199 = .ok (.getfield 387, 3) := dk_180 1 131 (dk_at dksX2_layList_8 11 rfl rfl)
theorem dX2_layList_202 : decode cX2_layList 202 = .ok (.iconst 1, 1) := dk_4 (dk_at dksX2_layList_8 14 rfl rfl)
theorem dX2_layList_203 : decode cX2_layList 203 = .ok (.iadd, 1) := dk_96 (dk_at dksX2_layList_8 15 rfl rfl)
theorem dX2_layList_204 : decode cX2_layList 204 = .ok (.putfield 387, 3) := dk_181 1 131 (dk_at dksX2_layList_8 16 rfl rfl)
theorem dX2_layList_207 : decode cX2_layList 207 = .ok (.iinc 5 1, 3) := dk_132 5 1 (dk_at dksX2_layList_8 19 rfl rfl)
theorem dX2_layList_210 : decode cX2_layList 210 = .ok (.aload_n 0, 1) := dk_42 (dk_at dksX2_layList_8 22 rfl rfl)
theorem dX2_layList_211 : decode cX2_layList 211 = .ok (.getfield 119, 3) := dk_180 0 119 (dk_at dksX2_layList_9 0 rfl rfl)
theorem dX2_layList_214 : decode cX2_layList 214 = .ok (.iload 5, 2) := dk_21 5 (dk_at dksX2_layList_9 3 rfl rfl)
theorem dX2_layList_216 : decode cX2_layList 216 = .ok (.iconst (-1), 1) := dk_2 (dk_at dksX2_layList_9 5 rfl rfl)
theorem dX2_layList_217 : decode cX2_layList 217 = .ok (.iastore, 1) := dk_79 (dk_at dksX2_layList_9 6 rfl rfl)
theorem dX2_layList_218 : decode cX2_layList 218 = .ok (.iload 5, 2) := dk_21 5 (dk_at dksX2_layList_9 7 rfl rfl)
theorem dX2_layList_220 : decode cX2_layList 220 = .ok (.aload_n 0, 1) := dk_42 (dk_at dksX2_layList_9 9 rfl rfl)
theorem dX2_layList_221 : decode cX2_layList 221 = .ok (.invokevirtual 302, 3) := dk_182 1 46 (dk_at dksX2_layList_9 10 rfl rfl)
theorem dX2_layList_224 : decode cX2_layList 224 = .ok (.if_icmp .ne (-133), 3) := dk_160 255 123 (dk_at dksX2_layList_9 13 rfl rfl)
theorem dX2_layList_227 : decode cX2_layList 227 = .ok (.aload_n 0, 1) := dk_42 (dk_at dksX2_layList_9 16 rfl rfl)
theorem dX2_layList_228 : decode cX2_layList 228 = .ok (.invokevirtual 399, 3) := dk_182 1 143 (dk_at dksX2_layList_9 17 rfl rfl)
theorem dX2_layList_231 : decode cX2_layList 231 = .ok (.goto (-140), 3) := dk_167 255 116 (dk_at dksX2_layList_9 20 rfl rfl)
theorem dX2_layList_234 : decode cX2_layList 234 = .ok (.aload_n 0, 1) := dk_42 (dk_at dksX2_layList_9 23 rfl rfl)
theorem dX2_layList_235 : decode cX2_layList 235 = .ok (.getfield 387, 3) := dk_180 1 131 (dk_at dksX2_layList_10 0 rfl rfl)
theorem dX2_layList_238 : decode cX2_layList 238 = .ok (.sipush 3000, 3) := dk_17 11 184 (dk_at dksX2_layList_10 3 rfl rfl)
theorem dX2_layList_241 : decode cX2_layList 241 = .ok (.if_icmp .gt 7, 3) := dk_163 0 7 (dk_at dksX2_layList_10 6 rfl rfl)
theorem dX2_layList_244 : decode cX2_layList 244 = .ok (.iconst 1, 1) := dk_4 (dk_at dksX2_layList_10 9 rfl rfl)
theorem dX2_layList_245 : decode cX2_layList 245 = .ok (.goto 4, 3) := dk_167 0 4 (dk_at dksX2_layList_10 10 rfl rfl)
theorem dX2_layList_248 : decode cX2_layList 248 = .ok (.iconst 0, 1) := dk_3 (dk_at dksX2_layList_10 13 rfl rfl)
theorem dX2_layList_249 : decode cX2_layList 249 = .ok (.ireturn, 1) := dk_172 (dk_at dksX2_layList_10 14 rfl rfl)
abbrev cX2_keyOf : ByteArray := prog_9_method_62_code
def yX2_keyOf : MethodName := ⟨RX2, "keyOf", "(IZ)J"⟩
def dkwX2_keyOf_3 : List UInt8 := [132, 5, 1, 167, 255, 203, 33, 173]
abbrev dktX2_keyOf_3 : List UInt8 := dkwX2_keyOf_3 ++ []
def dkwX2_keyOf_2 : List UInt8 := [21, 5, 27, 162, 0, 15, 4, 42, 180, 0, 119, 21, 5, 46, 96, 167, 0, 4, 3, 133, 97, 66]
abbrev dktX2_keyOf_2 : List UInt8 := dkwX2_keyOf_2 ++ dktX2_keyOf_3
def dkwX2_keyOf_1 : List UInt8 := [162, 0, 52, 33, 20, 1, 122, 105, 28, 153, 0, 15, 4, 42, 180, 0, 98, 21, 5, 46, 96, 167, 0, 22]
abbrev dktX2_keyOf_1 : List UInt8 := dkwX2_keyOf_1 ++ dktX2_keyOf_2
def dkwX2_keyOf_0 : List UInt8 := [28, 153, 0, 9, 20, 1, 120, 167, 0, 7, 10, 27, 133, 97, 66, 3, 54, 5, 21, 5, 16, 6]
abbrev dktX2_keyOf_0 : List UInt8 := dkwX2_keyOf_0 ++ dktX2_keyOf_1
theorem dksX2_keyOf_0 : cX2_keyOf.data.toList.drop 0 = dktX2_keyOf_0 := by decide +kernel
theorem dksX2_keyOf_1 : cX2_keyOf.data.toList.drop 22 = dktX2_keyOf_1 := dk_seg dksX2_keyOf_0 22 rfl rfl
theorem dksX2_keyOf_2 : cX2_keyOf.data.toList.drop 46 = dktX2_keyOf_2 := dk_seg dksX2_keyOf_1 24 rfl rfl
theorem dksX2_keyOf_3 : cX2_keyOf.data.toList.drop 68 = dktX2_keyOf_3 := dk_seg dksX2_keyOf_2 22 rfl rfl
theorem dX2_keyOf_0 : decode cX2_keyOf 0 = .ok (.iload_n 2, 1) := dk_28 (dk_at dksX2_keyOf_0 0 rfl rfl)
theorem dX2_keyOf_1 : decode cX2_keyOf 1 = .ok (.ifCond .eq 9, 3) := dk_153 0 9 (dk_at dksX2_keyOf_0 1 rfl rfl)
theorem dX2_keyOf_4 : decode cX2_keyOf 4 = .ok (.ldc2_w 376, 3) := dk_20 1 120 (dk_at dksX2_keyOf_0 4 rfl rfl)
theorem dX2_keyOf_7 : decode cX2_keyOf 7 = .ok (.goto 7, 3) := dk_167 0 7 (dk_at dksX2_keyOf_0 7 rfl rfl)
theorem dX2_keyOf_10 : decode cX2_keyOf 10 = .ok (.lconst 1, 1) := dk_10 (dk_at dksX2_keyOf_0 10 rfl rfl)
theorem dX2_keyOf_11 : decode cX2_keyOf 11 = .ok (.iload_n 1, 1) := dk_27 (dk_at dksX2_keyOf_0 11 rfl rfl)
theorem dX2_keyOf_12 : decode cX2_keyOf 12 = .ok (.i2l, 1) := dk_133 (dk_at dksX2_keyOf_0 12 rfl rfl)
theorem dX2_keyOf_13 : decode cX2_keyOf 13 = .ok (.ladd, 1) := dk_97 (dk_at dksX2_keyOf_0 13 rfl rfl)
theorem dX2_keyOf_14 : decode cX2_keyOf 14 = .ok (.lstore_n 3, 1) := dk_66 (dk_at dksX2_keyOf_0 14 rfl rfl)
theorem dX2_keyOf_15 : decode cX2_keyOf 15 = .ok (.iconst 0, 1) := dk_3 (dk_at dksX2_keyOf_0 15 rfl rfl)
theorem dX2_keyOf_16 : decode cX2_keyOf 16 = .ok (.istore 5, 2) := dk_54 5 (dk_at dksX2_keyOf_0 16 rfl rfl)
theorem dX2_keyOf_18 : decode cX2_keyOf 18 = .ok (.iload 5, 2) := dk_21 5 (dk_at dksX2_keyOf_0 18 rfl rfl)
theorem dX2_keyOf_20 : decode cX2_keyOf 20 = .ok (.bipush 6, 2) := dk_16 6 (dk_at dksX2_keyOf_0 20 rfl rfl)
theorem dX2_keyOf_22 : decode cX2_keyOf 22 = .ok (.if_icmp .ge 52, 3) := dk_162 0 52 (dk_at dksX2_keyOf_1 0 rfl rfl)
theorem dX2_keyOf_25 : decode cX2_keyOf 25 = .ok (.lload_n 3, 1) := dk_33 (dk_at dksX2_keyOf_1 3 rfl rfl)
theorem dX2_keyOf_26 : decode cX2_keyOf 26 = .ok (.ldc2_w 378, 3) := dk_20 1 122 (dk_at dksX2_keyOf_1 4 rfl rfl)
theorem dX2_keyOf_29 : decode cX2_keyOf 29 = .ok (.lmul, 1) := dk_105 (dk_at dksX2_keyOf_1 7 rfl rfl)
theorem dX2_keyOf_30 : decode cX2_keyOf 30 = .ok (.iload_n 2, 1) := dk_28 (dk_at dksX2_keyOf_1 8 rfl rfl)
theorem dX2_keyOf_31 : decode cX2_keyOf 31 = .ok (.ifCond .eq 15, 3) := dk_153 0 15 (dk_at dksX2_keyOf_1 9 rfl rfl)
theorem dX2_keyOf_34 : decode cX2_keyOf 34 = .ok (.iconst 1, 1) := dk_4 (dk_at dksX2_keyOf_1 12 rfl rfl)
theorem dX2_keyOf_35 : decode cX2_keyOf 35 = .ok (.aload_n 0, 1) := dk_42 (dk_at dksX2_keyOf_1 13 rfl rfl)
theorem dX2_keyOf_36 : decode cX2_keyOf 36 = .ok (.getfield 98, 3) := dk_180 0 98 (dk_at dksX2_keyOf_1 14 rfl rfl)
theorem dX2_keyOf_39 : decode cX2_keyOf 39 = .ok (.iload 5, 2) := dk_21 5 (dk_at dksX2_keyOf_1 17 rfl rfl)
theorem dX2_keyOf_41 : decode cX2_keyOf 41 = .ok (.iaload, 1) := dk_46 (dk_at dksX2_keyOf_1 19 rfl rfl)
theorem dX2_keyOf_42 : decode cX2_keyOf 42 = .ok (.iadd, 1) := dk_96 (dk_at dksX2_keyOf_1 20 rfl rfl)
theorem dX2_keyOf_43 : decode cX2_keyOf 43 = .ok (.goto 22, 3) := dk_167 0 22 (dk_at dksX2_keyOf_1 21 rfl rfl)
theorem dX2_keyOf_46 : decode cX2_keyOf 46 = .ok (.iload 5, 2) := dk_21 5 (dk_at dksX2_keyOf_2 0 rfl rfl)
theorem dX2_keyOf_48 : decode cX2_keyOf 48 = .ok (.iload_n 1, 1) := dk_27 (dk_at dksX2_keyOf_2 2 rfl rfl)
theorem dX2_keyOf_49 : decode cX2_keyOf 49 = .ok (.if_icmp .ge 15, 3) := dk_162 0 15 (dk_at dksX2_keyOf_2 3 rfl rfl)
theorem dX2_keyOf_52 : decode cX2_keyOf 52 = .ok (.iconst 1, 1) := dk_4 (dk_at dksX2_keyOf_2 6 rfl rfl)
theorem dX2_keyOf_53 : decode cX2_keyOf 53 = .ok (.aload_n 0, 1) := dk_42 (dk_at dksX2_keyOf_2 7 rfl rfl)
theorem dX2_keyOf_54 : decode cX2_keyOf 54 = .ok (.getfield 119, 3) := dk_180 0 119 (dk_at dksX2_keyOf_2 8 rfl rfl)
theorem dX2_keyOf_57 : decode cX2_keyOf 57 = .ok (.iload 5, 2) := dk_21 5 (dk_at dksX2_keyOf_2 11 rfl rfl)
theorem dX2_keyOf_59 : decode cX2_keyOf 59 = .ok (.iaload, 1) := dk_46 (dk_at dksX2_keyOf_2 13 rfl rfl)
theorem dX2_keyOf_60 : decode cX2_keyOf 60 = .ok (.iadd, 1) := dk_96 (dk_at dksX2_keyOf_2 14 rfl rfl)
theorem dX2_keyOf_61 : decode cX2_keyOf 61 = .ok (.goto 4, 3) := dk_167 0 4 (dk_at dksX2_keyOf_2 15 rfl rfl)
theorem dX2_keyOf_64 : decode cX2_keyOf 64 = .ok (.iconst 0, 1) := dk_3 (dk_at dksX2_keyOf_2 18 rfl rfl)
theorem dX2_keyOf_65 : decode cX2_keyOf 65 = .ok (.i2l, 1) := dk_133 (dk_at dksX2_keyOf_2 19 rfl rfl)
theorem dX2_keyOf_66 : decode cX2_keyOf 66 = .ok (.ladd, 1) := dk_97 (dk_at dksX2_keyOf_2 20 rfl rfl)
theorem dX2_keyOf_67 : decode cX2_keyOf 67 = .ok (.lstore_n 3, 1) := dk_66 (dk_at dksX2_keyOf_2 21 rfl rfl)
theorem dX2_keyOf_68 : decode cX2_keyOf 68 = .ok (.iinc 5 1, 3) := dk_132 5 1 (dk_at dksX2_keyOf_3 0 rfl rfl)
theorem dX2_keyOf_71 : decode cX2_keyOf 71 = .ok (.goto (-53), 3) := dk_167 255 203 (dk_at dksX2_keyOf_3 3 rfl rfl)
theorem dX2_keyOf_74 : decode cX2_keyOf 74 = .ok (.lload_n 3, 1) := dk_33 (dk_at dksX2_keyOf_3 6 rfl rfl)
theorem dX2_keyOf_75 : decode cX2_keyOf 75 = .ok (.lreturn, 1) := dk_173 (dk_at dksX2_keyOf_3 7 rfl rfl)
abbrev cX2_isOnPath : ByteArray := prog_9_method_67_code
def yX2_isOnPath : MethodName := ⟨RX2, "isOnPath", "(I)Z"⟩
def dkwX2_isOnPath_1 : List UInt8 := [167, 255, 236, 42, 27, 182, 1, 98, 172]
abbrev dktX2_isOnPath_1 : List UInt8 := dkwX2_isOnPath_1 ++ []
def dkwX2_isOnPath_0 : List UInt8 := [3, 61, 28, 27, 162, 0, 21, 42, 180, 0, 77, 28, 42, 180, 0, 119, 28, 46, 79, 132, 2, 1]
abbrev dktX2_isOnPath_0 : List UInt8 := dkwX2_isOnPath_0 ++ dktX2_isOnPath_1
theorem dksX2_isOnPath_0 : cX2_isOnPath.data.toList.drop 0 = dktX2_isOnPath_0 := by decide +kernel
theorem dksX2_isOnPath_1 : cX2_isOnPath.data.toList.drop 22 = dktX2_isOnPath_1 := dk_seg dksX2_isOnPath_0 22 rfl rfl
theorem dX2_isOnPath_0 : decode cX2_isOnPath 0 = .ok (.iconst 0, 1) := dk_3 (dk_at dksX2_isOnPath_0 0 rfl rfl)
theorem dX2_isOnPath_1 : decode cX2_isOnPath 1 = .ok (.istore_n 2, 1) := dk_61 (dk_at dksX2_isOnPath_0 1 rfl rfl)
theorem dX2_isOnPath_2 : decode cX2_isOnPath 2 = .ok (.iload_n 2, 1) := dk_28 (dk_at dksX2_isOnPath_0 2 rfl rfl)
theorem dX2_isOnPath_3 : decode cX2_isOnPath 3 = .ok (.iload_n 1, 1) := dk_27 (dk_at dksX2_isOnPath_0 3 rfl rfl)
theorem dX2_isOnPath_4 : decode cX2_isOnPath 4 = .ok (.if_icmp .ge 21, 3) := dk_162 0 21 (dk_at dksX2_isOnPath_0 4 rfl rfl)
theorem dX2_isOnPath_7 : decode cX2_isOnPath 7 = .ok (.aload_n 0, 1) := dk_42 (dk_at dksX2_isOnPath_0 7 rfl rfl)
theorem dX2_isOnPath_8 : decode cX2_isOnPath 8 = .ok (.getfield 77, 3) := dk_180 0 77 (dk_at dksX2_isOnPath_0 8 rfl rfl)
theorem dX2_isOnPath_11 : decode cX2_isOnPath 11 = .ok (.iload_n 2, 1) := dk_28 (dk_at dksX2_isOnPath_0 11 rfl rfl)
theorem dX2_isOnPath_12 : decode cX2_isOnPath 12 = .ok (.aload_n 0, 1) := dk_42 (dk_at dksX2_isOnPath_0 12 rfl rfl)
theorem dX2_isOnPath_13 : decode cX2_isOnPath 13 = .ok (.getfield 119, 3) := dk_180 0 119 (dk_at dksX2_isOnPath_0 13 rfl rfl)
theorem dX2_isOnPath_16 : decode cX2_isOnPath 16 = .ok (.iload_n 2, 1) := dk_28 (dk_at dksX2_isOnPath_0 16 rfl rfl)
theorem dX2_isOnPath_17 : decode cX2_isOnPath 17 = .ok (.iaload, 1) := dk_46 (dk_at dksX2_isOnPath_0 17 rfl rfl)
theorem dX2_isOnPath_18 : decode cX2_isOnPath 18 = .ok (.iastore, 1) := dk_79 (dk_at dksX2_isOnPath_0 18 rfl rfl)
theorem dX2_isOnPath_19 : decode cX2_isOnPath 19 = .ok (.iinc 2 1, 3) := dk_132 2 1 (dk_at dksX2_isOnPath_0 19 rfl rfl)
theorem dX2_isOnPath_22 : decode cX2_isOnPath 22 = .ok (.goto (-20), 3) := dk_167 255 236 (dk_at dksX2_isOnPath_1 0 rfl rfl)
theorem dX2_isOnPath_25 : decode cX2_isOnPath 25 = .ok (.aload_n 0, 1) := dk_42 (dk_at dksX2_isOnPath_1 3 rfl rfl)
theorem dX2_isOnPath_26 : decode cX2_isOnPath 26 = .ok (.iload_n 1, 1) := dk_27 (dk_at dksX2_isOnPath_1 4 rfl rfl)
theorem dX2_isOnPath_27 : decode cX2_isOnPath 27 = .ok (.invokevirtual 354, 3) := dk_182 1 98 (dk_at dksX2_isOnPath_1 5 rfl rfl)
theorem dX2_isOnPath_30 : decode cX2_isOnPath 30 = .ok (.ireturn, 1) := dk_172 (dk_at dksX2_isOnPath_1 8 rfl rfl)
abbrev cX2_takeCharter : ByteArray := prog_9_method_68_code
def yX2_takeCharter : MethodName := ⟨RX2, "takeCharter", "()V"⟩
def dkwX2_takeCharter_3 : List UInt8 := [79, 132, 1, 1, 167, 255, 226, 42, 89, 180, 1, 134, 4, 96, 181, 1, 134, 177]
abbrev dktX2_takeCharter_3 : List UInt8 := dkwX2_takeCharter_3 ++ []
def dkwX2_takeCharter_2 : List UInt8 := [162, 0, 31, 42, 180, 0, 110, 6, 42, 180, 1, 134, 104, 27, 96, 42, 42, 182, 1, 46, 27, 182, 1, 111]
abbrev dktX2_takeCharter_2 : List UInt8 := dkwX2_takeCharter_2 ++ dktX2_takeCharter_3
def dkwX2_takeCharter_1 : List UInt8 := [132, 1, 1, 167, 255, 233, 42, 180, 0, 107, 42, 180, 1, 134, 42, 182, 1, 146, 79, 3, 60, 27, 6]
abbrev dktX2_takeCharter_1 : List UInt8 := dkwX2_takeCharter_1 ++ dktX2_takeCharter_2
def dkwX2_takeCharter_0 : List UInt8 := [3, 60, 27, 42, 182, 1, 46, 162, 0, 21, 42, 180, 0, 77, 27, 42, 180, 0, 119, 27, 46, 79]
abbrev dktX2_takeCharter_0 : List UInt8 := dkwX2_takeCharter_0 ++ dktX2_takeCharter_1
theorem dksX2_takeCharter_0 : cX2_takeCharter.data.toList.drop 0 = dktX2_takeCharter_0 := by decide +kernel
theorem dksX2_takeCharter_1 : cX2_takeCharter.data.toList.drop 22 = dktX2_takeCharter_1 := dk_seg dksX2_takeCharter_0 22 rfl rfl
theorem dksX2_takeCharter_2 : cX2_takeCharter.data.toList.drop 45 = dktX2_takeCharter_2 := dk_seg dksX2_takeCharter_1 23 rfl rfl
theorem dksX2_takeCharter_3 : cX2_takeCharter.data.toList.drop 69 = dktX2_takeCharter_3 := dk_seg dksX2_takeCharter_2 24 rfl rfl
theorem dX2_takeCharter_0 : decode cX2_takeCharter 0 = .ok (.iconst 0, 1) := dk_3 (dk_at dksX2_takeCharter_0 0 rfl rfl)
theorem dX2_takeCharter_1 : decode cX2_takeCharter 1 = .ok (.istore_n 1, 1) := dk_60 (dk_at dksX2_takeCharter_0 1 rfl rfl)
theorem dX2_takeCharter_2 : decode cX2_takeCharter 2 = .ok (.iload_n 1, 1) := dk_27 (dk_at dksX2_takeCharter_0 2 rfl rfl)
theorem dX2_takeCharter_3 : decode cX2_takeCharter 3 = .ok (.aload_n 0, 1) := dk_42 (dk_at dksX2_takeCharter_0 3 rfl rfl)
theorem dX2_takeCharter_4 : decode cX2_takeCharter 4 = .ok (.invokevirtual 302, 3) := dk_182 1 46 (dk_at dksX2_takeCharter_0 4 rfl rfl)
theorem dX2_takeCharter_7 : decode cX2_takeCharter 7 = .ok (.if_icmp .ge 21, 3) := dk_162 0 21 (dk_at dksX2_takeCharter_0 7 rfl rfl)
theorem dX2_takeCharter_10 : decode cX2_takeCharter 10 = .ok (.aload_n 0, 1) := dk_42 (dk_at dksX2_takeCharter_0 10 rfl rfl)
theorem dX2_takeCharter_11 : decode cX2_takeCharter 11 = .ok (.getfield 77, 3) := dk_180 0 77 (dk_at dksX2_takeCharter_0 11 rfl rfl)
theorem dX2_takeCharter_14 : decode cX2_takeCharter 14 = .ok (.iload_n 1, 1) := dk_27 (dk_at dksX2_takeCharter_0 14 rfl rfl)
theorem dX2_takeCharter_15 : decode cX2_takeCharter 15 = .ok (.aload_n 0, 1) := dk_42 (dk_at dksX2_takeCharter_0 15 rfl rfl)
theorem dX2_takeCharter_16 : decode cX2_takeCharter 16 = .ok (.getfield 119, 3) := dk_180 0 119 (dk_at dksX2_takeCharter_0 16 rfl rfl)
theorem dX2_takeCharter_19 : decode cX2_takeCharter 19 = .ok (.iload_n 1, 1) := dk_27 (dk_at dksX2_takeCharter_0 19 rfl rfl)
theorem dX2_takeCharter_20 : decode cX2_takeCharter 20 = .ok (.iaload, 1) := dk_46 (dk_at dksX2_takeCharter_0 20 rfl rfl)
theorem dX2_takeCharter_21 : decode cX2_takeCharter 21 = .ok (.iastore, 1) := dk_79 (dk_at dksX2_takeCharter_0 21 rfl rfl)
theorem dX2_takeCharter_22 : decode cX2_takeCharter 22 = .ok (.iinc 1 1, 3) := dk_132 1 1 (dk_at dksX2_takeCharter_1 0 rfl rfl)
theorem dX2_takeCharter_25 : decode cX2_takeCharter 25 = .ok (.goto (-23), 3) := dk_167 255 233 (dk_at dksX2_takeCharter_1 3 rfl rfl)
theorem dX2_takeCharter_28 : decode cX2_takeCharter 28 = .ok (.aload_n 0, 1) := dk_42 (dk_at dksX2_takeCharter_1 6 rfl rfl)
theorem dX2_takeCharter_29 : decode cX2_takeCharter 29 = .ok (.getfield 107, 3) := dk_180 0 107 (dk_at dksX2_takeCharter_1 7 rfl rfl)
theorem dX2_takeCharter_32 : decode cX2_takeCharter 32 = .ok (.aload_n 0, 1) := dk_42 (dk_at dksX2_takeCharter_1 10 rfl rfl)
theorem dX2_takeCharter_33 : decode cX2_takeCharter 33 = .ok (.getfield 390, 3) := dk_180 1 134 (dk_at dksX2_takeCharter_1 11 rfl rfl)
theorem dX2_takeCharter_36 : decode cX2_takeCharter 36 = .ok (.aload_n 0, 1) := dk_42 (dk_at dksX2_takeCharter_1 14 rfl rfl)
theorem dX2_takeCharter_37 : decode cX2_takeCharter 37 = .ok (.invokevirtual 402, 3) := dk_182 1 146 (dk_at dksX2_takeCharter_1 15 rfl rfl)
theorem dX2_takeCharter_40 : decode cX2_takeCharter 40 = .ok (.iastore, 1) := dk_79 (dk_at dksX2_takeCharter_1 18 rfl rfl)
theorem dX2_takeCharter_41 : decode cX2_takeCharter 41 = .ok (.iconst 0, 1) := dk_3 (dk_at dksX2_takeCharter_1 19 rfl rfl)
theorem dX2_takeCharter_42 : decode cX2_takeCharter 42 = .ok (.istore_n 1, 1) := dk_60 (dk_at dksX2_takeCharter_1 20 rfl rfl)
theorem dX2_takeCharter_43 : decode cX2_takeCharter 43 = .ok (.iload_n 1, 1) := dk_27 (dk_at dksX2_takeCharter_1 21 rfl rfl)
theorem dX2_takeCharter_44 : decode cX2_takeCharter 44 = .ok (.iconst 3, 1) := dk_6 (dk_at dksX2_takeCharter_1 22 rfl rfl)
theorem dX2_takeCharter_45 : decode cX2_takeCharter 45 = .ok (.if_icmp .ge 31, 3) := dk_162 0 31 (dk_at dksX2_takeCharter_2 0 rfl rfl)
theorem dX2_takeCharter_48 : decode cX2_takeCharter 48 = .ok (.aload_n 0, 1) := dk_42 (dk_at dksX2_takeCharter_2 3 rfl rfl)
theorem dX2_takeCharter_49 : decode cX2_takeCharter 49 = .ok (.getfield 110, 3) := dk_180 0 110 (dk_at dksX2_takeCharter_2 4 rfl rfl)
theorem dX2_takeCharter_52 : decode cX2_takeCharter 52 = .ok (.iconst 3, 1) := dk_6 (dk_at dksX2_takeCharter_2 7 rfl rfl)
theorem dX2_takeCharter_53 : decode cX2_takeCharter 53 = .ok (.aload_n 0, 1) := dk_42 (dk_at dksX2_takeCharter_2 8 rfl rfl)
theorem dX2_takeCharter_54 : decode cX2_takeCharter 54 = .ok (.getfield 390, 3) := dk_180 1 134 (dk_at dksX2_takeCharter_2 9 rfl rfl)
theorem dX2_takeCharter_57 : decode cX2_takeCharter 57 = .ok (.imul, 1) := dk_104 (dk_at dksX2_takeCharter_2 12 rfl rfl)
theorem dX2_takeCharter_58 : decode cX2_takeCharter 58 = .ok (.iload_n 1, 1) := dk_27 (dk_at dksX2_takeCharter_2 13 rfl rfl)
theorem dX2_takeCharter_59 : decode cX2_takeCharter 59 = .ok (.iadd, 1) := dk_96 (dk_at dksX2_takeCharter_2 14 rfl rfl)
theorem dX2_takeCharter_60 : decode cX2_takeCharter 60 = .ok (.aload_n 0, 1) := dk_42 (dk_at dksX2_takeCharter_2 15 rfl rfl)
theorem dX2_takeCharter_61 : decode cX2_takeCharter 61 = .ok (.aload_n 0, 1) := dk_42 (dk_at dksX2_takeCharter_2 16 rfl rfl)
theorem dX2_takeCharter_62 : decode cX2_takeCharter 62 = .ok (.invokevirtual 302, 3) := dk_182 1 46 (dk_at dksX2_takeCharter_2 17 rfl rfl)
theorem dX2_takeCharter_65 : decode cX2_takeCharter 65 = .ok (.iload_n 1, 1) := dk_27 (dk_at dksX2_takeCharter_2 20 rfl rfl)
theorem dX2_takeCharter_66 : decode cX2_takeCharter 66 = .ok (.invokevirtual 367, 3) := dk_182 1 111 (dk_at dksX2_takeCharter_2 21 rfl rfl)
theorem dX2_takeCharter_69 : decode cX2_takeCharter 69 = .ok (.iastore, 1) := dk_79 (dk_at dksX2_takeCharter_3 0 rfl rfl)
theorem dX2_takeCharter_70 : decode cX2_takeCharter 70 = .ok (.iinc 1 1, 3) := dk_132 1 1 (dk_at dksX2_takeCharter_3 1 rfl rfl)
theorem dX2_takeCharter_73 : decode cX2_takeCharter 73 = .ok (.goto (-30), 3) := dk_167 255 226 (dk_at dksX2_takeCharter_3 4 rfl rfl)
theorem dX2_takeCharter_76 : decode cX2_takeCharter 76 = .ok (.aload_n 0, 1) := dk_42 (dk_at dksX2_takeCharter_3 7 rfl rfl)
theorem dX2_takeCharter_77 : decode cX2_takeCharter 77 = .ok (.dup, 1) := dk_89 (dk_at dksX2_takeCharter_3 8 rfl rfl)
theorem dX2_takeCharter_78 : decode cX2_takeCharter 78 = .ok (.getfield 390, 3) := dk_180 1 134 (dk_at dksX2_takeCharter_3 9 rfl rfl)
theorem dX2_takeCharter_81 : decode cX2_takeCharter 81 = .ok (.iconst 1, 1) := dk_4 (dk_at dksX2_takeCharter_3 12 rfl rfl)
theorem dX2_takeCharter_82 : decode cX2_takeCharter 82 = .ok (.iadd, 1) := dk_96 (dk_at dksX2_takeCharter_3 13 rfl rfl)
theorem dX2_takeCharter_83 : decode cX2_takeCharter 83 = .ok (.putfield 390, 3) := dk_181 1 134 (dk_at dksX2_takeCharter_3 14 rfl rfl)
theorem dX2_takeCharter_86 : decode cX2_takeCharter 86 = .ok (.return_, 1) := dk_177 (dk_at dksX2_takeCharter_3 17 rfl rfl)
abbrev cX2_packed : ByteArray := prog_9_method_63_code
def yX2_packed : MethodName := ⟨RX2, "packed", "()I"⟩
def dkwX2_packed_1 : List UInt8 := [132, 2, 1, 167, 255, 234, 27, 172]
abbrev dktX2_packed_1 : List UInt8 := dkwX2_packed_1 ++ []
def dkwX2_packed_0 : List UInt8 := [3, 60, 3, 61, 28, 42, 182, 1, 46, 162, 0, 20, 27, 6, 120, 42, 180, 0, 77, 28, 46, 128, 60]
abbrev dktX2_packed_0 : List UInt8 := dkwX2_packed_0 ++ dktX2_packed_1
theorem dksX2_packed_0 : cX2_packed.data.toList.drop 0 = dktX2_packed_0 := by decide +kernel
theorem dksX2_packed_1 : cX2_packed.data.toList.drop 23 = dktX2_packed_1 := dk_seg dksX2_packed_0 23 rfl rfl
theorem dX2_packed_0 : decode cX2_packed 0 = .ok (.iconst 0, 1) := dk_3 (dk_at dksX2_packed_0 0 rfl rfl)
theorem dX2_packed_1 : decode cX2_packed 1 = .ok (.istore_n 1, 1) := dk_60 (dk_at dksX2_packed_0 1 rfl rfl)
theorem dX2_packed_2 : decode cX2_packed 2 = .ok (.iconst 0, 1) := dk_3 (dk_at dksX2_packed_0 2 rfl rfl)
theorem dX2_packed_3 : decode cX2_packed 3 = .ok (.istore_n 2, 1) := dk_61 (dk_at dksX2_packed_0 3 rfl rfl)
theorem dX2_packed_4 : decode cX2_packed 4 = .ok (.iload_n 2, 1) := dk_28 (dk_at dksX2_packed_0 4 rfl rfl)
theorem dX2_packed_5 : decode cX2_packed 5 = .ok (.aload_n 0, 1) := dk_42 (dk_at dksX2_packed_0 5 rfl rfl)
theorem dX2_packed_6 : decode cX2_packed 6 = .ok (.invokevirtual 302, 3) := dk_182 1 46 (dk_at dksX2_packed_0 6 rfl rfl)
theorem dX2_packed_9 : decode cX2_packed 9 = .ok (.if_icmp .ge 20, 3) := dk_162 0 20 (dk_at dksX2_packed_0 9 rfl rfl)
theorem dX2_packed_12 : decode cX2_packed 12 = .ok (.iload_n 1, 1) := dk_27 (dk_at dksX2_packed_0 12 rfl rfl)
theorem dX2_packed_13 : decode cX2_packed 13 = .ok (.iconst 3, 1) := dk_6 (dk_at dksX2_packed_0 13 rfl rfl)
theorem dX2_packed_14 : decode cX2_packed 14 = .ok (.ishl, 1) := dk_120 (dk_at dksX2_packed_0 14 rfl rfl)
theorem dX2_packed_15 : decode cX2_packed 15 = .ok (.aload_n 0, 1) := dk_42 (dk_at dksX2_packed_0 15 rfl rfl)
theorem dX2_packed_16 : decode cX2_packed 16 = .ok (.getfield 77, 3) := dk_180 0 77 (dk_at dksX2_packed_0 16 rfl rfl)
theorem dX2_packed_19 : decode cX2_packed 19 = .ok (.iload_n 2, 1) := dk_28 (dk_at dksX2_packed_0 19 rfl rfl)
theorem dX2_packed_20 : decode cX2_packed 20 = .ok (.iaload, 1) := dk_46 (dk_at dksX2_packed_0 20 rfl rfl)
theorem dX2_packed_21 : decode cX2_packed 21 = .ok (.ior, 1) := dk_128 (dk_at dksX2_packed_0 21 rfl rfl)
theorem dX2_packed_22 : decode cX2_packed 22 = .ok (.istore_n 1, 1) := dk_60 (dk_at dksX2_packed_0 22 rfl rfl)
theorem dX2_packed_23 : decode cX2_packed 23 = .ok (.iinc 2 1, 3) := dk_132 2 1 (dk_at dksX2_packed_1 0 rfl rfl)
theorem dX2_packed_26 : decode cX2_packed 26 = .ok (.goto (-22), 3) := dk_167 255 234 (dk_at dksX2_packed_1 3 rfl rfl)
theorem dX2_packed_29 : decode cX2_packed 29 = .ok (.iload_n 1, 1) := dk_27 (dk_at dksX2_packed_1 6 rfl rfl)
theorem dX2_packed_30 : decode cX2_packed 30 = .ok (.ireturn, 1) := dk_172 (dk_at dksX2_packed_1 7 rfl rfl)
abbrev cX2_turnsNow : ByteArray := prog_9_method_76_code
def yX2_turnsNow : MethodName := ⟨RX2, "turnsNow", "()V"⟩
def dkwX2_turnsNow_1 : List UInt8 := [167, 255, 235, 177]
abbrev dktX2_turnsNow_1 : List UInt8 := dkwX2_turnsNow_1 ++ []
def dkwX2_turnsNow_0 : List UInt8 := [3, 60, 27, 16, 6, 162, 0, 21, 42, 180, 0, 122, 27, 42, 180, 0, 95, 27, 46, 79, 132, 1, 1]
abbrev dktX2_turnsNow_0 : List UInt8 := dkwX2_turnsNow_0 ++ dktX2_turnsNow_1
theorem dksX2_turnsNow_0 : cX2_turnsNow.data.toList.drop 0 = dktX2_turnsNow_0 := by decide +kernel
theorem dksX2_turnsNow_1 : cX2_turnsNow.data.toList.drop 23 = dktX2_turnsNow_1 := dk_seg dksX2_turnsNow_0 23 rfl rfl
theorem dX2_turnsNow_0 : decode cX2_turnsNow 0 = .ok (.iconst 0, 1) := dk_3 (dk_at dksX2_turnsNow_0 0 rfl rfl)
theorem dX2_turnsNow_1 : decode cX2_turnsNow 1 = .ok (.istore_n 1, 1) := dk_60 (dk_at dksX2_turnsNow_0 1 rfl rfl)
theorem dX2_turnsNow_2 : decode cX2_turnsNow 2 = .ok (.iload_n 1, 1) := dk_27 (dk_at dksX2_turnsNow_0 2 rfl rfl)
theorem dX2_turnsNow_3 : decode cX2_turnsNow 3 = .ok (.bipush 6, 2) := dk_16 6 (dk_at dksX2_turnsNow_0 3 rfl rfl)
theorem dX2_turnsNow_5 : decode cX2_turnsNow 5 = .ok (.if_icmp .ge 21, 3) := dk_162 0 21 (dk_at dksX2_turnsNow_0 5 rfl rfl)
theorem dX2_turnsNow_8 : decode cX2_turnsNow 8 = .ok (.aload_n 0, 1) := dk_42 (dk_at dksX2_turnsNow_0 8 rfl rfl)
theorem dX2_turnsNow_9 : decode cX2_turnsNow 9 = .ok (.getfield 122, 3) := dk_180 0 122 (dk_at dksX2_turnsNow_0 9 rfl rfl)
theorem dX2_turnsNow_12 : decode cX2_turnsNow 12 = .ok (.iload_n 1, 1) := dk_27 (dk_at dksX2_turnsNow_0 12 rfl rfl)
theorem dX2_turnsNow_13 : decode cX2_turnsNow 13 = .ok (.aload_n 0, 1) := dk_42 (dk_at dksX2_turnsNow_0 13 rfl rfl)
theorem dX2_turnsNow_14 : decode cX2_turnsNow 14 = .ok (.getfield 95, 3) := dk_180 0 95 (dk_at dksX2_turnsNow_0 14 rfl rfl)
theorem dX2_turnsNow_17 : decode cX2_turnsNow 17 = .ok (.iload_n 1, 1) := dk_27 (dk_at dksX2_turnsNow_0 17 rfl rfl)
theorem dX2_turnsNow_18 : decode cX2_turnsNow 18 = .ok (.iaload, 1) := dk_46 (dk_at dksX2_turnsNow_0 18 rfl rfl)
theorem dX2_turnsNow_19 : decode cX2_turnsNow 19 = .ok (.iastore, 1) := dk_79 (dk_at dksX2_turnsNow_0 19 rfl rfl)
theorem dX2_turnsNow_20 : decode cX2_turnsNow 20 = .ok (.iinc 1 1, 3) := dk_132 1 1 (dk_at dksX2_turnsNow_0 20 rfl rfl)
theorem dX2_turnsNow_23 : decode cX2_turnsNow 23 = .ok (.goto (-21), 3) := dk_167 255 235 (dk_at dksX2_turnsNow_1 0 rfl rfl)
theorem dX2_turnsNow_26 : decode cX2_turnsNow 26 = .ok (.return_, 1) := dk_177 (dk_at dksX2_turnsNow_1 3 rfl rfl)
abbrev cX2_plays : ByteArray := prog_9_method_75_code
def yX2_plays : MethodName := ⟨RX2, "plays", "(I)I"⟩
def dkwX2_plays_8 : List UInt8 := [167, 255, 105, 28, 154, 0, 7, 2, 167, 0, 9, 42, 180, 0, 113, 3, 46, 172]
abbrev dktX2_plays_8 : List UInt8 := dkwX2_plays_8 ++ []
def dkwX2_plays_7 : List UInt8 := [180, 0, 113, 21, 5, 42, 180, 0, 116, 21, 5, 46, 79, 132, 5, 1, 167, 255, 233, 132, 3, 255]
abbrev dktX2_plays_7 : List UInt8 := dkwX2_plays_7 ++ dktX2_plays_8
def dkwX2_plays_6 : List UInt8 := [132, 4, 1, 132, 5, 1, 167, 255, 157, 21, 4, 61, 3, 54, 5, 21, 5, 28, 162, 0, 23, 42]
abbrev dktX2_plays_6 : List UInt8 := dkwX2_plays_6 ++ dktX2_plays_7
def dkwX2_plays_5 : List UInt8 := [180, 0, 113, 21, 5, 46, 79, 167, 0, 20, 42, 180, 0, 116, 21, 4, 42, 180, 0, 113, 21, 5, 46, 79]
abbrev dktX2_plays_5 : List UInt8 := dkwX2_plays_5 ++ dktX2_plays_6
def dkwX2_plays_4 : List UInt8 := [21, 4, 4, 100, 46, 29, 27, 182, 1, 171, 153, 0, 39, 42, 180, 0, 116, 21, 4, 4, 100, 42]
abbrev dktX2_plays_4 : List UInt8 := dkwX2_plays_4 ++ dktX2_plays_5
def dkwX2_plays_3 : List UInt8 := [21, 4, 4, 100, 46, 29, 182, 1, 168, 153, 0, 47, 42, 42, 180, 0, 113, 21, 5, 46, 42, 180, 0, 116]
abbrev dktX2_plays_3 : List UInt8 := dkwX2_plays_3 ++ dktX2_plays_4
def dkwX2_plays_2 : List UInt8 := [21, 5, 28, 162, 0, 99, 21, 4, 158, 0, 71, 42, 42, 180, 0, 113, 21, 5, 46, 42, 180, 0, 116]
abbrev dktX2_plays_2 : List UInt8 := dkwX2_plays_2 ++ dktX2_plays_3
def dkwX2_plays_1 : List UInt8 := [167, 255, 241, 42, 182, 1, 46, 4, 100, 62, 29, 42, 180, 1, 137, 161, 0, 149, 3, 54, 4, 3, 54, 5]
abbrev dktX2_plays_1 : List UInt8 := dkwX2_plays_1 ++ dktX2_plays_2
def dkwX2_plays_0 : List UInt8 := [42, 180, 1, 134, 61, 3, 62, 29, 28, 162, 0, 16, 42, 180, 0, 113, 29, 29, 79, 132, 3, 1]
abbrev dktX2_plays_0 : List UInt8 := dkwX2_plays_0 ++ dktX2_plays_1
theorem dksX2_plays_0 : cX2_plays.data.toList.drop 0 = dktX2_plays_0 := by decide +kernel
theorem dksX2_plays_1 : cX2_plays.data.toList.drop 22 = dktX2_plays_1 := dk_seg dksX2_plays_0 22 rfl rfl
theorem dksX2_plays_2 : cX2_plays.data.toList.drop 46 = dktX2_plays_2 := dk_seg dksX2_plays_1 24 rfl rfl
theorem dksX2_plays_3 : cX2_plays.data.toList.drop 69 = dktX2_plays_3 := dk_seg dksX2_plays_2 23 rfl rfl
theorem dksX2_plays_4 : cX2_plays.data.toList.drop 93 = dktX2_plays_4 := dk_seg dksX2_plays_3 24 rfl rfl
theorem dksX2_plays_5 : cX2_plays.data.toList.drop 115 = dktX2_plays_5 := dk_seg dksX2_plays_4 22 rfl rfl
theorem dksX2_plays_6 : cX2_plays.data.toList.drop 139 = dktX2_plays_6 := dk_seg dksX2_plays_5 24 rfl rfl
theorem dksX2_plays_7 : cX2_plays.data.toList.drop 161 = dktX2_plays_7 := dk_seg dksX2_plays_6 22 rfl rfl
theorem dksX2_plays_8 : cX2_plays.data.toList.drop 183 = dktX2_plays_8 := dk_seg dksX2_plays_7 22 rfl rfl
theorem dX2_plays_0 : decode cX2_plays 0 = .ok (.aload_n 0, 1) := dk_42 (dk_at dksX2_plays_0 0 rfl rfl)
theorem dX2_plays_1 : decode cX2_plays 1 = .ok (.getfield 390, 3) := dk_180 1 134 (dk_at dksX2_plays_0 1 rfl rfl)
theorem dX2_plays_4 : decode cX2_plays 4 = .ok (.istore_n 2, 1) := dk_61 (dk_at dksX2_plays_0 4 rfl rfl)
theorem dX2_plays_5 : decode cX2_plays 5 = .ok (.iconst 0, 1) := dk_3 (dk_at dksX2_plays_0 5 rfl rfl)
theorem dX2_plays_6 : decode cX2_plays 6 = .ok (.istore_n 3, 1) := dk_62 (dk_at dksX2_plays_0 6 rfl rfl)
theorem dX2_plays_7 : decode cX2_plays 7 = .ok (.iload_n 3, 1) := dk_29 (dk_at dksX2_plays_0 7 rfl rfl)
theorem dX2_plays_8 : decode cX2_plays 8 = .ok (.iload_n 2, 1) := dk_28 (dk_at dksX2_plays_0 8 rfl rfl)
theorem dX2_plays_9 : decode cX2_plays 9 = .ok (.if_icmp .ge 16, 3) := dk_162 0 16 (dk_at dksX2_plays_0 9 rfl rfl)
theorem dX2_plays_12 : decode cX2_plays 12 = .ok (.aload_n 0, 1) := dk_42 (dk_at dksX2_plays_0 12 rfl rfl)
theorem dX2_plays_13 : decode cX2_plays 13 = .ok (.getfield 113, 3) := dk_180 0 113 (dk_at dksX2_plays_0 13 rfl rfl)
theorem dX2_plays_16 : decode cX2_plays 16 = .ok (.iload_n 3, 1) := dk_29 (dk_at dksX2_plays_0 16 rfl rfl)
theorem dX2_plays_17 : decode cX2_plays 17 = .ok (.iload_n 3, 1) := dk_29 (dk_at dksX2_plays_0 17 rfl rfl)
theorem dX2_plays_18 : decode cX2_plays 18 = .ok (.iastore, 1) := dk_79 (dk_at dksX2_plays_0 18 rfl rfl)
theorem dX2_plays_19 : decode cX2_plays 19 = .ok (.iinc 3 1, 3) := dk_132 3 1 (dk_at dksX2_plays_0 19 rfl rfl)
theorem dX2_plays_22 : decode cX2_plays 22 = .ok (.goto (-15), 3) := dk_167 255 241 (dk_at dksX2_plays_1 0 rfl rfl)
theorem dX2_plays_25 : decode cX2_plays 25 = .ok (.aload_n 0, 1) := dk_42 (dk_at dksX2_plays_1 3 rfl rfl)
theorem dX2_plays_26 : decode cX2_plays 26 = .ok (.invokevirtual 302, 3) := dk_182 1 46 (dk_at dksX2_plays_1 4 rfl rfl)
theorem dX2_plays_29 : decode cX2_plays 29 = .ok (.iconst 1, 1) := dk_4 (dk_at dksX2_plays_1 7 rfl rfl)
theorem dX2_plays_30 : decode cX2_plays 30 = .ok (.isub, 1) := dk_100 (dk_at dksX2_plays_1 8 rfl rfl)
theorem dX2_plays_31 : decode cX2_plays 31 = .ok (.istore_n 3, 1) := dk_62 (dk_at dksX2_plays_1 9 rfl rfl)
theorem dX2_plays_32 : decode cX2_plays 32 = .ok (.iload_n 3, 1) := dk_29 (dk_at dksX2_plays_1 10 rfl rfl)
theorem dX2_plays_33 : decode cX2_plays 33 = .ok (.aload_n 0, 1) := dk_42 (dk_at dksX2_plays_1 11 rfl rfl)
theorem dX2_plays_34 : decode cX2_plays 34 = .ok (.getfield 393, 3) := dk_180 1 137 (dk_at dksX2_plays_1 12 rfl rfl)
theorem dX2_plays_37 : decode cX2_plays 37 = .ok (.if_icmp .lt 149, 3) := dk_161 0 149 (dk_at dksX2_plays_1 15 rfl rfl)
theorem dX2_plays_40 : decode cX2_plays 40 = .ok (.iconst 0, 1) := dk_3 (dk_at dksX2_plays_1 18 rfl rfl)
theorem dX2_plays_41 : decode cX2_plays 41 = .ok (.istore 4, 2) := dk_54 4 (dk_at dksX2_plays_1 19 rfl rfl)
theorem dX2_plays_43 : decode cX2_plays 43 = .ok (.iconst 0, 1) := dk_3 (dk_at dksX2_plays_1 21 rfl rfl)
theorem dX2_plays_44 : decode cX2_plays 44 = .ok (.istore 5, 2) := dk_54 5 (dk_at dksX2_plays_1 22 rfl rfl)
theorem dX2_plays_46 : decode cX2_plays 46 = .ok (.iload 5, 2) := dk_21 5 (dk_at dksX2_plays_2 0 rfl rfl)
theorem dX2_plays_48 : decode cX2_plays 48 = .ok (.iload_n 2, 1) := dk_28 (dk_at dksX2_plays_2 2 rfl rfl)
theorem dX2_plays_49 : decode cX2_plays 49 = .ok (.if_icmp .ge 99, 3) := dk_162 0 99 (dk_at dksX2_plays_2 3 rfl rfl)
theorem dX2_plays_52 : decode cX2_plays 52 = .ok (.iload 4, 2) := dk_21 4 (dk_at dksX2_plays_2 6 rfl rfl)
theorem dX2_plays_54 : decode cX2_plays 54 = .ok (.ifCond .le 71, 3) := dk_158 0 71 (dk_at dksX2_plays_2 8 rfl rfl)
theorem dX2_plays_57 : decode cX2_plays 57 = .ok (.aload_n 0, 1) := dk_42 (dk_at dksX2_plays_2 11 rfl rfl)
theorem dX2_plays_58 : decode cX2_plays 58 = .ok (.aload_n 0, 1) := dk_42 (dk_at dksX2_plays_2 12 rfl rfl)
theorem dX2_plays_59 : decode cX2_plays 59 = .ok (.getfield 113, 3) := dk_180 0 113 (dk_at dksX2_plays_2 13 rfl rfl)
theorem dX2_plays_62 : decode cX2_plays 62 = .ok (.iload 5, 2) := dk_21 5 (dk_at dksX2_plays_2 16 rfl rfl)
theorem dX2_plays_64 : decode cX2_plays 64 = .ok (.iaload, 1) := dk_46 (dk_at dksX2_plays_2 18 rfl rfl)
theorem dX2_plays_65 : decode cX2_plays 65 = .ok (.aload_n 0, 1) := dk_42 (dk_at dksX2_plays_2 19 rfl rfl)
theorem dX2_plays_66 : decode cX2_plays 66 = .ok (.getfield 116, 3) := dk_180 0 116 (dk_at dksX2_plays_2 20 rfl rfl)
theorem dX2_plays_69 : decode cX2_plays 69 = .ok (.iload 4, 2) := dk_21 4 (dk_at dksX2_plays_3 0 rfl rfl)
theorem dX2_plays_71 : decode cX2_plays 71 = .ok (.iconst 1, 1) := dk_4 (dk_at dksX2_plays_3 2 rfl rfl)
theorem dX2_plays_72 : decode cX2_plays 72 = .ok (.isub, 1) := dk_100 (dk_at dksX2_plays_3 3 rfl rfl)
theorem dX2_plays_73 : decode cX2_plays 73 = .ok (.iaload, 1) := dk_46 (dk_at dksX2_plays_3 4 rfl rfl)
theorem dX2_plays_74 : decode cX2_plays 74 = .ok (.iload_n 3, 1) := dk_29 (dk_at dksX2_plays_3 5 rfl rfl)
theorem dX2_plays_75 : decode cX2_plays 75 = .ok (.invokevirtual 424, 3) := dk_182 1 168 (dk_at dksX2_plays_3 6 rfl rfl)
theorem dX2_plays_78 : decode cX2_plays 78 = .ok (.ifCond .eq 47, 3) := dk_153 0 47 (dk_at dksX2_plays_3 9 rfl rfl)
theorem dX2_plays_81 : decode cX2_plays 81 = .ok (.aload_n 0, 1) := dk_42 (dk_at dksX2_plays_3 12 rfl rfl)
theorem dX2_plays_82 : decode cX2_plays 82 = .ok (.aload_n 0, 1) := dk_42 (dk_at dksX2_plays_3 13 rfl rfl)
theorem dX2_plays_83 : decode cX2_plays 83 = .ok (.getfield 113, 3) := dk_180 0 113 (dk_at dksX2_plays_3 14 rfl rfl)
theorem dX2_plays_86 : decode cX2_plays 86 = .ok (.iload 5, 2) := dk_21 5 (dk_at dksX2_plays_3 17 rfl rfl)
theorem dX2_plays_88 : decode cX2_plays 88 = .ok (.iaload, 1) := dk_46 (dk_at dksX2_plays_3 19 rfl rfl)
theorem dX2_plays_89 : decode cX2_plays 89 = .ok (.aload_n 0, 1) := dk_42 (dk_at dksX2_plays_3 20 rfl rfl)
theorem dX2_plays_90 : decode cX2_plays 90 = .ok (.getfield 116, 3) := dk_180 0 116 (dk_at dksX2_plays_3 21 rfl rfl)
theorem dX2_plays_93 : decode cX2_plays 93 = .ok (.iload 4, 2) := dk_21 4 (dk_at dksX2_plays_4 0 rfl rfl)
theorem dX2_plays_95 : decode cX2_plays 95 = .ok (.iconst 1, 1) := dk_4 (dk_at dksX2_plays_4 2 rfl rfl)
theorem dX2_plays_96 : decode cX2_plays 96 = .ok (.isub, 1) := dk_100 (dk_at dksX2_plays_4 3 rfl rfl)
theorem dX2_plays_97 : decode cX2_plays 97 = .ok (.iaload, 1) := dk_46 (dk_at dksX2_plays_4 4 rfl rfl)
theorem dX2_plays_98 : decode cX2_plays 98 = .ok (.iload_n 3, 1) := dk_29 (dk_at dksX2_plays_4 5 rfl rfl)
theorem dX2_plays_99 : decode cX2_plays 99 = .ok (.iload_n 1, 1) := dk_27 (dk_at dksX2_plays_4 6 rfl rfl)
theorem dX2_plays_100 : decode cX2_plays 100 = .ok (.invokevirtual 427, 3) := dk_182 1 171 (dk_at dksX2_plays_4 7 rfl rfl)
theorem dX2_plays_103 : decode cX2_plays 103 = .ok (.ifCond .eq 39, 3) := dk_153 0 39 (dk_at dksX2_plays_4 10 rfl rfl)
theorem dX2_plays_106 : decode cX2_plays 106 = .ok (.aload_n 0, 1) := dk_42 (dk_at dksX2_plays_4 13 rfl rfl)
theorem dX2_plays_107 : decode cX2_plays 107 = .ok (.getfield 116, 3) := dk_180 0 116 (dk_at dksX2_plays_4 14 rfl rfl)
theorem dX2_plays_110 : decode cX2_plays 110 = .ok (.iload 4, 2) := dk_21 4 (dk_at dksX2_plays_4 17 rfl rfl)
theorem dX2_plays_112 : decode cX2_plays 112 = .ok (.iconst 1, 1) := dk_4 (dk_at dksX2_plays_4 19 rfl rfl)
theorem dX2_plays_113 : decode cX2_plays 113 = .ok (.isub, 1) := dk_100 (dk_at dksX2_plays_4 20 rfl rfl)
theorem dX2_plays_114 : decode cX2_plays 114 = .ok (.aload_n 0, 1) := dk_42 (dk_at dksX2_plays_4 21 rfl rfl)
theorem dX2_plays_115 : decode cX2_plays 115 = .ok (.getfield 113, 3) := dk_180 0 113 (dk_at dksX2_plays_5 0 rfl rfl)
theorem dX2_plays_118 : decode cX2_plays 118 = .ok (.iload 5, 2) := dk_21 5 (dk_at dksX2_plays_5 3 rfl rfl)
theorem dX2_plays_120 : decode cX2_plays 120 = .ok (.iaload, 1) := dk_46 (dk_at dksX2_plays_5 5 rfl rfl)
theorem dX2_plays_121 : decode cX2_plays 121 = .ok (.iastore, 1) := dk_79 (dk_at dksX2_plays_5 6 rfl rfl)
theorem dX2_plays_122 : decode cX2_plays 122 = .ok (.goto 20, 3) := dk_167 0 20 (dk_at dksX2_plays_5 7 rfl rfl)
theorem dX2_plays_125 : decode cX2_plays 125 = .ok (.aload_n 0, 1) := dk_42 (dk_at dksX2_plays_5 10 rfl rfl)
theorem dX2_plays_126 : decode cX2_plays 126 = .ok (.getfield 116, 3) := dk_180 0 116 (dk_at dksX2_plays_5 11 rfl rfl)
theorem dX2_plays_129 : decode cX2_plays 129 = .ok (.iload 4, 2) := dk_21 4 (dk_at dksX2_plays_5 14 rfl rfl)
theorem dX2_plays_131 : decode cX2_plays 131 = .ok (.aload_n 0, 1) := dk_42 (dk_at dksX2_plays_5 16 rfl rfl)
theorem dX2_plays_132 : decode cX2_plays 132 = .ok (.getfield 113, 3) := dk_180 0 113 (dk_at dksX2_plays_5 17 rfl rfl)
theorem dX2_plays_135 : decode cX2_plays 135 = .ok (.iload 5, 2) := dk_21 5 (dk_at dksX2_plays_5 20 rfl rfl)
theorem dX2_plays_137 : decode cX2_plays 137 = .ok (.iaload, 1) := dk_46 (dk_at dksX2_plays_5 22 rfl rfl)
theorem dX2_plays_138 : decode cX2_plays 138 = .ok (.iastore, 1) := dk_79 (dk_at dksX2_plays_5 23 rfl rfl)
theorem dX2_plays_139 : decode cX2_plays 139 = .ok (.iinc 4 1, 3) := dk_132 4 1 (dk_at dksX2_plays_6 0 rfl rfl)
theorem dX2_plays_142 : decode cX2_plays 142 = .ok (.iinc 5 1, 3) := dk_132 5 1 (dk_at dksX2_plays_6 3 rfl rfl)
theorem dX2_plays_145 : decode cX2_plays 145 = .ok (.goto (-99), 3) := dk_167 255 157 (dk_at dksX2_plays_6 6 rfl rfl)
theorem dX2_plays_148 : decode cX2_plays 148 = .ok (.iload 4, 2) := dk_21 4 (dk_at dksX2_plays_6 9 rfl rfl)
theorem dX2_plays_150 : decode cX2_plays 150 = .ok (.istore_n 2, 1) := dk_61 (dk_at dksX2_plays_6 11 rfl rfl)
theorem dX2_plays_151 : decode cX2_plays 151 = .ok (.iconst 0, 1) := dk_3 (dk_at dksX2_plays_6 12 rfl rfl)
theorem dX2_plays_152 : decode cX2_plays 152 = .ok (.istore 5, 2) := dk_54 5 (dk_at dksX2_plays_6 13 rfl rfl)
theorem dX2_plays_154 : decode cX2_plays 154 = .ok (.iload 5, 2) := dk_21 5 (dk_at dksX2_plays_6 15 rfl rfl)
theorem dX2_plays_156 : decode cX2_plays 156 = .ok (.iload_n 2, 1) := dk_28 (dk_at dksX2_plays_6 17 rfl rfl)
theorem dX2_plays_157 : decode cX2_plays 157 = .ok (.if_icmp .ge 23, 3) := dk_162 0 23 (dk_at dksX2_plays_6 18 rfl rfl)
theorem dX2_plays_160 : decode cX2_plays 160 = .ok (.aload_n 0, 1) := dk_42 (dk_at dksX2_plays_6 21 rfl rfl)
theorem dX2_plays_161 : decode cX2_plays 161 = .ok (.getfield 113, 3) := dk_180 0 113 (dk_at dksX2_plays_7 0 rfl rfl)
theorem dX2_plays_164 : decode cX2_plays 164 = .ok (.iload 5, 2) := dk_21 5 (dk_at dksX2_plays_7 3 rfl rfl)
theorem dX2_plays_166 : decode cX2_plays 166 = .ok (.aload_n 0, 1) := dk_42 (dk_at dksX2_plays_7 5 rfl rfl)
theorem dX2_plays_167 : decode cX2_plays 167 = .ok (.getfield 116, 3) := dk_180 0 116 (dk_at dksX2_plays_7 6 rfl rfl)
theorem dX2_plays_170 : decode cX2_plays 170 = .ok (.iload 5, 2) := dk_21 5 (dk_at dksX2_plays_7 9 rfl rfl)
theorem dX2_plays_172 : decode cX2_plays 172 = .ok (.iaload, 1) := dk_46 (dk_at dksX2_plays_7 11 rfl rfl)
theorem dX2_plays_173 : decode cX2_plays 173 = .ok (.iastore, 1) := dk_79 (dk_at dksX2_plays_7 12 rfl rfl)
theorem dX2_plays_174 : decode cX2_plays 174 = .ok (.iinc 5 1, 3) := dk_132 5 1 (dk_at dksX2_plays_7 13 rfl rfl)
theorem dX2_plays_177 : decode cX2_plays 177 = .ok (.goto (-23), 3) := dk_167 255 233 (dk_at dksX2_plays_7 16 rfl rfl)
theorem dX2_plays_180 : decode cX2_plays 180 = .ok (.iinc 3 (-1), 3) := dk_132 3 255 (dk_at dksX2_plays_7 19 rfl rfl)
theorem dX2_plays_183 : decode cX2_plays 183 = .ok (.goto (-151), 3) := dk_167 255 105 (dk_at dksX2_plays_8 0 rfl rfl)
theorem dX2_plays_186 : decode cX2_plays 186 = .ok (.iload_n 2, 1) := dk_28 (dk_at dksX2_plays_8 3 rfl rfl)
theorem dX2_plays_187 : decode cX2_plays 187 = .ok (.ifCond .ne 7, 3) := dk_154 0 7 (dk_at dksX2_plays_8 4 rfl rfl)
theorem dX2_plays_190 : decode cX2_plays 190 = .ok (.iconst (-1), 1) := dk_2 (dk_at dksX2_plays_8 7 rfl rfl)
theorem dX2_plays_191 : decode cX2_plays 191 = .ok (.goto 9, 3) := dk_167 0 9 (dk_at dksX2_plays_8 8 rfl rfl)
theorem dX2_plays_194 : decode cX2_plays 194 = .ok (.aload_n 0, 1) := dk_42 (dk_at dksX2_plays_8 11 rfl rfl)
theorem dX2_plays_195 : decode cX2_plays 195 = .ok (.getfield 113, 3) := dk_180 0 113 (dk_at dksX2_plays_8 12 rfl rfl)
theorem dX2_plays_198 : decode cX2_plays 198 = .ok (.iconst 0, 1) := dk_3 (dk_at dksX2_plays_8 15 rfl rfl)
theorem dX2_plays_199 : decode cX2_plays 199 = .ok (.iaload, 1) := dk_46 (dk_at dksX2_plays_8 16 rfl rfl)
theorem dX2_plays_200 : decode cX2_plays 200 = .ok (.ireturn, 1) := dk_172 (dk_at dksX2_plays_8 17 rfl rfl)
abbrev cX2_areGrouped : ByteArray := prog_9_method_73_code
def yX2_areGrouped : MethodName := ⟨RX2, "areGrouped", "(III)Z"⟩
def dkwX2_areGrouped_1 : List UInt8 := [182, 1, 46, 29, 100, 104, 122, 160, 0, 7, 4, 167, 0, 4, 3, 172]
abbrev dktX2_areGrouped_1 : List UInt8 := dkwX2_areGrouped_1 ++ []
def dkwX2_areGrouped_0 : List UInt8 := [42, 180, 0, 107, 27, 46, 6, 42, 182, 1, 46, 29, 100, 104, 122, 42, 180, 0, 107, 28, 46, 6, 42]
abbrev dktX2_areGrouped_0 : List UInt8 := dkwX2_areGrouped_0 ++ dktX2_areGrouped_1
theorem dksX2_areGrouped_0 : cX2_areGrouped.data.toList.drop 0 = dktX2_areGrouped_0 := by decide +kernel
theorem dksX2_areGrouped_1 : cX2_areGrouped.data.toList.drop 23 = dktX2_areGrouped_1 := dk_seg dksX2_areGrouped_0 23 rfl rfl
theorem dX2_areGrouped_0 : decode cX2_areGrouped 0 = .ok (.aload_n 0, 1) := dk_42 (dk_at dksX2_areGrouped_0 0 rfl rfl)
theorem dX2_areGrouped_1 : decode cX2_areGrouped 1 = .ok (.getfield 107, 3) := dk_180 0 107 (dk_at dksX2_areGrouped_0 1 rfl rfl)
theorem dX2_areGrouped_4 : decode cX2_areGrouped 4 = .ok (.iload_n 1, 1) := dk_27 (dk_at dksX2_areGrouped_0 4 rfl rfl)
theorem dX2_areGrouped_5 : decode cX2_areGrouped 5 = .ok (.iaload, 1) := dk_46 (dk_at dksX2_areGrouped_0 5 rfl rfl)
theorem dX2_areGrouped_6 : decode cX2_areGrouped 6 = .ok (.iconst 3, 1) := dk_6 (dk_at dksX2_areGrouped_0 6 rfl rfl)
theorem dX2_areGrouped_7 : decode cX2_areGrouped 7 = .ok (.aload_n 0, 1) := dk_42 (dk_at dksX2_areGrouped_0 7 rfl rfl)
theorem dX2_areGrouped_8 : decode cX2_areGrouped 8 = .ok (.invokevirtual 302, 3) := dk_182 1 46 (dk_at dksX2_areGrouped_0 8 rfl rfl)
theorem dX2_areGrouped_11 : decode cX2_areGrouped 11 = .ok (.iload_n 3, 1) := dk_29 (dk_at dksX2_areGrouped_0 11 rfl rfl)
theorem dX2_areGrouped_12 : decode cX2_areGrouped 12 = .ok (.isub, 1) := dk_100 (dk_at dksX2_areGrouped_0 12 rfl rfl)
theorem dX2_areGrouped_13 : decode cX2_areGrouped 13 = .ok (.imul, 1) := dk_104 (dk_at dksX2_areGrouped_0 13 rfl rfl)
theorem dX2_areGrouped_14 : decode cX2_areGrouped 14 = .ok (.ishr, 1) := dk_122 (dk_at dksX2_areGrouped_0 14 rfl rfl)
theorem dX2_areGrouped_15 : decode cX2_areGrouped 15 = .ok (.aload_n 0, 1) := dk_42 (dk_at dksX2_areGrouped_0 15 rfl rfl)
theorem dX2_areGrouped_16 : decode cX2_areGrouped 16 = .ok (.getfield 107, 3) := dk_180 0 107 (dk_at dksX2_areGrouped_0 16 rfl rfl)
theorem dX2_areGrouped_19 : decode cX2_areGrouped 19 = .ok (.iload_n 2, 1) := dk_28 (dk_at dksX2_areGrouped_0 19 rfl rfl)
theorem dX2_areGrouped_20 : decode cX2_areGrouped 20 = .ok (.iaload, 1) := dk_46 (dk_at dksX2_areGrouped_0 20 rfl rfl)
theorem dX2_areGrouped_21 : decode cX2_areGrouped 21 = .ok (.iconst 3, 1) := dk_6 (dk_at dksX2_areGrouped_0 21 rfl rfl)
theorem dX2_areGrouped_22 : decode cX2_areGrouped 22 = .ok (.aload_n 0, 1) := dk_42 (dk_at dksX2_areGrouped_0 22 rfl rfl)
theorem dX2_areGrouped_23 : decode cX2_areGrouped 23 = .ok (.invokevirtual 302, 3) := dk_182 1 46 (dk_at dksX2_areGrouped_1 0 rfl rfl)
theorem dX2_areGrouped_26 : decode cX2_areGrouped 26 = .ok (.iload_n 3, 1) := dk_29 (dk_at dksX2_areGrouped_1 3 rfl rfl)
theorem dX2_areGrouped_27 : decode cX2_areGrouped 27 = .ok (.isub, 1) := dk_100 (dk_at dksX2_areGrouped_1 4 rfl rfl)
theorem dX2_areGrouped_28 : decode cX2_areGrouped 28 = .ok (.imul, 1) := dk_104 (dk_at dksX2_areGrouped_1 5 rfl rfl)
theorem dX2_areGrouped_29 : decode cX2_areGrouped 29 = .ok (.ishr, 1) := dk_122 (dk_at dksX2_areGrouped_1 6 rfl rfl)
theorem dX2_areGrouped_30 : decode cX2_areGrouped 30 = .ok (.if_icmp .ne 7, 3) := dk_160 0 7 (dk_at dksX2_areGrouped_1 7 rfl rfl)
theorem dX2_areGrouped_33 : decode cX2_areGrouped 33 = .ok (.iconst 1, 1) := dk_4 (dk_at dksX2_areGrouped_1 10 rfl rfl)
theorem dX2_areGrouped_34 : decode cX2_areGrouped 34 = .ok (.goto 4, 3) := dk_167 0 4 (dk_at dksX2_areGrouped_1 11 rfl rfl)
theorem dX2_areGrouped_37 : decode cX2_areGrouped 37 = .ok (.iconst 0, 1) := dk_3 (dk_at dksX2_areGrouped_1 14 rfl rfl)
theorem dX2_areGrouped_38 : decode cX2_areGrouped 38 = .ok (.ireturn, 1) := dk_172 (dk_at dksX2_areGrouped_1 15 rfl rfl)
abbrev cX2_isBetter : ByteArray := prog_9_method_74_code
def yX2_isBetter : MethodName := ⟨RX2, "isBetter", "(IIII)Z"⟩
def dkwX2_isBetter_4 : List UInt8 := [28, 21, 4, 182, 1, 165, 162, 0, 7, 4, 167, 0, 4, 3, 172]
abbrev dktX2_isBetter_4 : List UInt8 := dkwX2_isBetter_4 ++ []
def dkwX2_isBetter_3 : List UInt8 := [21, 4, 182, 1, 165, 164, 0, 7, 4, 167, 0, 29, 3, 167, 0, 25, 42, 27, 21, 4, 182, 1, 165, 42]
abbrev dktX2_isBetter_3 : List UInt8 := dkwX2_isBetter_3 ++ dktX2_isBetter_4
def dkwX2_isBetter_2 : List UInt8 := [160, 0, 7, 4, 167, 0, 4, 3, 54, 5, 21, 5, 153, 0, 28, 42, 27, 21, 4, 182, 1, 165, 42, 28]
abbrev dktX2_isBetter_2 : List UInt8 := dkwX2_isBetter_2 ++ dktX2_isBetter_3
def dkwX2_isBetter_1 : List UInt8 := [182, 1, 162, 164, 0, 7, 4, 167, 0, 4, 3, 172, 21, 4, 42, 180, 0, 122, 29, 46, 122, 4, 126, 4]
abbrev dktX2_isBetter_1 : List UInt8 := dkwX2_isBetter_1 ++ dktX2_isBetter_2
def dkwX2_isBetter_0 : List UInt8 := [21, 4, 154, 0, 34, 42, 27, 42, 180, 0, 122, 29, 46, 182, 1, 162, 42, 28, 42, 180, 0, 122, 29, 46]
abbrev dktX2_isBetter_0 : List UInt8 := dkwX2_isBetter_0 ++ dktX2_isBetter_1
theorem dksX2_isBetter_0 : cX2_isBetter.data.toList.drop 0 = dktX2_isBetter_0 := by decide +kernel
theorem dksX2_isBetter_1 : cX2_isBetter.data.toList.drop 24 = dktX2_isBetter_1 := dk_seg dksX2_isBetter_0 24 rfl rfl
theorem dksX2_isBetter_2 : cX2_isBetter.data.toList.drop 48 = dktX2_isBetter_2 := dk_seg dksX2_isBetter_1 24 rfl rfl
theorem dksX2_isBetter_3 : cX2_isBetter.data.toList.drop 72 = dktX2_isBetter_3 := dk_seg dksX2_isBetter_2 24 rfl rfl
theorem dksX2_isBetter_4 : cX2_isBetter.data.toList.drop 96 = dktX2_isBetter_4 := dk_seg dksX2_isBetter_3 24 rfl rfl
theorem dX2_isBetter_0 : decode cX2_isBetter 0 = .ok (.iload 4, 2) := dk_21 4 (dk_at dksX2_isBetter_0 0 rfl rfl)
theorem dX2_isBetter_2 : decode cX2_isBetter 2 = .ok (.ifCond .ne 34, 3) := dk_154 0 34 (dk_at dksX2_isBetter_0 2 rfl rfl)
theorem dX2_isBetter_5 : decode cX2_isBetter 5 = .ok (.aload_n 0, 1) := dk_42 (dk_at dksX2_isBetter_0 5 rfl rfl)
theorem dX2_isBetter_6 : decode cX2_isBetter 6 = .ok (.iload_n 1, 1) := dk_27 (dk_at dksX2_isBetter_0 6 rfl rfl)
theorem dX2_isBetter_7 : decode cX2_isBetter 7 = .ok (.aload_n 0, 1) := dk_42 (dk_at dksX2_isBetter_0 7 rfl rfl)
theorem dX2_isBetter_8 : decode cX2_isBetter 8 = .ok (.getfield 122, 3) := dk_180 0 122 (dk_at dksX2_isBetter_0 8 rfl rfl)
theorem dX2_isBetter_11 : decode cX2_isBetter 11 = .ok (.iload_n 3, 1) := dk_29 (dk_at dksX2_isBetter_0 11 rfl rfl)
theorem dX2_isBetter_12 : decode cX2_isBetter 12 = .ok (.iaload, 1) := dk_46 (dk_at dksX2_isBetter_0 12 rfl rfl)
theorem dX2_isBetter_13 : decode cX2_isBetter 13 = .ok (.invokevirtual 418, 3) := dk_182 1 162 (dk_at dksX2_isBetter_0 13 rfl rfl)
theorem dX2_isBetter_16 : decode cX2_isBetter 16 = .ok (.aload_n 0, 1) := dk_42 (dk_at dksX2_isBetter_0 16 rfl rfl)
theorem dX2_isBetter_17 : decode cX2_isBetter 17 = .ok (.iload_n 2, 1) := dk_28 (dk_at dksX2_isBetter_0 17 rfl rfl)
theorem dX2_isBetter_18 : decode cX2_isBetter 18 = .ok (.aload_n 0, 1) := dk_42 (dk_at dksX2_isBetter_0 18 rfl rfl)
theorem dX2_isBetter_19 : decode cX2_isBetter 19 = .ok (.getfield 122, 3) := dk_180 0 122 (dk_at dksX2_isBetter_0 19 rfl rfl)
theorem dX2_isBetter_22 : decode cX2_isBetter 22 = .ok (.iload_n 3, 1) := dk_29 (dk_at dksX2_isBetter_0 22 rfl rfl)
theorem dX2_isBetter_23 : decode cX2_isBetter 23 = .ok (.iaload, 1) := dk_46 (dk_at dksX2_isBetter_0 23 rfl rfl)
theorem dX2_isBetter_24 : decode cX2_isBetter 24 = .ok (.invokevirtual 418, 3) := dk_182 1 162 (dk_at dksX2_isBetter_1 0 rfl rfl)
theorem dX2_isBetter_27 : decode cX2_isBetter 27 = .ok (.if_icmp .le 7, 3) := dk_164 0 7 (dk_at dksX2_isBetter_1 3 rfl rfl)
theorem dX2_isBetter_30 : decode cX2_isBetter 30 = .ok (.iconst 1, 1) := dk_4 (dk_at dksX2_isBetter_1 6 rfl rfl)
theorem dX2_isBetter_31 : decode cX2_isBetter 31 = .ok (.goto 4, 3) := dk_167 0 4 (dk_at dksX2_isBetter_1 7 rfl rfl)
theorem dX2_isBetter_34 : decode cX2_isBetter 34 = .ok (.iconst 0, 1) := dk_3 (dk_at dksX2_isBetter_1 10 rfl rfl)
theorem dX2_isBetter_35 : decode cX2_isBetter 35 = .ok (.ireturn, 1) := dk_172 (dk_at dksX2_isBetter_1 11 rfl rfl)
theorem dX2_isBetter_36 : decode cX2_isBetter 36 = .ok (.iload 4, 2) := dk_21 4 (dk_at dksX2_isBetter_1 12 rfl rfl)
theorem dX2_isBetter_38 : decode cX2_isBetter 38 = .ok (.aload_n 0, 1) := dk_42 (dk_at dksX2_isBetter_1 14 rfl rfl)
theorem dX2_isBetter_39 : decode cX2_isBetter 39 = .ok (.getfield 122, 3) := dk_180 0 122 (dk_at dksX2_isBetter_1 15 rfl rfl)
theorem dX2_isBetter_42 : decode cX2_isBetter 42 = .ok (.iload_n 3, 1) := dk_29 (dk_at dksX2_isBetter_1 18 rfl rfl)
theorem dX2_isBetter_43 : decode cX2_isBetter 43 = .ok (.iaload, 1) := dk_46 (dk_at dksX2_isBetter_1 19 rfl rfl)
theorem dX2_isBetter_44 : decode cX2_isBetter 44 = .ok (.ishr, 1) := dk_122 (dk_at dksX2_isBetter_1 20 rfl rfl)
theorem dX2_isBetter_45 : decode cX2_isBetter 45 = .ok (.iconst 1, 1) := dk_4 (dk_at dksX2_isBetter_1 21 rfl rfl)
theorem dX2_isBetter_46 : decode cX2_isBetter 46 = .ok (.iand, 1) := dk_126 (dk_at dksX2_isBetter_1 22 rfl rfl)
theorem dX2_isBetter_47 : decode cX2_isBetter 47 = .ok (.iconst 1, 1) := dk_4 (dk_at dksX2_isBetter_1 23 rfl rfl)
theorem dX2_isBetter_48 : decode cX2_isBetter 48 = .ok (.if_icmp .ne 7, 3) := dk_160 0 7 (dk_at dksX2_isBetter_2 0 rfl rfl)
theorem dX2_isBetter_51 : decode cX2_isBetter 51 = .ok (.iconst 1, 1) := dk_4 (dk_at dksX2_isBetter_2 3 rfl rfl)
theorem dX2_isBetter_52 : decode cX2_isBetter 52 = .ok (.goto 4, 3) := dk_167 0 4 (dk_at dksX2_isBetter_2 4 rfl rfl)
theorem dX2_isBetter_55 : decode cX2_isBetter 55 = .ok (.iconst 0, 1) := dk_3 (dk_at dksX2_isBetter_2 7 rfl rfl)
theorem dX2_isBetter_56 : decode cX2_isBetter 56 = .ok (.istore 5, 2) := dk_54 5 (dk_at dksX2_isBetter_2 8 rfl rfl)
theorem dX2_isBetter_58 : decode cX2_isBetter 58 = .ok (.iload 5, 2) := dk_21 5 (dk_at dksX2_isBetter_2 10 rfl rfl)
theorem dX2_isBetter_60 : decode cX2_isBetter 60 = .ok (.ifCond .eq 28, 3) := dk_153 0 28 (dk_at dksX2_isBetter_2 12 rfl rfl)
theorem dX2_isBetter_63 : decode cX2_isBetter 63 = .ok (.aload_n 0, 1) := dk_42 (dk_at dksX2_isBetter_2 15 rfl rfl)
theorem dX2_isBetter_64 : decode cX2_isBetter 64 = .ok (.iload_n 1, 1) := dk_27 (dk_at dksX2_isBetter_2 16 rfl rfl)
theorem dX2_isBetter_65 : decode cX2_isBetter 65 = .ok (.iload 4, 2) := dk_21 4 (dk_at dksX2_isBetter_2 17 rfl rfl)
theorem dX2_isBetter_67 : decode cX2_isBetter 67 = .ok (.invokevirtual 421, 3) := dk_182 1 165 (dk_at dksX2_isBetter_2 19 rfl rfl)
theorem dX2_isBetter_70 : decode cX2_isBetter 70 = .ok (.aload_n 0, 1) := dk_42 (dk_at dksX2_isBetter_2 22 rfl rfl)
theorem dX2_isBetter_71 : decode cX2_isBetter 71 = .ok (.iload_n 2, 1) := dk_28 (dk_at dksX2_isBetter_2 23 rfl rfl)
theorem dX2_isBetter_72 : decode cX2_isBetter 72 = .ok (.iload 4, 2) := dk_21 4 (dk_at dksX2_isBetter_3 0 rfl rfl)
theorem dX2_isBetter_74 : decode cX2_isBetter 74 = .ok (.invokevirtual 421, 3) := dk_182 1 165 (dk_at dksX2_isBetter_3 2 rfl rfl)
theorem dX2_isBetter_77 : decode cX2_isBetter 77 = .ok (.if_icmp .le 7, 3) := dk_164 0 7 (dk_at dksX2_isBetter_3 5 rfl rfl)
theorem dX2_isBetter_80 : decode cX2_isBetter 80 = .ok (.iconst 1, 1) := dk_4 (dk_at dksX2_isBetter_3 8 rfl rfl)
theorem dX2_isBetter_81 : decode cX2_isBetter 81 = .ok (.goto 29, 3) := dk_167 0 29 (dk_at dksX2_isBetter_3 9 rfl rfl)
theorem dX2_isBetter_84 : decode cX2_isBetter 84 = .ok (.iconst 0, 1) := dk_3 (dk_at dksX2_isBetter_3 12 rfl rfl)
theorem dX2_isBetter_85 : decode cX2_isBetter 85 = .ok (.goto 25, 3) := dk_167 0 25 (dk_at dksX2_isBetter_3 13 rfl rfl)
theorem dX2_isBetter_88 : decode cX2_isBetter 88 = .ok (.aload_n 0, 1) := dk_42 (dk_at dksX2_isBetter_3 16 rfl rfl)
theorem dX2_isBetter_89 : decode cX2_isBetter 89 = .ok (.iload_n 1, 1) := dk_27 (dk_at dksX2_isBetter_3 17 rfl rfl)
theorem dX2_isBetter_90 : decode cX2_isBetter 90 = .ok (.iload 4, 2) := dk_21 4 (dk_at dksX2_isBetter_3 18 rfl rfl)
theorem dX2_isBetter_92 : decode cX2_isBetter 92 = .ok (.invokevirtual 421, 3) := dk_182 1 165 (dk_at dksX2_isBetter_3 20 rfl rfl)
theorem dX2_isBetter_95 : decode cX2_isBetter 95 = .ok (.aload_n 0, 1) := dk_42 (dk_at dksX2_isBetter_3 23 rfl rfl)
theorem dX2_isBetter_96 : decode cX2_isBetter 96 = .ok (.iload_n 2, 1) := dk_28 (dk_at dksX2_isBetter_4 0 rfl rfl)
theorem dX2_isBetter_97 : decode cX2_isBetter 97 = .ok (.iload 4, 2) := dk_21 4 (dk_at dksX2_isBetter_4 1 rfl rfl)
theorem dX2_isBetter_99 : decode cX2_isBetter 99 = .ok (.invokevirtual 421, 3) := dk_182 1 165 (dk_at dksX2_isBetter_4 3 rfl rfl)
theorem dX2_isBetter_102 : decode cX2_isBetter 102 = .ok (.if_icmp .ge 7, 3) := dk_162 0 7 (dk_at dksX2_isBetter_4 6 rfl rfl)
theorem dX2_isBetter_105 : decode cX2_isBetter 105 = .ok (.iconst 1, 1) := dk_4 (dk_at dksX2_isBetter_4 9 rfl rfl)
theorem dX2_isBetter_106 : decode cX2_isBetter 106 = .ok (.goto 4, 3) := dk_167 0 4 (dk_at dksX2_isBetter_4 10 rfl rfl)
theorem dX2_isBetter_109 : decode cX2_isBetter 109 = .ok (.iconst 0, 1) := dk_3 (dk_at dksX2_isBetter_4 13 rfl rfl)
theorem dX2_isBetter_110 : decode cX2_isBetter 110 = .ok (.ireturn, 1) := dk_172 (dk_at dksX2_isBetter_4 14 rfl rfl)
abbrev cX2_gain : ByteArray := prog_9_method_71_code
def yX2_gain : MethodName := ⟨RX2, "gain", "(II)I"⟩
def dkwX2_gain_2 : List UInt8 := [172]
abbrev dktX2_gain_2 : List UInt8 := dkwX2_gain_2 ++ []
def dkwX2_gain_1 : List UInt8 := [46, 42, 180, 1, 153, 182, 1, 124, 42, 180, 1, 156, 160, 0, 10, 42, 180, 1, 159, 167, 0, 4, 3, 96]
abbrev dktX2_gain_1 : List UInt8 := dkwX2_gain_1 ++ dktX2_gain_2
def dkwX2_gain_0 : List UInt8 := [42, 180, 0, 110, 6, 27, 104, 28, 96, 46, 28, 42, 180, 0, 125, 160, 0, 31, 42, 42, 180, 0, 107, 27]
abbrev dktX2_gain_0 : List UInt8 := dkwX2_gain_0 ++ dktX2_gain_1
theorem dksX2_gain_0 : cX2_gain.data.toList.drop 0 = dktX2_gain_0 := by decide +kernel
theorem dksX2_gain_1 : cX2_gain.data.toList.drop 24 = dktX2_gain_1 := dk_seg dksX2_gain_0 24 rfl rfl
theorem dksX2_gain_2 : cX2_gain.data.toList.drop 48 = dktX2_gain_2 := dk_seg dksX2_gain_1 24 rfl rfl
theorem dX2_gain_0 : decode cX2_gain 0 = .ok (.aload_n 0, 1) := dk_42 (dk_at dksX2_gain_0 0 rfl rfl)
theorem dX2_gain_1 : decode cX2_gain 1 = .ok (.getfield 110, 3) := dk_180 0 110 (dk_at dksX2_gain_0 1 rfl rfl)
theorem dX2_gain_4 : decode cX2_gain 4 = .ok (.iconst 3, 1) := dk_6 (dk_at dksX2_gain_0 4 rfl rfl)
theorem dX2_gain_5 : decode cX2_gain 5 = .ok (.iload_n 1, 1) := dk_27 (dk_at dksX2_gain_0 5 rfl rfl)
theorem dX2_gain_6 : decode cX2_gain 6 = .ok (.imul, 1) := dk_104 (dk_at dksX2_gain_0 6 rfl rfl)
theorem dX2_gain_7 : decode cX2_gain 7 = .ok (.iload_n 2, 1) := dk_28 (dk_at dksX2_gain_0 7 rfl rfl)
theorem dX2_gain_8 : decode cX2_gain 8 = .ok (.iadd, 1) := dk_96 (dk_at dksX2_gain_0 8 rfl rfl)
theorem dX2_gain_9 : decode cX2_gain 9 = .ok (.iaload, 1) := dk_46 (dk_at dksX2_gain_0 9 rfl rfl)
theorem dX2_gain_10 : decode cX2_gain 10 = .ok (.iload_n 2, 1) := dk_28 (dk_at dksX2_gain_0 10 rfl rfl)
theorem dX2_gain_11 : decode cX2_gain 11 = .ok (.aload_n 0, 1) := dk_42 (dk_at dksX2_gain_0 11 rfl rfl)
theorem dX2_gain_12 : decode cX2_gain 12 = .ok (.getfield 125, 3) := dk_180 0 125 (dk_at dksX2_gain_0 12 rfl rfl)
theorem dX2_gain_15 : decode cX2_gain 15 = .ok (.if_icmp .ne 31, 3) := dk_160 0 31 (dk_at dksX2_gain_0 15 rfl rfl)
theorem dX2_gain_18 : decode cX2_gain 18 = .ok (.aload_n 0, 1) := dk_42 (dk_at dksX2_gain_0 18 rfl rfl)
theorem dX2_gain_19 : decode cX2_gain 19 = .ok (.aload_n 0, 1) := dk_42 (dk_at dksX2_gain_0 19 rfl rfl)
theorem dX2_gain_20 : decode cX2_gain 20 = .ok (.getfield 107, 3) := dk_180 0 107 (dk_at dksX2_gain_0 20 rfl rfl)
theorem dX2_gain_23 : decode cX2_gain 23 = .ok (.iload_n 1, 1) := dk_27 (dk_at dksX2_gain_0 23 rfl rfl)
theorem dX2_gain_24 : decode cX2_gain 24 = .ok (.iaload, 1) := dk_46 (dk_at dksX2_gain_1 0 rfl rfl)
theorem dX2_gain_25 : decode cX2_gain 25 = .ok (.aload_n 0, 1) := dk_42 (dk_at dksX2_gain_1 1 rfl rfl)
theorem dX2_gain_26 : decode cX2_gain 26 = .ok (.getfield 409, 3) := dk_180 1 153 (dk_at dksX2_gain_1 2 rfl rfl)
theorem dX2_gain_29 : decode cX2_gain 29 = .ok (.invokevirtual 380, 3) := dk_182 1 124 (dk_at dksX2_gain_1 5 rfl rfl)
theorem dX2_gain_32 : decode cX2_gain 32 = .ok (.aload_n 0, 1) := dk_42 (dk_at dksX2_gain_1 8 rfl rfl)
theorem dX2_gain_33 : decode cX2_gain 33 = .ok (.getfield 412, 3) := dk_180 1 156 (dk_at dksX2_gain_1 9 rfl rfl)
theorem dX2_gain_36 : decode cX2_gain 36 = .ok (.if_icmp .ne 10, 3) := dk_160 0 10 (dk_at dksX2_gain_1 12 rfl rfl)
theorem dX2_gain_39 : decode cX2_gain 39 = .ok (.aload_n 0, 1) := dk_42 (dk_at dksX2_gain_1 15 rfl rfl)
theorem dX2_gain_40 : decode cX2_gain 40 = .ok (.getfield 415, 3) := dk_180 1 159 (dk_at dksX2_gain_1 16 rfl rfl)
theorem dX2_gain_43 : decode cX2_gain 43 = .ok (.goto 4, 3) := dk_167 0 4 (dk_at dksX2_gain_1 19 rfl rfl)
theorem dX2_gain_46 : decode cX2_gain 46 = .ok (.iconst 0, 1) := dk_3 (dk_at dksX2_gain_1 22 rfl rfl)
theorem dX2_gain_47 : decode cX2_gain 47 = .ok (.iadd, 1) := dk_96 (dk_at dksX2_gain_1 23 rfl rfl)
theorem dX2_gain_48 : decode cX2_gain 48 = .ok (.ireturn, 1) := dk_172 (dk_at dksX2_gain_2 0 rfl rfl)
abbrev cX2_wordIn : ByteArray := prog_9_method_64_code
def yX2_wordIn : MethodName := ⟨RX2, "wordIn", "(II)I"⟩
def dkwX2_wordIn_0 : List UInt8 := [27, 6, 42, 182, 1, 46, 4, 100, 28, 100, 104, 122, 16, 7, 126, 172]
abbrev dktX2_wordIn_0 : List UInt8 := dkwX2_wordIn_0 ++ []
theorem dksX2_wordIn_0 : cX2_wordIn.data.toList.drop 0 = dktX2_wordIn_0 := by decide +kernel
theorem dX2_wordIn_0 : decode cX2_wordIn 0 = .ok (.iload_n 1, 1) := dk_27 (dk_at dksX2_wordIn_0 0 rfl rfl)
theorem dX2_wordIn_1 : decode cX2_wordIn 1 = .ok (.iconst 3, 1) := dk_6 (dk_at dksX2_wordIn_0 1 rfl rfl)
theorem dX2_wordIn_2 : decode cX2_wordIn 2 = .ok (.aload_n 0, 1) := dk_42 (dk_at dksX2_wordIn_0 2 rfl rfl)
theorem dX2_wordIn_3 : decode cX2_wordIn 3 = .ok (.invokevirtual 302, 3) := dk_182 1 46 (dk_at dksX2_wordIn_0 3 rfl rfl)
theorem dX2_wordIn_6 : decode cX2_wordIn 6 = .ok (.iconst 1, 1) := dk_4 (dk_at dksX2_wordIn_0 6 rfl rfl)
theorem dX2_wordIn_7 : decode cX2_wordIn 7 = .ok (.isub, 1) := dk_100 (dk_at dksX2_wordIn_0 7 rfl rfl)
theorem dX2_wordIn_8 : decode cX2_wordIn 8 = .ok (.iload_n 2, 1) := dk_28 (dk_at dksX2_wordIn_0 8 rfl rfl)
theorem dX2_wordIn_9 : decode cX2_wordIn 9 = .ok (.isub, 1) := dk_100 (dk_at dksX2_wordIn_0 9 rfl rfl)
theorem dX2_wordIn_10 : decode cX2_wordIn 10 = .ok (.imul, 1) := dk_104 (dk_at dksX2_wordIn_0 10 rfl rfl)
theorem dX2_wordIn_11 : decode cX2_wordIn 11 = .ok (.ishr, 1) := dk_122 (dk_at dksX2_wordIn_0 11 rfl rfl)
theorem dX2_wordIn_12 : decode cX2_wordIn 12 = .ok (.bipush 7, 2) := dk_16 7 (dk_at dksX2_wordIn_0 12 rfl rfl)
theorem dX2_wordIn_14 : decode cX2_wordIn 14 = .ok (.iand, 1) := dk_126 (dk_at dksX2_wordIn_0 14 rfl rfl)
theorem dX2_wordIn_15 : decode cX2_wordIn 15 = .ok (.ireturn, 1) := dk_172 (dk_at dksX2_wordIn_0 15 rfl rfl)
abbrev cX2_gainOf : ByteArray := prog_9_method_72_code
def yX2_gainOf : MethodName := ⟨RX2, "gainOf", "(II)I"⟩
def dkwX2_gainOf_1 : List UInt8 := [180, 0, 110, 6, 27, 104, 21, 4, 96, 46, 167, 0, 4, 3, 96, 62, 132, 4, 1, 167, 255, 219, 29, 172]
abbrev dktX2_gainOf_1 : List UInt8 := dkwX2_gainOf_1 ++ []
def dkwX2_gainOf_0 : List UInt8 := [3, 62, 3, 54, 4, 21, 4, 6, 162, 0, 37, 29, 28, 21, 4, 122, 4, 126, 4, 160, 0, 17, 42]
abbrev dktX2_gainOf_0 : List UInt8 := dkwX2_gainOf_0 ++ dktX2_gainOf_1
theorem dksX2_gainOf_0 : cX2_gainOf.data.toList.drop 0 = dktX2_gainOf_0 := by decide +kernel
theorem dksX2_gainOf_1 : cX2_gainOf.data.toList.drop 23 = dktX2_gainOf_1 := dk_seg dksX2_gainOf_0 23 rfl rfl
theorem dX2_gainOf_0 : decode cX2_gainOf 0 = .ok (.iconst 0, 1) := dk_3 (dk_at dksX2_gainOf_0 0 rfl rfl)
theorem dX2_gainOf_1 : decode cX2_gainOf 1 = .ok (.istore_n 3, 1) := dk_62 (dk_at dksX2_gainOf_0 1 rfl rfl)
theorem dX2_gainOf_2 : decode cX2_gainOf 2 = .ok (.iconst 0, 1) := dk_3 (dk_at dksX2_gainOf_0 2 rfl rfl)
theorem dX2_gainOf_3 : decode cX2_gainOf 3 = .ok (.istore 4, 2) := dk_54 4 (dk_at dksX2_gainOf_0 3 rfl rfl)
theorem dX2_gainOf_5 : decode cX2_gainOf 5 = .ok (.iload 4, 2) := dk_21 4 (dk_at dksX2_gainOf_0 5 rfl rfl)
theorem dX2_gainOf_7 : decode cX2_gainOf 7 = .ok (.iconst 3, 1) := dk_6 (dk_at dksX2_gainOf_0 7 rfl rfl)
theorem dX2_gainOf_8 : decode cX2_gainOf 8 = .ok (.if_icmp .ge 37, 3) := dk_162 0 37 (dk_at dksX2_gainOf_0 8 rfl rfl)
theorem dX2_gainOf_11 : decode cX2_gainOf 11 = .ok (.iload_n 3, 1) := dk_29 (dk_at dksX2_gainOf_0 11 rfl rfl)
theorem dX2_gainOf_12 : decode cX2_gainOf 12 = .ok (.iload_n 2, 1) := dk_28 (dk_at dksX2_gainOf_0 12 rfl rfl)
theorem dX2_gainOf_13 : decode cX2_gainOf 13 = .ok (.iload 4, 2) := dk_21 4 (dk_at dksX2_gainOf_0 13 rfl rfl)
theorem dX2_gainOf_15 : decode cX2_gainOf 15 = .ok (.ishr, 1) := dk_122 (dk_at dksX2_gainOf_0 15 rfl rfl)
theorem dX2_gainOf_16 : decode cX2_gainOf 16 = .ok (.iconst 1, 1) := dk_4 (dk_at dksX2_gainOf_0 16 rfl rfl)
theorem dX2_gainOf_17 : decode cX2_gainOf 17 = .ok (.iand, 1) := dk_126 (dk_at dksX2_gainOf_0 17 rfl rfl)
theorem dX2_gainOf_18 : decode cX2_gainOf 18 = .ok (.iconst 1, 1) := dk_4 (dk_at dksX2_gainOf_0 18 rfl rfl)
theorem dX2_gainOf_19 : decode cX2_gainOf 19 = .ok (.if_icmp .ne 17, 3) := dk_160 0 17 (dk_at dksX2_gainOf_0 19 rfl rfl)
theorem dX2_gainOf_22 : decode cX2_gainOf 22 = .ok (.aload_n 0, 1) := dk_42 (dk_at dksX2_gainOf_0 22 rfl rfl)
theorem dX2_gainOf_23 : decode cX2_gainOf 23 = .ok (.getfield 110, 3) := dk_180 0 110 (dk_at dksX2_gainOf_1 0 rfl rfl)
theorem dX2_gainOf_26 : decode cX2_gainOf 26 = .ok (.iconst 3, 1) := dk_6 (dk_at dksX2_gainOf_1 3 rfl rfl)
theorem dX2_gainOf_27 : decode cX2_gainOf 27 = .ok (.iload_n 1, 1) := dk_27 (dk_at dksX2_gainOf_1 4 rfl rfl)
theorem dX2_gainOf_28 : decode cX2_gainOf 28 = .ok (.imul, 1) := dk_104 (dk_at dksX2_gainOf_1 5 rfl rfl)
theorem dX2_gainOf_29 : decode cX2_gainOf 29 = .ok (.iload 4, 2) := dk_21 4 (dk_at dksX2_gainOf_1 6 rfl rfl)
theorem dX2_gainOf_31 : decode cX2_gainOf 31 = .ok (.iadd, 1) := dk_96 (dk_at dksX2_gainOf_1 8 rfl rfl)
theorem dX2_gainOf_32 : decode cX2_gainOf 32 = .ok (.iaload, 1) := dk_46 (dk_at dksX2_gainOf_1 9 rfl rfl)
theorem dX2_gainOf_33 : decode cX2_gainOf 33 = .ok (.goto 4, 3) := dk_167 0 4 (dk_at dksX2_gainOf_1 10 rfl rfl)
theorem dX2_gainOf_36 : decode cX2_gainOf 36 = .ok (.iconst 0, 1) := dk_3 (dk_at dksX2_gainOf_1 13 rfl rfl)
theorem dX2_gainOf_37 : decode cX2_gainOf 37 = .ok (.iadd, 1) := dk_96 (dk_at dksX2_gainOf_1 14 rfl rfl)
theorem dX2_gainOf_38 : decode cX2_gainOf 38 = .ok (.istore_n 3, 1) := dk_62 (dk_at dksX2_gainOf_1 15 rfl rfl)
theorem dX2_gainOf_39 : decode cX2_gainOf 39 = .ok (.iinc 4 1, 3) := dk_132 4 1 (dk_at dksX2_gainOf_1 16 rfl rfl)
theorem dX2_gainOf_42 : decode cX2_gainOf 42 = .ok (.goto (-37), 3) := dk_167 255 219 (dk_at dksX2_gainOf_1 19 rfl rfl)
theorem dX2_gainOf_45 : decode cX2_gainOf 45 = .ok (.iload_n 3, 1) := dk_29 (dk_at dksX2_gainOf_1 22 rfl rfl)
theorem dX2_gainOf_46 : decode cX2_gainOf 46 = .ok (.ireturn, 1) := dk_172 (dk_at dksX2_gainOf_1 23 rfl rfl)
abbrev cX2_lay : ByteArray := prog_9_method_79_code
def yX2_lay : MethodName := ⟨RX2, "lay", "(I)V"⟩
def dkwX2_lay_1 : List UInt8 := [182, 1, 124, 79, 132, 2, 1, 167, 255, 228, 42, 42, 182, 1, 46, 181, 0, 248, 177]
abbrev dktX2_lay_1 : List UInt8 := dkwX2_lay_1 ++ []
def dkwX2_lay_0 : List UInt8 := [3, 61, 28, 42, 182, 1, 46, 162, 0, 26, 42, 180, 0, 128, 28, 42, 42, 180, 0, 107, 27, 46, 28]
abbrev dktX2_lay_0 : List UInt8 := dkwX2_lay_0 ++ dktX2_lay_1
theorem dksX2_lay_0 : cX2_lay.data.toList.drop 0 = dktX2_lay_0 := by decide +kernel
theorem dksX2_lay_1 : cX2_lay.data.toList.drop 23 = dktX2_lay_1 := dk_seg dksX2_lay_0 23 rfl rfl
theorem dX2_lay_0 : decode cX2_lay 0 = .ok (.iconst 0, 1) := dk_3 (dk_at dksX2_lay_0 0 rfl rfl)
theorem dX2_lay_1 : decode cX2_lay 1 = .ok (.istore_n 2, 1) := dk_61 (dk_at dksX2_lay_0 1 rfl rfl)
theorem dX2_lay_2 : decode cX2_lay 2 = .ok (.iload_n 2, 1) := dk_28 (dk_at dksX2_lay_0 2 rfl rfl)
theorem dX2_lay_3 : decode cX2_lay 3 = .ok (.aload_n 0, 1) := dk_42 (dk_at dksX2_lay_0 3 rfl rfl)
theorem dX2_lay_4 : decode cX2_lay 4 = .ok (.invokevirtual 302, 3) := dk_182 1 46 (dk_at dksX2_lay_0 4 rfl rfl)
theorem dX2_lay_7 : decode cX2_lay 7 = .ok (.if_icmp .ge 26, 3) := dk_162 0 26 (dk_at dksX2_lay_0 7 rfl rfl)
theorem dX2_lay_10 : decode cX2_lay 10 = .ok (.aload_n 0, 1) := dk_42 (dk_at dksX2_lay_0 10 rfl rfl)
theorem dX2_lay_11 : decode cX2_lay 11 = .ok (.getfield 128, 3) := dk_180 0 128 (dk_at dksX2_lay_0 11 rfl rfl)
theorem dX2_lay_14 : decode cX2_lay 14 = .ok (.iload_n 2, 1) := dk_28 (dk_at dksX2_lay_0 14 rfl rfl)
theorem dX2_lay_15 : decode cX2_lay 15 = .ok (.aload_n 0, 1) := dk_42 (dk_at dksX2_lay_0 15 rfl rfl)
theorem dX2_lay_16 : decode cX2_lay 16 = .ok (.aload_n 0, 1) := dk_42 (dk_at dksX2_lay_0 16 rfl rfl)
theorem dX2_lay_17 : decode cX2_lay 17 = .ok (.getfield 107, 3) := dk_180 0 107 (dk_at dksX2_lay_0 17 rfl rfl)
theorem dX2_lay_20 : decode cX2_lay 20 = .ok (.iload_n 1, 1) := dk_27 (dk_at dksX2_lay_0 20 rfl rfl)
theorem dX2_lay_21 : decode cX2_lay 21 = .ok (.iaload, 1) := dk_46 (dk_at dksX2_lay_0 21 rfl rfl)
theorem dX2_lay_22 : decode cX2_lay 22 = .ok (.iload_n 2, 1) := dk_28 (dk_at dksX2_lay_0 22 rfl rfl)
theorem dX2_lay_23 : decode cX2_lay 23 = .ok (.invokevirtual 380, 3) := dk_182 1 124 (dk_at dksX2_lay_1 0 rfl rfl)
theorem dX2_lay_26 : decode cX2_lay 26 = .ok (.iastore, 1) := dk_79 (dk_at dksX2_lay_1 3 rfl rfl)
theorem dX2_lay_27 : decode cX2_lay 27 = .ok (.iinc 2 1, 3) := dk_132 2 1 (dk_at dksX2_lay_1 4 rfl rfl)
theorem dX2_lay_30 : decode cX2_lay 30 = .ok (.goto (-28), 3) := dk_167 255 228 (dk_at dksX2_lay_1 7 rfl rfl)
theorem dX2_lay_33 : decode cX2_lay 33 = .ok (.aload_n 0, 1) := dk_42 (dk_at dksX2_lay_1 10 rfl rfl)
theorem dX2_lay_34 : decode cX2_lay 34 = .ok (.aload_n 0, 1) := dk_42 (dk_at dksX2_lay_1 11 rfl rfl)
theorem dX2_lay_35 : decode cX2_lay 35 = .ok (.invokevirtual 302, 3) := dk_182 1 46 (dk_at dksX2_lay_1 12 rfl rfl)
theorem dX2_lay_38 : decode cX2_lay 38 = .ok (.putfield 248, 3) := dk_181 0 248 (dk_at dksX2_lay_1 15 rfl rfl)
theorem dX2_lay_41 : decode cX2_lay 41 = .ok (.return_, 1) := dk_177 (dk_at dksX2_lay_1 18 rfl rfl)
abbrev cX2_held : ByteArray := prog_9_method_83_code
def yX2_held : MethodName := ⟨RX2, "held", "(I)I"⟩
def dkwX2_held_1 : List UInt8 := [19, 1, 55, 172, 42, 182, 1, 181, 42, 27, 182, 1, 190, 172]
abbrev dktX2_held_1 : List UInt8 := dkwX2_held_1 ++ []
def dkwX2_held_0 : List UInt8 := [27, 4, 16, 7, 184, 1, 42, 153, 0, 17, 42, 182, 1, 178, 153, 0, 10, 42, 180, 1, 134, 154, 0, 7]
abbrev dktX2_held_0 : List UInt8 := dkwX2_held_0 ++ dktX2_held_1
theorem dksX2_held_0 : cX2_held.data.toList.drop 0 = dktX2_held_0 := by decide +kernel
theorem dksX2_held_1 : cX2_held.data.toList.drop 24 = dktX2_held_1 := dk_seg dksX2_held_0 24 rfl rfl
theorem dX2_held_0 : decode cX2_held 0 = .ok (.iload_n 1, 1) := dk_27 (dk_at dksX2_held_0 0 rfl rfl)
theorem dX2_held_1 : decode cX2_held 1 = .ok (.iconst 1, 1) := dk_4 (dk_at dksX2_held_0 1 rfl rfl)
theorem dX2_held_2 : decode cX2_held 2 = .ok (.bipush 7, 2) := dk_16 7 (dk_at dksX2_held_0 2 rfl rfl)
theorem dX2_held_4 : decode cX2_held 4 = .ok (.invokestatic 298, 3) := dk_184 1 42 (dk_at dksX2_held_0 4 rfl rfl)
theorem dX2_held_7 : decode cX2_held 7 = .ok (.ifCond .eq 17, 3) := dk_153 0 17 (dk_at dksX2_held_0 7 rfl rfl)
theorem dX2_held_10 : decode cX2_held 10 = .ok (.aload_n 0, 1) := dk_42 (dk_at dksX2_held_0 10 rfl rfl)
theorem dX2_held_11 : decode cX2_held 11 = .ok (.invokevirtual 434, 3) := dk_182 1 178 (dk_at dksX2_held_0 11 rfl rfl)
theorem dX2_held_14 : decode cX2_held 14 = .ok (.ifCond .eq 10, 3) := dk_153 0 10 (dk_at dksX2_held_0 14 rfl rfl)
theorem dX2_held_17 : decode cX2_held 17 = .ok (.aload_n 0, 1) := dk_42 (dk_at dksX2_held_0 17 rfl rfl)
theorem dX2_held_18 : decode cX2_held 18 = .ok (.getfield 390, 3) := dk_180 1 134 (dk_at dksX2_held_0 18 rfl rfl)
theorem dX2_held_21 : decode cX2_held 21 = .ok (.ifCond .ne 7, 3) := dk_154 0 7 (dk_at dksX2_held_0 21 rfl rfl)
theorem dX2_held_24 : decode cX2_held 24 = .ok (.ldc_w 311, 3) := dk_19 1 55 (dk_at dksX2_held_1 0 rfl rfl)
theorem dX2_held_27 : decode cX2_held 27 = .ok (.ireturn, 1) := dk_172 (dk_at dksX2_held_1 3 rfl rfl)
theorem dX2_held_28 : decode cX2_held 28 = .ok (.aload_n 0, 1) := dk_42 (dk_at dksX2_held_1 4 rfl rfl)
theorem dX2_held_29 : decode cX2_held 29 = .ok (.invokevirtual 437, 3) := dk_182 1 181 (dk_at dksX2_held_1 5 rfl rfl)
theorem dX2_held_32 : decode cX2_held 32 = .ok (.aload_n 0, 1) := dk_42 (dk_at dksX2_held_1 8 rfl rfl)
theorem dX2_held_33 : decode cX2_held 33 = .ok (.iload_n 1, 1) := dk_27 (dk_at dksX2_held_1 9 rfl rfl)
theorem dX2_held_34 : decode cX2_held 34 = .ok (.invokevirtual 446, 3) := dk_182 1 190 (dk_at dksX2_held_1 10 rfl rfl)
theorem dX2_held_37 : decode cX2_held 37 = .ok (.ireturn, 1) := dk_172 (dk_at dksX2_held_1 13 rfl rfl)
abbrev cX2_heldBy : ByteArray := prog_9_method_82_code
def yX2_heldBy : MethodName := ⟨RX2, "heldBy", "(I)I"⟩
def dkwX2_heldBy_0 : List UInt8 := [42, 27, 182, 1, 184, 61, 42, 28, 27, 182, 1, 165, 172]
abbrev dktX2_heldBy_0 : List UInt8 := dkwX2_heldBy_0 ++ []
theorem dksX2_heldBy_0 : cX2_heldBy.data.toList.drop 0 = dktX2_heldBy_0 := by decide +kernel
theorem dX2_heldBy_0 : decode cX2_heldBy 0 = .ok (.aload_n 0, 1) := dk_42 (dk_at dksX2_heldBy_0 0 rfl rfl)
theorem dX2_heldBy_1 : decode cX2_heldBy 1 = .ok (.iload_n 1, 1) := dk_27 (dk_at dksX2_heldBy_0 1 rfl rfl)
theorem dX2_heldBy_2 : decode cX2_heldBy 2 = .ok (.invokevirtual 440, 3) := dk_182 1 184 (dk_at dksX2_heldBy_0 2 rfl rfl)
theorem dX2_heldBy_5 : decode cX2_heldBy 5 = .ok (.istore_n 2, 1) := dk_61 (dk_at dksX2_heldBy_0 5 rfl rfl)
theorem dX2_heldBy_6 : decode cX2_heldBy 6 = .ok (.aload_n 0, 1) := dk_42 (dk_at dksX2_heldBy_0 6 rfl rfl)
theorem dX2_heldBy_7 : decode cX2_heldBy 7 = .ok (.iload_n 2, 1) := dk_28 (dk_at dksX2_heldBy_0 7 rfl rfl)
theorem dX2_heldBy_8 : decode cX2_heldBy 8 = .ok (.iload_n 1, 1) := dk_27 (dk_at dksX2_heldBy_0 8 rfl rfl)
theorem dX2_heldBy_9 : decode cX2_heldBy 9 = .ok (.invokevirtual 421, 3) := dk_182 1 165 (dk_at dksX2_heldBy_0 9 rfl rfl)
theorem dX2_heldBy_12 : decode cX2_heldBy 12 = .ok (.ireturn, 1) := dk_172 (dk_at dksX2_heldBy_0 12 rfl rfl)
abbrev cX2_share : ByteArray := prog_9_method_85_code
def yX2_share : MethodName := ⟨RX2, "share", "(II)I"⟩
def dkwX2_share_6 : List UInt8 := [167, 0, 8, 16, 6, 21, 4, 108, 172]
abbrev dktX2_share_6 : List UInt8 := dkwX2_share_6 ++ []
def dkwX2_share_5 : List UInt8 := [132, 4, 1, 167, 255, 180, 29, 16, 6, 184, 1, 193, 54, 4, 28, 154, 0, 10, 29, 21, 4, 108]
abbrev dktX2_share_5 : List UInt8 := dkwX2_share_5 ++ dktX2_share_6
def dkwX2_share_4 : List UInt8 := [128, 182, 1, 190, 21, 5, 154, 0, 7, 3, 167, 0, 9, 42, 21, 5, 182, 1, 190, 100, 96, 62]
abbrev dktX2_share_4 : List UInt8 := dkwX2_share_4 ++ dktX2_share_5
def dkwX2_share_3 : List UInt8 := [21, 4, 21, 6, 184, 1, 175, 120, 128, 54, 5, 132, 6, 1, 167, 255, 228, 29, 42, 21, 5, 4, 27, 120]
abbrev dktX2_share_3 : List UInt8 := dkwX2_share_3 ++ dktX2_share_4
def dkwX2_share_2 : List UInt8 := [162, 0, 75, 3, 54, 5, 3, 54, 6, 21, 4, 21, 6, 184, 1, 175, 27, 159, 0, 23, 21, 5, 4]
abbrev dktX2_share_2 : List UInt8 := dkwX2_share_2 ++ dktX2_share_3
def dkwX2_share_1 : List UInt8 := [180, 1, 134, 154, 0, 7, 19, 1, 55, 172, 42, 182, 1, 181, 3, 62, 3, 54, 4, 21, 4, 16, 6]
abbrev dktX2_share_1 : List UInt8 := dkwX2_share_1 ++ dktX2_share_2
def dkwX2_share_0 : List UInt8 := [27, 184, 1, 52, 153, 0, 26, 28, 3, 4, 184, 1, 42, 153, 0, 17, 42, 182, 1, 178, 153, 0, 10, 42]
abbrev dktX2_share_0 : List UInt8 := dkwX2_share_0 ++ dktX2_share_1
theorem dksX2_share_0 : cX2_share.data.toList.drop 0 = dktX2_share_0 := by decide +kernel
theorem dksX2_share_1 : cX2_share.data.toList.drop 24 = dktX2_share_1 := dk_seg dksX2_share_0 24 rfl rfl
theorem dksX2_share_2 : cX2_share.data.toList.drop 47 = dktX2_share_2 := dk_seg dksX2_share_1 23 rfl rfl
theorem dksX2_share_3 : cX2_share.data.toList.drop 70 = dktX2_share_3 := dk_seg dksX2_share_2 23 rfl rfl
theorem dksX2_share_4 : cX2_share.data.toList.drop 94 = dktX2_share_4 := dk_seg dksX2_share_3 24 rfl rfl
theorem dksX2_share_5 : cX2_share.data.toList.drop 116 = dktX2_share_5 := dk_seg dksX2_share_4 22 rfl rfl
theorem dksX2_share_6 : cX2_share.data.toList.drop 138 = dktX2_share_6 := dk_seg dksX2_share_5 22 rfl rfl
theorem dX2_share_0 : decode cX2_share 0 = .ok (.iload_n 1, 1) := dk_27 (dk_at dksX2_share_0 0 rfl rfl)
theorem dX2_share_1 : decode cX2_share 1 = .ok (.invokestatic 308, 3) := dk_184 1 52 (dk_at dksX2_share_0 1 rfl rfl)
theorem dX2_share_4 : decode cX2_share 4 = .ok (.ifCond .eq 26, 3) := dk_153 0 26 (dk_at dksX2_share_0 4 rfl rfl)
theorem dX2_share_7 : decode cX2_share 7 = .ok (.iload_n 2, 1) := dk_28 (dk_at dksX2_share_0 7 rfl rfl)
theorem dX2_share_8 : decode cX2_share 8 = .ok (.iconst 0, 1) := dk_3 (dk_at dksX2_share_0 8 rfl rfl)
theorem dX2_share_9 : decode cX2_share 9 = .ok (.iconst 1, 1) := dk_4 (dk_at dksX2_share_0 9 rfl rfl)
theorem dX2_share_10 : decode cX2_share 10 = .ok (.invokestatic 298, 3) := dk_184 1 42 (dk_at dksX2_share_0 10 rfl rfl)
theorem dX2_share_13 : decode cX2_share 13 = .ok (.ifCond .eq 17, 3) := dk_153 0 17 (dk_at dksX2_share_0 13 rfl rfl)
theorem dX2_share_16 : decode cX2_share 16 = .ok (.aload_n 0, 1) := dk_42 (dk_at dksX2_share_0 16 rfl rfl)
theorem dX2_share_17 : decode cX2_share 17 = .ok (.invokevirtual 434, 3) := dk_182 1 178 (dk_at dksX2_share_0 17 rfl rfl)
theorem dX2_share_20 : decode cX2_share 20 = .ok (.ifCond .eq 10, 3) := dk_153 0 10 (dk_at dksX2_share_0 20 rfl rfl)
theorem dX2_share_23 : decode cX2_share 23 = .ok (.aload_n 0, 1) := dk_42 (dk_at dksX2_share_0 23 rfl rfl)
theorem dX2_share_24 : decode cX2_share 24 = .ok (.getfield 390, 3) := dk_180 1 134 (dk_at dksX2_share_1 0 rfl rfl)
theorem dX2_share_27 : decode cX2_share 27 = .ok (.ifCond .ne 7, 3) := dk_154 0 7 (dk_at dksX2_share_1 3 rfl rfl)
theorem dX2_share_30 : decode cX2_share 30 = .ok (.ldc_w 311, 3) := dk_19 1 55 (dk_at dksX2_share_1 6 rfl rfl)
theorem dX2_share_33 : decode cX2_share 33 = .ok (.ireturn, 1) := dk_172 (dk_at dksX2_share_1 9 rfl rfl)
theorem dX2_share_34 : decode cX2_share 34 = .ok (.aload_n 0, 1) := dk_42 (dk_at dksX2_share_1 10 rfl rfl)
theorem dX2_share_35 : decode cX2_share 35 = .ok (.invokevirtual 437, 3) := dk_182 1 181 (dk_at dksX2_share_1 11 rfl rfl)
theorem dX2_share_38 : decode cX2_share 38 = .ok (.iconst 0, 1) := dk_3 (dk_at dksX2_share_1 14 rfl rfl)
theorem dX2_share_39 : decode cX2_share 39 = .ok (.istore_n 3, 1) := dk_62 (dk_at dksX2_share_1 15 rfl rfl)
theorem dX2_share_40 : decode cX2_share 40 = .ok (.iconst 0, 1) := dk_3 (dk_at dksX2_share_1 16 rfl rfl)
theorem dX2_share_41 : decode cX2_share 41 = .ok (.istore 4, 2) := dk_54 4 (dk_at dksX2_share_1 17 rfl rfl)
theorem dX2_share_43 : decode cX2_share 43 = .ok (.iload 4, 2) := dk_21 4 (dk_at dksX2_share_1 19 rfl rfl)
theorem dX2_share_45 : decode cX2_share 45 = .ok (.bipush 6, 2) := dk_16 6 (dk_at dksX2_share_1 21 rfl rfl)
theorem dX2_share_47 : decode cX2_share 47 = .ok (.if_icmp .ge 75, 3) := dk_162 0 75 (dk_at dksX2_share_2 0 rfl rfl)
theorem dX2_share_50 : decode cX2_share 50 = .ok (.iconst 0, 1) := dk_3 (dk_at dksX2_share_2 3 rfl rfl)
theorem dX2_share_51 : decode cX2_share 51 = .ok (.istore 5, 2) := dk_54 5 (dk_at dksX2_share_2 4 rfl rfl)
theorem dX2_share_53 : decode cX2_share 53 = .ok (.iconst 0, 1) := dk_3 (dk_at dksX2_share_2 6 rfl rfl)
theorem dX2_share_54 : decode cX2_share 54 = .ok (.istore 6, 2) := dk_54 6 (dk_at dksX2_share_2 7 rfl rfl)
theorem dX2_share_56 : decode cX2_share 56 = .ok (.iload 4, 2) := dk_21 4 (dk_at dksX2_share_2 9 rfl rfl)
theorem dX2_share_58 : decode cX2_share 58 = .ok (.iload 6, 2) := dk_21 6 (dk_at dksX2_share_2 11 rfl rfl)
theorem dX2_share_60 : decode cX2_share 60 = .ok (.invokestatic 431, 3) := dk_184 1 175 (dk_at dksX2_share_2 13 rfl rfl)
theorem dX2_share_63 : decode cX2_share 63 = .ok (.iload_n 1, 1) := dk_27 (dk_at dksX2_share_2 16 rfl rfl)
theorem dX2_share_64 : decode cX2_share 64 = .ok (.if_icmp .eq 23, 3) := dk_159 0 23 (dk_at dksX2_share_2 17 rfl rfl)
theorem dX2_share_67 : decode cX2_share 67 = .ok (.iload 5, 2) := dk_21 5 (dk_at dksX2_share_2 20 rfl rfl)
theorem dX2_share_69 : decode cX2_share 69 = .ok (.iconst 1, 1) := dk_4 (dk_at dksX2_share_2 22 rfl rfl)
theorem dX2_share_70 : decode cX2_share 70 = .ok (.iload 4, 2) := dk_21 4 (dk_at dksX2_share_3 0 rfl rfl)
theorem dX2_share_72 : decode cX2_share 72 = .ok (.iload 6, 2) := dk_21 6 (dk_at dksX2_share_3 2 rfl rfl)
theorem dX2_share_74 : decode cX2_share 74 = .ok (.invokestatic 431, 3) := dk_184 1 175 (dk_at dksX2_share_3 4 rfl rfl)
theorem dX2_share_77 : decode cX2_share 77 = .ok (.ishl, 1) := dk_120 (dk_at dksX2_share_3 7 rfl rfl)
theorem dX2_share_78 : decode cX2_share 78 = .ok (.ior, 1) := dk_128 (dk_at dksX2_share_3 8 rfl rfl)
theorem dX2_share_79 : decode cX2_share 79 = .ok (.istore 5, 2) := dk_54 5 (dk_at dksX2_share_3 9 rfl rfl)
theorem dX2_share_81 : decode cX2_share 81 = .ok (.iinc 6 1, 3) := dk_132 6 1 (dk_at dksX2_share_3 11 rfl rfl)
theorem dX2_share_84 : decode cX2_share 84 = .ok (.goto (-28), 3) := dk_167 255 228 (dk_at dksX2_share_3 14 rfl rfl)
theorem dX2_share_87 : decode cX2_share 87 = .ok (.iload_n 3, 1) := dk_29 (dk_at dksX2_share_3 17 rfl rfl)
theorem dX2_share_88 : decode cX2_share 88 = .ok (.aload_n 0, 1) := dk_42 (dk_at dksX2_share_3 18 rfl rfl)
theorem dX2_share_89 : decode cX2_share 89 = .ok (.iload 5, 2) := dk_21 5 (dk_at dksX2_share_3 19 rfl rfl)
theorem dX2_share_91 : decode cX2_share 91 = .ok (.iconst 1, 1) := dk_4 (dk_at dksX2_share_3 21 rfl rfl)
theorem dX2_share_92 : decode cX2_share 92 = .ok (.iload_n 1, 1) := dk_27 (dk_at dksX2_share_3 22 rfl rfl)
theorem dX2_share_93 : decode cX2_share 93 = .ok (.ishl, 1) := dk_120 (dk_at dksX2_share_3 23 rfl rfl)
theorem dX2_share_94 : decode cX2_share 94 = .ok (.ior, 1) := dk_128 (dk_at dksX2_share_4 0 rfl rfl)
theorem dX2_share_95 : decode cX2_share 95 = .ok (.invokevirtual 446, 3) := dk_182 1 190 (dk_at dksX2_share_4 1 rfl rfl)
theorem dX2_share_98 : decode cX2_share 98 = .ok (.iload 5, 2) := dk_21 5 (dk_at dksX2_share_4 4 rfl rfl)
theorem dX2_share_100 : decode cX2_share 100 = .ok (.ifCond .ne 7, 3) := dk_154 0 7 (dk_at dksX2_share_4 6 rfl rfl)
theorem dX2_share_103 : decode cX2_share 103 = .ok (.iconst 0, 1) := dk_3 (dk_at dksX2_share_4 9 rfl rfl)
theorem dX2_share_104 : decode cX2_share 104 = .ok (.goto 9, 3) := dk_167 0 9 (dk_at dksX2_share_4 10 rfl rfl)
theorem dX2_share_107 : decode cX2_share 107 = .ok (.aload_n 0, 1) := dk_42 (dk_at dksX2_share_4 13 rfl rfl)
theorem dX2_share_108 : decode cX2_share 108 = .ok (.iload 5, 2) := dk_21 5 (dk_at dksX2_share_4 14 rfl rfl)
theorem dX2_share_110 : decode cX2_share 110 = .ok (.invokevirtual 446, 3) := dk_182 1 190 (dk_at dksX2_share_4 16 rfl rfl)
theorem dX2_share_113 : decode cX2_share 113 = .ok (.isub, 1) := dk_100 (dk_at dksX2_share_4 19 rfl rfl)
theorem dX2_share_114 : decode cX2_share 114 = .ok (.iadd, 1) := dk_96 (dk_at dksX2_share_4 20 rfl rfl)
theorem dX2_share_115 : decode cX2_share 115 = .ok (.istore_n 3, 1) := dk_62 (dk_at dksX2_share_4 21 rfl rfl)
theorem dX2_share_116 : decode cX2_share 116 = .ok (.iinc 4 1, 3) := dk_132 4 1 (dk_at dksX2_share_5 0 rfl rfl)
theorem dX2_share_119 : decode cX2_share 119 = .ok (.goto (-76), 3) := dk_167 255 180 (dk_at dksX2_share_5 3 rfl rfl)
theorem dX2_share_122 : decode cX2_share 122 = .ok (.iload_n 3, 1) := dk_29 (dk_at dksX2_share_5 6 rfl rfl)
theorem dX2_share_123 : decode cX2_share 123 = .ok (.bipush 6, 2) := dk_16 6 (dk_at dksX2_share_5 7 rfl rfl)
theorem dX2_share_125 : decode cX2_share 125 = .ok (.invokestatic 449, 3) := dk_184 1 193 (dk_at dksX2_share_5 9 rfl rfl)
theorem dX2_share_128 : decode cX2_share 128 = .ok (.istore 4, 2) := dk_54 4 (dk_at dksX2_share_5 12 rfl rfl)
theorem dX2_share_130 : decode cX2_share 130 = .ok (.iload_n 2, 1) := dk_28 (dk_at dksX2_share_5 14 rfl rfl)
theorem dX2_share_131 : decode cX2_share 131 = .ok (.ifCond .ne 10, 3) := dk_154 0 10 (dk_at dksX2_share_5 15 rfl rfl)
theorem dX2_share_134 : decode cX2_share 134 = .ok (.iload_n 3, 1) := dk_29 (dk_at dksX2_share_5 18 rfl rfl)
theorem dX2_share_135 : decode cX2_share 135 = .ok (.iload 4, 2) := dk_21 4 (dk_at dksX2_share_5 19 rfl rfl)
theorem dX2_share_137 : decode cX2_share 137 = .ok (.idiv, 1) := dk_108 (dk_at dksX2_share_5 21 rfl rfl)
theorem dX2_share_138 : decode cX2_share 138 = .ok (.goto 8, 3) := dk_167 0 8 (dk_at dksX2_share_6 0 rfl rfl)
theorem dX2_share_141 : decode cX2_share 141 = .ok (.bipush 6, 2) := dk_16 6 (dk_at dksX2_share_6 3 rfl rfl)
theorem dX2_share_143 : decode cX2_share 143 = .ok (.iload 4, 2) := dk_21 4 (dk_at dksX2_share_6 5 rfl rfl)
theorem dX2_share_145 : decode cX2_share 145 = .ok (.idiv, 1) := dk_108 (dk_at dksX2_share_6 7 rfl rfl)
theorem dX2_share_146 : decode cX2_share 146 = .ok (.ireturn, 1) := dk_172 (dk_at dksX2_share_6 8 rfl rfl)
abbrev cX2_orderTurn : ByteArray := prog_9_method_77_code
def yX2_orderTurn : MethodName := ⟨RX2, "orderTurn", "(II)I"⟩
def dkwX2_orderTurn_2 : List UInt8 := [154, 0, 7, 4, 167, 0, 4, 3, 160, 0, 7, 29, 167, 0, 5, 21, 4, 172]
abbrev dktX2_orderTurn_2 : List UInt8 := dkwX2_orderTurn_2 ++ []
def dkwX2_orderTurn_1 : List UInt8 := [54, 5, 21, 5, 154, 0, 5, 28, 172, 21, 5, 4, 160, 0, 7, 4, 167, 0, 4, 3, 26, 5, 112]
abbrev dktX2_orderTurn_1 : List UInt8 := dkwX2_orderTurn_1 ++ dktX2_orderTurn_2
def dkwX2_orderTurn_0 : List UInt8 := [26, 5, 108, 61, 28, 154, 0, 7, 4, 167, 0, 4, 3, 62, 6, 28, 100, 29, 100, 54, 4, 27, 6, 112]
abbrev dktX2_orderTurn_0 : List UInt8 := dkwX2_orderTurn_0 ++ dktX2_orderTurn_1
theorem dksX2_orderTurn_0 : cX2_orderTurn.data.toList.drop 0 = dktX2_orderTurn_0 := by decide +kernel
theorem dksX2_orderTurn_1 : cX2_orderTurn.data.toList.drop 24 = dktX2_orderTurn_1 := dk_seg dksX2_orderTurn_0 24 rfl rfl
theorem dksX2_orderTurn_2 : cX2_orderTurn.data.toList.drop 47 = dktX2_orderTurn_2 := dk_seg dksX2_orderTurn_1 23 rfl rfl
theorem dX2_orderTurn_0 : decode cX2_orderTurn 0 = .ok (.iload_n 0, 1) := dk_26 (dk_at dksX2_orderTurn_0 0 rfl rfl)
theorem dX2_orderTurn_1 : decode cX2_orderTurn 1 = .ok (.iconst 2, 1) := dk_5 (dk_at dksX2_orderTurn_0 1 rfl rfl)
theorem dX2_orderTurn_2 : decode cX2_orderTurn 2 = .ok (.idiv, 1) := dk_108 (dk_at dksX2_orderTurn_0 2 rfl rfl)
theorem dX2_orderTurn_3 : decode cX2_orderTurn 3 = .ok (.istore_n 2, 1) := dk_61 (dk_at dksX2_orderTurn_0 3 rfl rfl)
theorem dX2_orderTurn_4 : decode cX2_orderTurn 4 = .ok (.iload_n 2, 1) := dk_28 (dk_at dksX2_orderTurn_0 4 rfl rfl)
theorem dX2_orderTurn_5 : decode cX2_orderTurn 5 = .ok (.ifCond .ne 7, 3) := dk_154 0 7 (dk_at dksX2_orderTurn_0 5 rfl rfl)
theorem dX2_orderTurn_8 : decode cX2_orderTurn 8 = .ok (.iconst 1, 1) := dk_4 (dk_at dksX2_orderTurn_0 8 rfl rfl)
theorem dX2_orderTurn_9 : decode cX2_orderTurn 9 = .ok (.goto 4, 3) := dk_167 0 4 (dk_at dksX2_orderTurn_0 9 rfl rfl)
theorem dX2_orderTurn_12 : decode cX2_orderTurn 12 = .ok (.iconst 0, 1) := dk_3 (dk_at dksX2_orderTurn_0 12 rfl rfl)
theorem dX2_orderTurn_13 : decode cX2_orderTurn 13 = .ok (.istore_n 3, 1) := dk_62 (dk_at dksX2_orderTurn_0 13 rfl rfl)
theorem dX2_orderTurn_14 : decode cX2_orderTurn 14 = .ok (.iconst 3, 1) := dk_6 (dk_at dksX2_orderTurn_0 14 rfl rfl)
theorem dX2_orderTurn_15 : decode cX2_orderTurn 15 = .ok (.iload_n 2, 1) := dk_28 (dk_at dksX2_orderTurn_0 15 rfl rfl)
theorem dX2_orderTurn_16 : decode cX2_orderTurn 16 = .ok (.isub, 1) := dk_100 (dk_at dksX2_orderTurn_0 16 rfl rfl)
theorem dX2_orderTurn_17 : decode cX2_orderTurn 17 = .ok (.iload_n 3, 1) := dk_29 (dk_at dksX2_orderTurn_0 17 rfl rfl)
theorem dX2_orderTurn_18 : decode cX2_orderTurn 18 = .ok (.isub, 1) := dk_100 (dk_at dksX2_orderTurn_0 18 rfl rfl)
theorem dX2_orderTurn_19 : decode cX2_orderTurn 19 = .ok (.istore 4, 2) := dk_54 4 (dk_at dksX2_orderTurn_0 19 rfl rfl)
theorem dX2_orderTurn_21 : decode cX2_orderTurn 21 = .ok (.iload_n 1, 1) := dk_27 (dk_at dksX2_orderTurn_0 21 rfl rfl)
theorem dX2_orderTurn_22 : decode cX2_orderTurn 22 = .ok (.iconst 3, 1) := dk_6 (dk_at dksX2_orderTurn_0 22 rfl rfl)
theorem dX2_orderTurn_23 : decode cX2_orderTurn 23 = .ok (.irem, 1) := dk_112 (dk_at dksX2_orderTurn_0 23 rfl rfl)
theorem dX2_orderTurn_24 : decode cX2_orderTurn 24 = .ok (.istore 5, 2) := dk_54 5 (dk_at dksX2_orderTurn_1 0 rfl rfl)
theorem dX2_orderTurn_26 : decode cX2_orderTurn 26 = .ok (.iload 5, 2) := dk_21 5 (dk_at dksX2_orderTurn_1 2 rfl rfl)
theorem dX2_orderTurn_28 : decode cX2_orderTurn 28 = .ok (.ifCond .ne 5, 3) := dk_154 0 5 (dk_at dksX2_orderTurn_1 4 rfl rfl)
theorem dX2_orderTurn_31 : decode cX2_orderTurn 31 = .ok (.iload_n 2, 1) := dk_28 (dk_at dksX2_orderTurn_1 7 rfl rfl)
theorem dX2_orderTurn_32 : decode cX2_orderTurn 32 = .ok (.ireturn, 1) := dk_172 (dk_at dksX2_orderTurn_1 8 rfl rfl)
theorem dX2_orderTurn_33 : decode cX2_orderTurn 33 = .ok (.iload 5, 2) := dk_21 5 (dk_at dksX2_orderTurn_1 9 rfl rfl)
theorem dX2_orderTurn_35 : decode cX2_orderTurn 35 = .ok (.iconst 1, 1) := dk_4 (dk_at dksX2_orderTurn_1 11 rfl rfl)
theorem dX2_orderTurn_36 : decode cX2_orderTurn 36 = .ok (.if_icmp .ne 7, 3) := dk_160 0 7 (dk_at dksX2_orderTurn_1 12 rfl rfl)
theorem dX2_orderTurn_39 : decode cX2_orderTurn 39 = .ok (.iconst 1, 1) := dk_4 (dk_at dksX2_orderTurn_1 15 rfl rfl)
theorem dX2_orderTurn_40 : decode cX2_orderTurn 40 = .ok (.goto 4, 3) := dk_167 0 4 (dk_at dksX2_orderTurn_1 16 rfl rfl)
theorem dX2_orderTurn_43 : decode cX2_orderTurn 43 = .ok (.iconst 0, 1) := dk_3 (dk_at dksX2_orderTurn_1 19 rfl rfl)
theorem dX2_orderTurn_44 : decode cX2_orderTurn 44 = .ok (.iload_n 0, 1) := dk_26 (dk_at dksX2_orderTurn_1 20 rfl rfl)
theorem dX2_orderTurn_45 : decode cX2_orderTurn 45 = .ok (.iconst 2, 1) := dk_5 (dk_at dksX2_orderTurn_1 21 rfl rfl)
theorem dX2_orderTurn_46 : decode cX2_orderTurn 46 = .ok (.irem, 1) := dk_112 (dk_at dksX2_orderTurn_1 22 rfl rfl)
theorem dX2_orderTurn_47 : decode cX2_orderTurn 47 = .ok (.ifCond .ne 7, 3) := dk_154 0 7 (dk_at dksX2_orderTurn_2 0 rfl rfl)
theorem dX2_orderTurn_50 : decode cX2_orderTurn 50 = .ok (.iconst 1, 1) := dk_4 (dk_at dksX2_orderTurn_2 3 rfl rfl)
theorem dX2_orderTurn_51 : decode cX2_orderTurn 51 = .ok (.goto 4, 3) := dk_167 0 4 (dk_at dksX2_orderTurn_2 4 rfl rfl)
theorem dX2_orderTurn_54 : decode cX2_orderTurn 54 = .ok (.iconst 0, 1) := dk_3 (dk_at dksX2_orderTurn_2 7 rfl rfl)
theorem dX2_orderTurn_55 : decode cX2_orderTurn 55 = .ok (.if_icmp .ne 7, 3) := dk_160 0 7 (dk_at dksX2_orderTurn_2 8 rfl rfl)
theorem dX2_orderTurn_58 : decode cX2_orderTurn 58 = .ok (.iload_n 3, 1) := dk_29 (dk_at dksX2_orderTurn_2 11 rfl rfl)
theorem dX2_orderTurn_59 : decode cX2_orderTurn 59 = .ok (.goto 5, 3) := dk_167 0 5 (dk_at dksX2_orderTurn_2 12 rfl rfl)
theorem dX2_orderTurn_62 : decode cX2_orderTurn 62 = .ok (.iload 4, 2) := dk_21 4 (dk_at dksX2_orderTurn_2 15 rfl rfl)
theorem dX2_orderTurn_64 : decode cX2_orderTurn 64 = .ok (.ireturn, 1) := dk_172 (dk_at dksX2_orderTurn_2 17 rfl rfl)
abbrev cX2_common : ByteArray := prog_9_method_84_code
def yX2_common : MethodName := ⟨RX2, "common", "(II)I"⟩
def dkwX2_common_1 : List UInt8 := [21, 4, 62, 167, 255, 242, 28, 172]
abbrev dktX2_common_1 : List UInt8 := dkwX2_common_1 ++ []
def dkwX2_common_0 : List UInt8 := [26, 156, 0, 8, 26, 116, 167, 0, 4, 26, 61, 27, 62, 29, 153, 0, 16, 28, 29, 112, 54, 4, 29, 61]
abbrev dktX2_common_0 : List UInt8 := dkwX2_common_0 ++ dktX2_common_1
theorem dksX2_common_0 : cX2_common.data.toList.drop 0 = dktX2_common_0 := by decide +kernel
theorem dksX2_common_1 : cX2_common.data.toList.drop 24 = dktX2_common_1 := dk_seg dksX2_common_0 24 rfl rfl
theorem dX2_common_0 : decode cX2_common 0 = .ok (.iload_n 0, 1) := dk_26 (dk_at dksX2_common_0 0 rfl rfl)
theorem dX2_common_1 : decode cX2_common 1 = .ok (.ifCond .ge 8, 3) := dk_156 0 8 (dk_at dksX2_common_0 1 rfl rfl)
theorem dX2_common_4 : decode cX2_common 4 = .ok (.iload_n 0, 1) := dk_26 (dk_at dksX2_common_0 4 rfl rfl)
theorem dX2_common_5 : decode cX2_common 5 = .ok (.ineg, 1) := dk_116 (dk_at dksX2_common_0 5 rfl rfl)
theorem dX2_common_6 : decode cX2_common 6 = .ok (.goto 4, 3) := dk_167 0 4 (dk_at dksX2_common_0 6 rfl rfl)
theorem dX2_common_9 : decode cX2_common 9 = .ok (.iload_n 0, 1) := dk_26 (dk_at dksX2_common_0 9 rfl rfl)
theorem dX2_common_10 : decode cX2_common 10 = .ok (.istore_n 2, 1) := dk_61 (dk_at dksX2_common_0 10 rfl rfl)
theorem dX2_common_11 : decode cX2_common 11 = .ok (.iload_n 1, 1) := dk_27 (dk_at dksX2_common_0 11 rfl rfl)
theorem dX2_common_12 : decode cX2_common 12 = .ok (.istore_n 3, 1) := dk_62 (dk_at dksX2_common_0 12 rfl rfl)
theorem dX2_common_13 : decode cX2_common 13 = .ok (.iload_n 3, 1) := dk_29 (dk_at dksX2_common_0 13 rfl rfl)
theorem dX2_common_14 : decode cX2_common 14 = .ok (.ifCond .eq 16, 3) := dk_153 0 16 (dk_at dksX2_common_0 14 rfl rfl)
theorem dX2_common_17 : decode cX2_common 17 = .ok (.iload_n 2, 1) := dk_28 (dk_at dksX2_common_0 17 rfl rfl)
theorem dX2_common_18 : decode cX2_common 18 = .ok (.iload_n 3, 1) := dk_29 (dk_at dksX2_common_0 18 rfl rfl)
theorem dX2_common_19 : decode cX2_common 19 = .ok (.irem, 1) := dk_112 (dk_at dksX2_common_0 19 rfl rfl)
theorem dX2_common_20 : decode cX2_common 20 = .ok (.istore 4, 2) := dk_54 4 (dk_at dksX2_common_0 20 rfl rfl)
theorem dX2_common_22 : decode cX2_common 22 = .ok (.iload_n 3, 1) := dk_29 (dk_at dksX2_common_0 22 rfl rfl)
theorem dX2_common_23 : decode cX2_common 23 = .ok (.istore_n 2, 1) := dk_61 (dk_at dksX2_common_0 23 rfl rfl)
theorem dX2_common_24 : decode cX2_common 24 = .ok (.iload 4, 2) := dk_21 4 (dk_at dksX2_common_1 0 rfl rfl)
theorem dX2_common_26 : decode cX2_common 26 = .ok (.istore_n 3, 1) := dk_62 (dk_at dksX2_common_1 2 rfl rfl)
theorem dX2_common_27 : decode cX2_common 27 = .ok (.goto (-14), 3) := dk_167 255 242 (dk_at dksX2_common_1 3 rfl rfl)
theorem dX2_common_30 : decode cX2_common 30 = .ok (.iload_n 2, 1) := dk_28 (dk_at dksX2_common_1 6 rfl rfl)
theorem dX2_common_31 : decode cX2_common 31 = .ok (.ireturn, 1) := dk_172 (dk_at dksX2_common_1 7 rfl rfl)
abbrev cX2_swap : ByteArray := prog_9_method_86_code
def yX2_swap : MethodName := ⟨RX2, "swap", "()I"⟩
def dkwX2_swap_7 : List UInt8 := [132, 3, 1, 167, 255, 133, 132, 2, 1, 167, 255, 115, 2, 172]
abbrev dktX2_swap_7 : List UInt8 := dkwX2_swap_7 ++ []
def dkwX2_swap_6 : List UInt8 := [46, 42, 180, 0, 110, 6, 27, 104, 21, 5, 96, 46, 164, 0, 10, 16, 10, 28, 104, 29, 96, 172]
abbrev dktX2_swap_6 : List UInt8 := dkwX2_swap_6 ++ dktX2_swap_7
def dkwX2_swap_5 : List UInt8 := [180, 0, 110, 6, 27, 104, 21, 4, 96, 46, 164, 0, 36, 42, 180, 0, 110, 6, 21, 6, 104, 21, 5, 96]
abbrev dktX2_swap_5 : List UInt8 := dkwX2_swap_5 ++ dktX2_swap_6
def dkwX2_swap_4 : List UInt8 := [29, 21, 4, 79, 42, 3, 182, 1, 184, 54, 6, 42, 180, 0, 110, 6, 21, 6, 104, 21, 4, 96, 46, 42]
abbrev dktX2_swap_4 : List UInt8 := dkwX2_swap_4 ++ dktX2_swap_5
def dkwX2_swap_3 : List UInt8 := [21, 5, 160, 0, 6, 167, 0, 89, 42, 182, 1, 181, 42, 180, 0, 122, 28, 21, 5, 79, 42, 180, 0, 122]
abbrev dktX2_swap_3 : List UInt8 := dkwX2_swap_3 ++ dktX2_swap_4
def dkwX2_swap_2 : List UInt8 := [182, 1, 46, 162, 0, 121, 42, 180, 0, 95, 28, 46, 54, 4, 42, 180, 0, 95, 29, 46, 54, 5, 21, 4]
abbrev dktX2_swap_2 : List UInt8 := dkwX2_swap_2 ++ dktX2_swap_3
def dkwX2_swap_1 : List UInt8 := [182, 1, 184, 60, 42, 180, 1, 80, 61, 28, 42, 182, 1, 46, 162, 0, 139, 28, 4, 96, 62, 29, 42]
abbrev dktX2_swap_1 : List UInt8 := dkwX2_swap_1 ++ dktX2_swap_2
def dkwX2_swap_0 : List UInt8 := [42, 182, 1, 178, 153, 0, 10, 42, 180, 1, 134, 154, 0, 5, 2, 172, 42, 182, 1, 181, 42, 3]
abbrev dktX2_swap_0 : List UInt8 := dkwX2_swap_0 ++ dktX2_swap_1
theorem dksX2_swap_0 : cX2_swap.data.toList.drop 0 = dktX2_swap_0 := by decide +kernel
theorem dksX2_swap_1 : cX2_swap.data.toList.drop 22 = dktX2_swap_1 := dk_seg dksX2_swap_0 22 rfl rfl
theorem dksX2_swap_2 : cX2_swap.data.toList.drop 45 = dktX2_swap_2 := dk_seg dksX2_swap_1 23 rfl rfl
theorem dksX2_swap_3 : cX2_swap.data.toList.drop 69 = dktX2_swap_3 := dk_seg dksX2_swap_2 24 rfl rfl
theorem dksX2_swap_4 : cX2_swap.data.toList.drop 93 = dktX2_swap_4 := dk_seg dksX2_swap_3 24 rfl rfl
theorem dksX2_swap_5 : cX2_swap.data.toList.drop 117 = dktX2_swap_5 := dk_seg dksX2_swap_4 24 rfl rfl
theorem dksX2_swap_6 : cX2_swap.data.toList.drop 141 = dktX2_swap_6 := dk_seg dksX2_swap_5 24 rfl rfl
theorem dksX2_swap_7 : cX2_swap.data.toList.drop 163 = dktX2_swap_7 := dk_seg dksX2_swap_6 22 rfl rfl
theorem dX2_swap_0 : decode cX2_swap 0 = .ok (.aload_n 0, 1) := dk_42 (dk_at dksX2_swap_0 0 rfl rfl)
theorem dX2_swap_1 : decode cX2_swap 1 = .ok (.invokevirtual 434, 3) := dk_182 1 178 (dk_at dksX2_swap_0 1 rfl rfl)
theorem dX2_swap_4 : decode cX2_swap 4 = .ok (.ifCond .eq 10, 3) := dk_153 0 10 (dk_at dksX2_swap_0 4 rfl rfl)
theorem dX2_swap_7 : decode cX2_swap 7 = .ok (.aload_n 0, 1) := dk_42 (dk_at dksX2_swap_0 7 rfl rfl)
theorem dX2_swap_8 : decode cX2_swap 8 = .ok (.getfield 390, 3) := dk_180 1 134 (dk_at dksX2_swap_0 8 rfl rfl)
theorem dX2_swap_11 : decode cX2_swap 11 = .ok (.ifCond .ne 5, 3) := dk_154 0 5 (dk_at dksX2_swap_0 11 rfl rfl)
theorem dX2_swap_14 : decode cX2_swap 14 = .ok (.iconst (-1), 1) := dk_2 (dk_at dksX2_swap_0 14 rfl rfl)
theorem dX2_swap_15 : decode cX2_swap 15 = .ok (.ireturn, 1) := dk_172 (dk_at dksX2_swap_0 15 rfl rfl)
theorem dX2_swap_16 : decode cX2_swap 16 = .ok (.aload_n 0, 1) := dk_42 (dk_at dksX2_swap_0 16 rfl rfl)
theorem dX2_swap_17 : decode cX2_swap 17 = .ok (.invokevirtual 437, 3) := dk_182 1 181 (dk_at dksX2_swap_0 17 rfl rfl)
theorem dX2_swap_20 : decode cX2_swap 20 = .ok (.aload_n 0, 1) := dk_42 (dk_at dksX2_swap_0 20 rfl rfl)
theorem dX2_swap_21 : decode cX2_swap 21 = .ok (.iconst 0, 1) := dk_3 (dk_at dksX2_swap_0 21 rfl rfl)
theorem dX2_swap_22 : decode cX2_swap 22 = .ok (.invokevirtual 440, 3) := dk_182 1 184 (dk_at dksX2_swap_1 0 rfl rfl)
theorem dX2_swap_25 : decode cX2_swap 25 = .ok (.istore_n 1, 1) := dk_60 (dk_at dksX2_swap_1 3 rfl rfl)
theorem dX2_swap_26 : decode cX2_swap 26 = .ok (.aload_n 0, 1) := dk_42 (dk_at dksX2_swap_1 4 rfl rfl)
theorem dX2_swap_27 : decode cX2_swap 27 = .ok (.getfield 336, 3) := dk_180 1 80 (dk_at dksX2_swap_1 5 rfl rfl)
theorem dX2_swap_30 : decode cX2_swap 30 = .ok (.istore_n 2, 1) := dk_61 (dk_at dksX2_swap_1 8 rfl rfl)
theorem dX2_swap_31 : decode cX2_swap 31 = .ok (.iload_n 2, 1) := dk_28 (dk_at dksX2_swap_1 9 rfl rfl)
theorem dX2_swap_32 : decode cX2_swap 32 = .ok (.aload_n 0, 1) := dk_42 (dk_at dksX2_swap_1 10 rfl rfl)
theorem dX2_swap_33 : decode cX2_swap 33 = .ok (.invokevirtual 302, 3) := dk_182 1 46 (dk_at dksX2_swap_1 11 rfl rfl)
theorem dX2_swap_36 : decode cX2_swap 36 = .ok (.if_icmp .ge 139, 3) := dk_162 0 139 (dk_at dksX2_swap_1 14 rfl rfl)
theorem dX2_swap_39 : decode cX2_swap 39 = .ok (.iload_n 2, 1) := dk_28 (dk_at dksX2_swap_1 17 rfl rfl)
theorem dX2_swap_40 : decode cX2_swap 40 = .ok (.iconst 1, 1) := dk_4 (dk_at dksX2_swap_1 18 rfl rfl)
theorem dX2_swap_41 : decode cX2_swap 41 = .ok (.iadd, 1) := dk_96 (dk_at dksX2_swap_1 19 rfl rfl)
theorem dX2_swap_42 : decode cX2_swap 42 = .ok (.istore_n 3, 1) := dk_62 (dk_at dksX2_swap_1 20 rfl rfl)
theorem dX2_swap_43 : decode cX2_swap 43 = .ok (.iload_n 3, 1) := dk_29 (dk_at dksX2_swap_1 21 rfl rfl)
theorem dX2_swap_44 : decode cX2_swap 44 = .ok (.aload_n 0, 1) := dk_42 (dk_at dksX2_swap_1 22 rfl rfl)
theorem dX2_swap_45 : decode cX2_swap 45 = .ok (.invokevirtual 302, 3) := dk_182 1 46 (dk_at dksX2_swap_2 0 rfl rfl)
theorem dX2_swap_48 : decode cX2_swap 48 = .ok (.if_icmp .ge 121, 3) := dk_162 0 121 (dk_at dksX2_swap_2 3 rfl rfl)
theorem dX2_swap_51 : decode cX2_swap 51 = .ok (.aload_n 0, 1) := dk_42 (dk_at dksX2_swap_2 6 rfl rfl)
theorem dX2_swap_52 : decode cX2_swap 52 = .ok (.getfield 95, 3) := dk_180 0 95 (dk_at dksX2_swap_2 7 rfl rfl)
theorem dX2_swap_55 : decode cX2_swap 55 = .ok (.iload_n 2, 1) := dk_28 (dk_at dksX2_swap_2 10 rfl rfl)
theorem dX2_swap_56 : decode cX2_swap 56 = .ok (.iaload, 1) := dk_46 (dk_at dksX2_swap_2 11 rfl rfl)
theorem dX2_swap_57 : decode cX2_swap 57 = .ok (.istore 4, 2) := dk_54 4 (dk_at dksX2_swap_2 12 rfl rfl)
theorem dX2_swap_59 : decode cX2_swap 59 = .ok (.aload_n 0, 1) := dk_42 (dk_at dksX2_swap_2 14 rfl rfl)
theorem dX2_swap_60 : decode cX2_swap 60 = .ok (.getfield 95, 3) := dk_180 0 95 (dk_at dksX2_swap_2 15 rfl rfl)
theorem dX2_swap_63 : decode cX2_swap 63 = .ok (.iload_n 3, 1) := dk_29 (dk_at dksX2_swap_2 18 rfl rfl)
theorem dX2_swap_64 : decode cX2_swap 64 = .ok (.iaload, 1) := dk_46 (dk_at dksX2_swap_2 19 rfl rfl)
theorem dX2_swap_65 : decode cX2_swap 65 = .ok (.istore 5, 2) := dk_54 5 (dk_at dksX2_swap_2 20 rfl rfl)
theorem dX2_swap_67 : decode cX2_swap 67 = .ok (.iload 4, 2) := dk_21 4 (dk_at dksX2_swap_2 22 rfl rfl)
theorem dX2_swap_69 : decode cX2_swap 69 = .ok (.iload 5, 2) := dk_21 5 (dk_at dksX2_swap_3 0 rfl rfl)
theorem dX2_swap_71 : decode cX2_swap 71 = .ok (.if_icmp .ne 6, 3) := dk_160 0 6 (dk_at dksX2_swap_3 2 rfl rfl)
theorem dX2_swap_74 : decode cX2_swap 74 = .ok (.goto 89, 3) := dk_167 0 89 (dk_at dksX2_swap_3 5 rfl rfl)
theorem dX2_swap_77 : decode cX2_swap 77 = .ok (.aload_n 0, 1) := dk_42 (dk_at dksX2_swap_3 8 rfl rfl)
theorem dX2_swap_78 : decode cX2_swap 78 = .ok (.invokevirtual 437, 3) := dk_182 1 181 (dk_at dksX2_swap_3 9 rfl rfl)
theorem dX2_swap_81 : decode cX2_swap 81 = .ok (.aload_n 0, 1) := dk_42 (dk_at dksX2_swap_3 12 rfl rfl)
theorem dX2_swap_82 : decode cX2_swap 82 = .ok (.getfield 122, 3) := dk_180 0 122 (dk_at dksX2_swap_3 13 rfl rfl)
theorem dX2_swap_85 : decode cX2_swap 85 = .ok (.iload_n 2, 1) := dk_28 (dk_at dksX2_swap_3 16 rfl rfl)
theorem dX2_swap_86 : decode cX2_swap 86 = .ok (.iload 5, 2) := dk_21 5 (dk_at dksX2_swap_3 17 rfl rfl)
theorem dX2_swap_88 : decode cX2_swap 88 = .ok (.iastore, 1) := dk_79 (dk_at dksX2_swap_3 19 rfl rfl)
theorem dX2_swap_89 : decode cX2_swap 89 = .ok (.aload_n 0, 1) := dk_42 (dk_at dksX2_swap_3 20 rfl rfl)
theorem dX2_swap_90 : decode cX2_swap 90 = .ok (.getfield 122, 3) := dk_180 0 122 (dk_at dksX2_swap_3 21 rfl rfl)
theorem dX2_swap_93 : decode cX2_swap 93 = .ok (.iload_n 3, 1) := dk_29 (dk_at dksX2_swap_4 0 rfl rfl)
theorem dX2_swap_94 : decode cX2_swap 94 = .ok (.iload 4, 2) := dk_21 4 (dk_at dksX2_swap_4 1 rfl rfl)
theorem dX2_swap_96 : decode cX2_swap 96 = .ok (.iastore, 1) := dk_79 (dk_at dksX2_swap_4 3 rfl rfl)
theorem dX2_swap_97 : decode cX2_swap 97 = .ok (.aload_n 0, 1) := dk_42 (dk_at dksX2_swap_4 4 rfl rfl)
theorem dX2_swap_98 : decode cX2_swap 98 = .ok (.iconst 0, 1) := dk_3 (dk_at dksX2_swap_4 5 rfl rfl)
theorem dX2_swap_99 : decode cX2_swap 99 = .ok (.invokevirtual 440, 3) := dk_182 1 184 (dk_at dksX2_swap_4 6 rfl rfl)
theorem dX2_swap_102 : decode cX2_swap 102 = .ok (.istore 6, 2) := dk_54 6 (dk_at dksX2_swap_4 9 rfl rfl)
theorem dX2_swap_104 : decode cX2_swap 104 = .ok (.aload_n 0, 1) := dk_42 (dk_at dksX2_swap_4 11 rfl rfl)
theorem dX2_swap_105 : decode cX2_swap 105 = .ok (.getfield 110, 3) := dk_180 0 110 (dk_at dksX2_swap_4 12 rfl rfl)
theorem dX2_swap_108 : decode cX2_swap 108 = .ok (.iconst 3, 1) := dk_6 (dk_at dksX2_swap_4 15 rfl rfl)
theorem dX2_swap_109 : decode cX2_swap 109 = .ok (.iload 6, 2) := dk_21 6 (dk_at dksX2_swap_4 16 rfl rfl)
theorem dX2_swap_111 : decode cX2_swap 111 = .ok (.imul, 1) := dk_104 (dk_at dksX2_swap_4 18 rfl rfl)
theorem dX2_swap_112 : decode cX2_swap 112 = .ok (.iload 4, 2) := dk_21 4 (dk_at dksX2_swap_4 19 rfl rfl)
theorem dX2_swap_114 : decode cX2_swap 114 = .ok (.iadd, 1) := dk_96 (dk_at dksX2_swap_4 21 rfl rfl)
theorem dX2_swap_115 : decode cX2_swap 115 = .ok (.iaload, 1) := dk_46 (dk_at dksX2_swap_4 22 rfl rfl)
theorem dX2_swap_116 : decode cX2_swap 116 = .ok (.aload_n 0, 1) := dk_42 (dk_at dksX2_swap_4 23 rfl rfl)
theorem dX2_swap_117 : decode cX2_swap 117 = .ok (.getfield 110, 3) := dk_180 0 110 (dk_at dksX2_swap_5 0 rfl rfl)
theorem dX2_swap_120 : decode cX2_swap 120 = .ok (.iconst 3, 1) := dk_6 (dk_at dksX2_swap_5 3 rfl rfl)
theorem dX2_swap_121 : decode cX2_swap 121 = .ok (.iload_n 1, 1) := dk_27 (dk_at dksX2_swap_5 4 rfl rfl)
theorem dX2_swap_122 : decode cX2_swap 122 = .ok (.imul, 1) := dk_104 (dk_at dksX2_swap_5 5 rfl rfl)
theorem dX2_swap_123 : decode cX2_swap 123 = .ok (.iload 4, 2) := dk_21 4 (dk_at dksX2_swap_5 6 rfl rfl)
theorem dX2_swap_125 : decode cX2_swap 125 = .ok (.iadd, 1) := dk_96 (dk_at dksX2_swap_5 8 rfl rfl)
theorem dX2_swap_126 : decode cX2_swap 126 = .ok (.iaload, 1) := dk_46 (dk_at dksX2_swap_5 9 rfl rfl)
theorem dX2_swap_127 : decode cX2_swap 127 = .ok (.if_icmp .le 36, 3) := dk_164 0 36 (dk_at dksX2_swap_5 10 rfl rfl)
theorem dX2_swap_130 : decode cX2_swap 130 = .ok (.aload_n 0, 1) := dk_42 (dk_at dksX2_swap_5 13 rfl rfl)
theorem dX2_swap_131 : decode cX2_swap 131 = .ok (.getfield 110, 3) := dk_180 0 110 (dk_at dksX2_swap_5 14 rfl rfl)
theorem dX2_swap_134 : decode cX2_swap 134 = .ok (.iconst 3, 1) := dk_6 (dk_at dksX2_swap_5 17 rfl rfl)
theorem dX2_swap_135 : decode cX2_swap 135 = .ok (.iload 6, 2) := dk_21 6 (dk_at dksX2_swap_5 18 rfl rfl)
theorem dX2_swap_137 : decode cX2_swap 137 = .ok (.imul, 1) := dk_104 (dk_at dksX2_swap_5 20 rfl rfl)
theorem dX2_swap_138 : decode cX2_swap 138 = .ok (.iload 5, 2) := dk_21 5 (dk_at dksX2_swap_5 21 rfl rfl)
theorem dX2_swap_140 : decode cX2_swap 140 = .ok (.iadd, 1) := dk_96 (dk_at dksX2_swap_5 23 rfl rfl)
theorem dX2_swap_141 : decode cX2_swap 141 = .ok (.iaload, 1) := dk_46 (dk_at dksX2_swap_6 0 rfl rfl)
theorem dX2_swap_142 : decode cX2_swap 142 = .ok (.aload_n 0, 1) := dk_42 (dk_at dksX2_swap_6 1 rfl rfl)
theorem dX2_swap_143 : decode cX2_swap 143 = .ok (.getfield 110, 3) := dk_180 0 110 (dk_at dksX2_swap_6 2 rfl rfl)
theorem dX2_swap_146 : decode cX2_swap 146 = .ok (.iconst 3, 1) := dk_6 (dk_at dksX2_swap_6 5 rfl rfl)
theorem dX2_swap_147 : decode cX2_swap 147 = .ok (.iload_n 1, 1) := dk_27 (dk_at dksX2_swap_6 6 rfl rfl)
theorem dX2_swap_148 : decode cX2_swap 148 = .ok (.imul, 1) := dk_104 (dk_at dksX2_swap_6 7 rfl rfl)
theorem dX2_swap_149 : decode cX2_swap 149 = .ok (.iload 5, 2) := dk_21 5 (dk_at dksX2_swap_6 8 rfl rfl)
theorem dX2_swap_151 : decode cX2_swap 151 = .ok (.iadd, 1) := dk_96 (dk_at dksX2_swap_6 10 rfl rfl)
theorem dX2_swap_152 : decode cX2_swap 152 = .ok (.iaload, 1) := dk_46 (dk_at dksX2_swap_6 11 rfl rfl)
theorem dX2_swap_153 : decode cX2_swap 153 = .ok (.if_icmp .le 10, 3) := dk_164 0 10 (dk_at dksX2_swap_6 12 rfl rfl)
theorem dX2_swap_156 : decode cX2_swap 156 = .ok (.bipush 10, 2) := dk_16 10 (dk_at dksX2_swap_6 15 rfl rfl)
theorem dX2_swap_158 : decode cX2_swap 158 = .ok (.iload_n 2, 1) := dk_28 (dk_at dksX2_swap_6 17 rfl rfl)
theorem dX2_swap_159 : decode cX2_swap 159 = .ok (.imul, 1) := dk_104 (dk_at dksX2_swap_6 18 rfl rfl)
theorem dX2_swap_160 : decode cX2_swap 160 = .ok (.iload_n 3, 1) := dk_29 (dk_at dksX2_swap_6 19 rfl rfl)
theorem dX2_swap_161 : decode cX2_swap 161 = .ok (.iadd, 1) := dk_96 (dk_at dksX2_swap_6 20 rfl rfl)
theorem dX2_swap_162 : decode cX2_swap 162 = .ok (.ireturn, 1) := dk_172 (dk_at dksX2_swap_6 21 rfl rfl)
theorem dX2_swap_163 : decode cX2_swap 163 = .ok (.iinc 3 1, 3) := dk_132 3 1 (dk_at dksX2_swap_7 0 rfl rfl)
theorem dX2_swap_166 : decode cX2_swap 166 = .ok (.goto (-123), 3) := dk_167 255 133 (dk_at dksX2_swap_7 3 rfl rfl)
theorem dX2_swap_169 : decode cX2_swap 169 = .ok (.iinc 2 1, 3) := dk_132 2 1 (dk_at dksX2_swap_7 6 rfl rfl)
theorem dX2_swap_172 : decode cX2_swap 172 = .ok (.goto (-141), 3) := dk_167 255 115 (dk_at dksX2_swap_7 9 rfl rfl)
theorem dX2_swap_175 : decode cX2_swap 175 = .ok (.iconst (-1), 1) := dk_2 (dk_at dksX2_swap_7 12 rfl rfl)
theorem dX2_swap_176 : decode cX2_swap 176 = .ok (.ireturn, 1) := dk_172 (dk_at dksX2_swap_7 13 rfl rfl)
abbrev cX2_bribe : ByteArray := prog_9_method_87_code
def yX2_bribe : MethodName := ⟨RX2, "bribe", "(II)I"⟩
def dkwX2_bribe_5 : List UInt8 := [181, 0, 125, 42, 180, 1, 159, 16, 99, 164, 0, 7, 2, 167, 0, 7, 42, 180, 1, 159, 172]
abbrev dktX2_bribe_5 : List UInt8 := dkwX2_bribe_5 ++ []
def dkwX2_bribe_4 : List UInt8 := [27, 182, 1, 124, 28, 159, 0, 16, 42, 89, 180, 1, 159, 4, 96, 181, 1, 159, 167, 255, 218, 42, 2]
abbrev dktX2_bribe_4 : List UInt8 := dkwX2_bribe_4 ++ dktX2_bribe_5
def dkwX2_bribe_3 : List UInt8 := [3, 181, 1, 159, 42, 180, 1, 159, 16, 99, 163, 0, 35, 42, 42, 180, 0, 107, 42, 3, 182, 1, 184, 46]
abbrev dktX2_bribe_3 : List UInt8 := dkwX2_bribe_3 ++ dktX2_bribe_4
def dkwX2_bribe_2 : List UInt8 := [182, 1, 181, 42, 42, 180, 0, 95, 27, 46, 181, 0, 125, 42, 27, 181, 1, 153, 42, 28, 181, 1, 156, 42]
abbrev dktX2_bribe_2 : List UInt8 := dkwX2_bribe_2 ++ dktX2_bribe_3
def dkwX2_bribe_1 : List UInt8 := [154, 0, 6, 16, 254, 172, 42, 182, 1, 178, 153, 0, 10, 42, 180, 1, 134, 154, 0, 5, 2, 172, 42]
abbrev dktX2_bribe_1 : List UInt8 := dkwX2_bribe_1 ++ dktX2_bribe_2
def dkwX2_bribe_0 : List UInt8 := [27, 42, 180, 1, 80, 42, 182, 1, 46, 4, 100, 184, 1, 42, 153, 0, 11, 42, 28, 182, 1, 49]
abbrev dktX2_bribe_0 : List UInt8 := dkwX2_bribe_0 ++ dktX2_bribe_1
theorem dksX2_bribe_0 : cX2_bribe.data.toList.drop 0 = dktX2_bribe_0 := by decide +kernel
theorem dksX2_bribe_1 : cX2_bribe.data.toList.drop 22 = dktX2_bribe_1 := dk_seg dksX2_bribe_0 22 rfl rfl
theorem dksX2_bribe_2 : cX2_bribe.data.toList.drop 45 = dktX2_bribe_2 := dk_seg dksX2_bribe_1 23 rfl rfl
theorem dksX2_bribe_3 : cX2_bribe.data.toList.drop 69 = dktX2_bribe_3 := dk_seg dksX2_bribe_2 24 rfl rfl
theorem dksX2_bribe_4 : cX2_bribe.data.toList.drop 93 = dktX2_bribe_4 := dk_seg dksX2_bribe_3 24 rfl rfl
theorem dksX2_bribe_5 : cX2_bribe.data.toList.drop 116 = dktX2_bribe_5 := dk_seg dksX2_bribe_4 23 rfl rfl
theorem dX2_bribe_0 : decode cX2_bribe 0 = .ok (.iload_n 1, 1) := dk_27 (dk_at dksX2_bribe_0 0 rfl rfl)
theorem dX2_bribe_1 : decode cX2_bribe 1 = .ok (.aload_n 0, 1) := dk_42 (dk_at dksX2_bribe_0 1 rfl rfl)
theorem dX2_bribe_2 : decode cX2_bribe 2 = .ok (.getfield 336, 3) := dk_180 1 80 (dk_at dksX2_bribe_0 2 rfl rfl)
theorem dX2_bribe_5 : decode cX2_bribe 5 = .ok (.aload_n 0, 1) := dk_42 (dk_at dksX2_bribe_0 5 rfl rfl)
theorem dX2_bribe_6 : decode cX2_bribe 6 = .ok (.invokevirtual 302, 3) := dk_182 1 46 (dk_at dksX2_bribe_0 6 rfl rfl)
theorem dX2_bribe_9 : decode cX2_bribe 9 = .ok (.iconst 1, 1) := dk_4 (dk_at dksX2_bribe_0 9 rfl rfl)
theorem dX2_bribe_10 : decode cX2_bribe 10 = .ok (.isub, 1) := dk_100 (dk_at dksX2_bribe_0 10 rfl rfl)
theorem dX2_bribe_11 : decode cX2_bribe 11 = .ok (.invokestatic 298, 3) := dk_184 1 42 (dk_at dksX2_bribe_0 11 rfl rfl)
theorem dX2_bribe_14 : decode cX2_bribe 14 = .ok (.ifCond .eq 11, 3) := dk_153 0 11 (dk_at dksX2_bribe_0 14 rfl rfl)
theorem dX2_bribe_17 : decode cX2_bribe 17 = .ok (.aload_n 0, 1) := dk_42 (dk_at dksX2_bribe_0 17 rfl rfl)
theorem dX2_bribe_18 : decode cX2_bribe 18 = .ok (.iload_n 2, 1) := dk_28 (dk_at dksX2_bribe_0 18 rfl rfl)
theorem dX2_bribe_19 : decode cX2_bribe 19 = .ok (.invokevirtual 305, 3) := dk_182 1 49 (dk_at dksX2_bribe_0 19 rfl rfl)
theorem dX2_bribe_22 : decode cX2_bribe 22 = .ok (.ifCond .ne 6, 3) := dk_154 0 6 (dk_at dksX2_bribe_1 0 rfl rfl)
theorem dX2_bribe_25 : decode cX2_bribe 25 = .ok (.bipush (-2), 2) := dk_16 254 (dk_at dksX2_bribe_1 3 rfl rfl)
theorem dX2_bribe_27 : decode cX2_bribe 27 = .ok (.ireturn, 1) := dk_172 (dk_at dksX2_bribe_1 5 rfl rfl)
theorem dX2_bribe_28 : decode cX2_bribe 28 = .ok (.aload_n 0, 1) := dk_42 (dk_at dksX2_bribe_1 6 rfl rfl)
theorem dX2_bribe_29 : decode cX2_bribe 29 = .ok (.invokevirtual 434, 3) := dk_182 1 178 (dk_at dksX2_bribe_1 7 rfl rfl)
theorem dX2_bribe_32 : decode cX2_bribe 32 = .ok (.ifCond .eq 10, 3) := dk_153 0 10 (dk_at dksX2_bribe_1 10 rfl rfl)
theorem dX2_bribe_35 : decode cX2_bribe 35 = .ok (.aload_n 0, 1) := dk_42 (dk_at dksX2_bribe_1 13 rfl rfl)
theorem dX2_bribe_36 : decode cX2_bribe 36 = .ok (.getfield 390, 3) := dk_180 1 134 (dk_at dksX2_bribe_1 14 rfl rfl)
theorem dX2_bribe_39 : decode cX2_bribe 39 = .ok (.ifCond .ne 5, 3) := dk_154 0 5 (dk_at dksX2_bribe_1 17 rfl rfl)
theorem dX2_bribe_42 : decode cX2_bribe 42 = .ok (.iconst (-1), 1) := dk_2 (dk_at dksX2_bribe_1 20 rfl rfl)
theorem dX2_bribe_43 : decode cX2_bribe 43 = .ok (.ireturn, 1) := dk_172 (dk_at dksX2_bribe_1 21 rfl rfl)
theorem dX2_bribe_44 : decode cX2_bribe 44 = .ok (.aload_n 0, 1) := dk_42 (dk_at dksX2_bribe_1 22 rfl rfl)
theorem dX2_bribe_45 : decode cX2_bribe 45 = .ok (.invokevirtual 437, 3) := dk_182 1 181 (dk_at dksX2_bribe_2 0 rfl rfl)
theorem dX2_bribe_48 : decode cX2_bribe 48 = .ok (.aload_n 0, 1) := dk_42 (dk_at dksX2_bribe_2 3 rfl rfl)
theorem dX2_bribe_49 : decode cX2_bribe 49 = .ok (.aload_n 0, 1) := dk_42 (dk_at dksX2_bribe_2 4 rfl rfl)
theorem dX2_bribe_50 : decode cX2_bribe 50 = .ok (.getfield 95, 3) := dk_180 0 95 (dk_at dksX2_bribe_2 5 rfl rfl)
theorem dX2_bribe_53 : decode cX2_bribe 53 = .ok (.iload_n 1, 1) := dk_27 (dk_at dksX2_bribe_2 8 rfl rfl)
theorem dX2_bribe_54 : decode cX2_bribe 54 = .ok (.iaload, 1) := dk_46 (dk_at dksX2_bribe_2 9 rfl rfl)
theorem dX2_bribe_55 : decode cX2_bribe 55 = .ok (.putfield 125, 3) := dk_181 0 125 (dk_at dksX2_bribe_2 10 rfl rfl)
theorem dX2_bribe_58 : decode cX2_bribe 58 = .ok (.aload_n 0, 1) := dk_42 (dk_at dksX2_bribe_2 13 rfl rfl)
theorem dX2_bribe_59 : decode cX2_bribe 59 = .ok (.iload_n 1, 1) := dk_27 (dk_at dksX2_bribe_2 14 rfl rfl)
theorem dX2_bribe_60 : decode cX2_bribe 60 = .ok (.putfield 409, 3) := dk_181 1 153 (dk_at dksX2_bribe_2 15 rfl rfl)
theorem dX2_bribe_63 : decode cX2_bribe 63 = .ok (.aload_n 0, 1) := dk_42 (dk_at dksX2_bribe_2 18 rfl rfl)
theorem dX2_bribe_64 : decode cX2_bribe 64 = .ok (.iload_n 2, 1) := dk_28 (dk_at dksX2_bribe_2 19 rfl rfl)
theorem dX2_bribe_65 : decode cX2_bribe 65 = .ok (.putfield 412, 3) := dk_181 1 156 (dk_at dksX2_bribe_2 20 rfl rfl)
theorem dX2_bribe_68 : decode cX2_bribe 68 = .ok (.aload_n 0, 1) := dk_42 (dk_at dksX2_bribe_2 23 rfl rfl)
theorem dX2_bribe_69 : decode cX2_bribe 69 = .ok (.iconst 0, 1) := dk_3 (dk_at dksX2_bribe_3 0 rfl rfl)
theorem dX2_bribe_70 : decode cX2_bribe 70 = .ok (.putfield 415, 3) := dk_181 1 159 (dk_at dksX2_bribe_3 1 rfl rfl)
theorem dX2_bribe_73 : decode cX2_bribe 73 = .ok (.aload_n 0, 1) := dk_42 (dk_at dksX2_bribe_3 4 rfl rfl)
theorem dX2_bribe_74 : decode cX2_bribe 74 = .ok (.getfield 415, 3) := dk_180 1 159 (dk_at dksX2_bribe_3 5 rfl rfl)
theorem dX2_bribe_77 : decode cX2_bribe 77 = .ok (.bipush 99, 2) := dk_16 99 (dk_at dksX2_bribe_3 8 rfl rfl)
theorem dX2_bribe_79 : decode cX2_bribe 79 = .ok (.if_icmp .gt 35, 3) := dk_163 0 35 (dk_at dksX2_bribe_3 10 rfl rfl)
theorem dX2_bribe_82 : decode cX2_bribe 82 = .ok (.aload_n 0, 1) := dk_42 (dk_at dksX2_bribe_3 13 rfl rfl)
theorem dX2_bribe_83 : decode cX2_bribe 83 = .ok (.aload_n 0, 1) := dk_42 (dk_at dksX2_bribe_3 14 rfl rfl)
theorem dX2_bribe_84 : decode cX2_bribe 84 = .ok (.getfield 107, 3) := dk_180 0 107 (dk_at dksX2_bribe_3 15 rfl rfl)
theorem dX2_bribe_87 : decode cX2_bribe 87 = .ok (.aload_n 0, 1) := dk_42 (dk_at dksX2_bribe_3 18 rfl rfl)
theorem dX2_bribe_88 : decode cX2_bribe 88 = .ok (.iconst 0, 1) := dk_3 (dk_at dksX2_bribe_3 19 rfl rfl)
theorem dX2_bribe_89 : decode cX2_bribe 89 = .ok (.invokevirtual 440, 3) := dk_182 1 184 (dk_at dksX2_bribe_3 20 rfl rfl)
theorem dX2_bribe_92 : decode cX2_bribe 92 = .ok (.iaload, 1) := dk_46 (dk_at dksX2_bribe_3 23 rfl rfl)
theorem dX2_bribe_93 : decode cX2_bribe 93 = .ok (.iload_n 1, 1) := dk_27 (dk_at dksX2_bribe_4 0 rfl rfl)
theorem dX2_bribe_94 : decode cX2_bribe 94 = .ok (.invokevirtual 380, 3) := dk_182 1 124 (dk_at dksX2_bribe_4 1 rfl rfl)
theorem dX2_bribe_97 : decode cX2_bribe 97 = .ok (.iload_n 2, 1) := dk_28 (dk_at dksX2_bribe_4 4 rfl rfl)
theorem dX2_bribe_98 : decode cX2_bribe 98 = .ok (.if_icmp .eq 16, 3) := dk_159 0 16 (dk_at dksX2_bribe_4 5 rfl rfl)
theorem dX2_bribe_101 : decode cX2_bribe 101 = .ok (.aload_n 0, 1) := dk_42 (dk_at dksX2_bribe_4 8 rfl rfl)
theorem dX2_bribe_102 : decode cX2_bribe 102 = .ok (.dup, 1) := dk_89 (dk_at dksX2_bribe_4 9 rfl rfl)
theorem dX2_bribe_103 : decode cX2_bribe 103 = .ok (.getfield 415, 3) := dk_180 1 159 (dk_at dksX2_bribe_4 10 rfl rfl)
theorem dX2_bribe_106 : decode cX2_bribe 106 = .ok (.iconst 1, 1) := dk_4 (dk_at dksX2_bribe_4 13 rfl rfl)
theorem dX2_bribe_107 : decode cX2_bribe 107 = .ok (.iadd, 1) := dk_96 (dk_at dksX2_bribe_4 14 rfl rfl)
theorem dX2_bribe_108 : decode cX2_bribe 108 = .ok (.putfield 415, 3) := dk_181 1 159 (dk_at dksX2_bribe_4 15 rfl rfl)
theorem dX2_bribe_111 : decode cX2_bribe 111 = .ok (.goto (-38), 3) := dk_167 255 218 (dk_at dksX2_bribe_4 18 rfl rfl)
theorem dX2_bribe_114 : decode cX2_bribe 114 = .ok (.aload_n 0, 1) := dk_42 (dk_at dksX2_bribe_4 21 rfl rfl)
theorem dX2_bribe_115 : decode cX2_bribe 115 = .ok (.iconst (-1), 1) := dk_2 (dk_at dksX2_bribe_4 22 rfl rfl)
theorem dX2_bribe_116 : decode cX2_bribe 116 = .ok (.putfield 125, 3) := dk_181 0 125 (dk_at dksX2_bribe_5 0 rfl rfl)
theorem dX2_bribe_119 : decode cX2_bribe 119 = .ok (.aload_n 0, 1) := dk_42 (dk_at dksX2_bribe_5 3 rfl rfl)
theorem dX2_bribe_120 : decode cX2_bribe 120 = .ok (.getfield 415, 3) := dk_180 1 159 (dk_at dksX2_bribe_5 4 rfl rfl)
theorem dX2_bribe_123 : decode cX2_bribe 123 = .ok (.bipush 99, 2) := dk_16 99 (dk_at dksX2_bribe_5 7 rfl rfl)
theorem dX2_bribe_125 : decode cX2_bribe 125 = .ok (.if_icmp .le 7, 3) := dk_164 0 7 (dk_at dksX2_bribe_5 9 rfl rfl)
theorem dX2_bribe_128 : decode cX2_bribe 128 = .ok (.iconst (-1), 1) := dk_2 (dk_at dksX2_bribe_5 12 rfl rfl)
theorem dX2_bribe_129 : decode cX2_bribe 129 = .ok (.goto 7, 3) := dk_167 0 7 (dk_at dksX2_bribe_5 13 rfl rfl)
theorem dX2_bribe_132 : decode cX2_bribe 132 = .ok (.aload_n 0, 1) := dk_42 (dk_at dksX2_bribe_5 16 rfl rfl)
theorem dX2_bribe_133 : decode cX2_bribe 133 = .ok (.getfield 415, 3) := dk_180 1 159 (dk_at dksX2_bribe_5 17 rfl rfl)
theorem dX2_bribe_136 : decode cX2_bribe 136 = .ok (.ireturn, 1) := dk_172 (dk_at dksX2_bribe_5 20 rfl rfl)
abbrev cX2_lots : ByteArray := prog_9_method_88_code
def yX2_lots : MethodName := ⟨RX2, "lots", "(I)I"⟩
def dkwX2_lots_2 : List UInt8 := [182, 1, 184, 104, 27, 96, 46, 96, 61, 132, 3, 1, 167, 255, 225, 28, 172]
abbrev dktX2_lots_2 : List UInt8 := dkwX2_lots_2 ++ []
def dkwX2_lots_1 : List UInt8 := [172, 3, 61, 3, 62, 29, 16, 6, 162, 0, 31, 42, 29, 182, 1, 199, 28, 42, 180, 0, 110, 6, 42, 3]
abbrev dktX2_lots_1 : List UInt8 := dkwX2_lots_1 ++ dktX2_lots_2
def dkwX2_lots_0 : List UInt8 := [27, 184, 1, 52, 153, 0, 17, 42, 182, 1, 196, 153, 0, 10, 42, 180, 1, 134, 154, 0, 7, 19, 1, 55]
abbrev dktX2_lots_0 : List UInt8 := dkwX2_lots_0 ++ dktX2_lots_1
theorem dksX2_lots_0 : cX2_lots.data.toList.drop 0 = dktX2_lots_0 := by decide +kernel
theorem dksX2_lots_1 : cX2_lots.data.toList.drop 24 = dktX2_lots_1 := dk_seg dksX2_lots_0 24 rfl rfl
theorem dksX2_lots_2 : cX2_lots.data.toList.drop 48 = dktX2_lots_2 := dk_seg dksX2_lots_1 24 rfl rfl
theorem dX2_lots_0 : decode cX2_lots 0 = .ok (.iload_n 1, 1) := dk_27 (dk_at dksX2_lots_0 0 rfl rfl)
theorem dX2_lots_1 : decode cX2_lots 1 = .ok (.invokestatic 308, 3) := dk_184 1 52 (dk_at dksX2_lots_0 1 rfl rfl)
theorem dX2_lots_4 : decode cX2_lots 4 = .ok (.ifCond .eq 17, 3) := dk_153 0 17 (dk_at dksX2_lots_0 4 rfl rfl)
theorem dX2_lots_7 : decode cX2_lots 7 = .ok (.aload_n 0, 1) := dk_42 (dk_at dksX2_lots_0 7 rfl rfl)
theorem dX2_lots_8 : decode cX2_lots 8 = .ok (.invokevirtual 452, 3) := dk_182 1 196 (dk_at dksX2_lots_0 8 rfl rfl)
theorem dX2_lots_11 : decode cX2_lots 11 = .ok (.ifCond .eq 10, 3) := dk_153 0 10 (dk_at dksX2_lots_0 11 rfl rfl)
theorem dX2_lots_14 : decode cX2_lots 14 = .ok (.aload_n 0, 1) := dk_42 (dk_at dksX2_lots_0 14 rfl rfl)
theorem dX2_lots_15 : decode cX2_lots 15 = .ok (.getfield 390, 3) := dk_180 1 134 (dk_at dksX2_lots_0 15 rfl rfl)
theorem dX2_lots_18 : decode cX2_lots 18 = .ok (.ifCond .ne 7, 3) := dk_154 0 7 (dk_at dksX2_lots_0 18 rfl rfl)
theorem dX2_lots_21 : decode cX2_lots 21 = .ok (.ldc_w 311, 3) := dk_19 1 55 (dk_at dksX2_lots_0 21 rfl rfl)
theorem dX2_lots_24 : decode cX2_lots 24 = .ok (.ireturn, 1) := dk_172 (dk_at dksX2_lots_1 0 rfl rfl)
theorem dX2_lots_25 : decode cX2_lots 25 = .ok (.iconst 0, 1) := dk_3 (dk_at dksX2_lots_1 1 rfl rfl)
theorem dX2_lots_26 : decode cX2_lots 26 = .ok (.istore_n 2, 1) := dk_61 (dk_at dksX2_lots_1 2 rfl rfl)
theorem dX2_lots_27 : decode cX2_lots 27 = .ok (.iconst 0, 1) := dk_3 (dk_at dksX2_lots_1 3 rfl rfl)
theorem dX2_lots_28 : decode cX2_lots 28 = .ok (.istore_n 3, 1) := dk_62 (dk_at dksX2_lots_1 4 rfl rfl)
theorem dX2_lots_29 : decode cX2_lots 29 = .ok (.iload_n 3, 1) := dk_29 (dk_at dksX2_lots_1 5 rfl rfl)
theorem dX2_lots_30 : decode cX2_lots 30 = .ok (.bipush 6, 2) := dk_16 6 (dk_at dksX2_lots_1 6 rfl rfl)
theorem dX2_lots_32 : decode cX2_lots 32 = .ok (.if_icmp .ge 31, 3) := dk_162 0 31 (dk_at dksX2_lots_1 8 rfl rfl)
theorem dX2_lots_35 : decode cX2_lots 35 = .ok (.aload_n 0, 1) := dk_42 (dk_at dksX2_lots_1 11 rfl rfl)
theorem dX2_lots_36 : decode cX2_lots 36 = .ok (.iload_n 3, 1) := dk_29 (dk_at dksX2_lots_1 12 rfl rfl)
theorem dX2_lots_37 : decode cX2_lots 37 = .ok (.invokevirtual 455, 3) := dk_182 1 199 (dk_at dksX2_lots_1 13 rfl rfl)
theorem dX2_lots_40 : decode cX2_lots 40 = .ok (.iload_n 2, 1) := dk_28 (dk_at dksX2_lots_1 16 rfl rfl)
theorem dX2_lots_41 : decode cX2_lots 41 = .ok (.aload_n 0, 1) := dk_42 (dk_at dksX2_lots_1 17 rfl rfl)
theorem dX2_lots_42 : decode cX2_lots 42 = .ok (.getfield 110, 3) := dk_180 0 110 (dk_at dksX2_lots_1 18 rfl rfl)
theorem dX2_lots_45 : decode cX2_lots 45 = .ok (.iconst 3, 1) := dk_6 (dk_at dksX2_lots_1 21 rfl rfl)
theorem dX2_lots_46 : decode cX2_lots 46 = .ok (.aload_n 0, 1) := dk_42 (dk_at dksX2_lots_1 22 rfl rfl)
theorem dX2_lots_47 : decode cX2_lots 47 = .ok (.iconst 0, 1) := dk_3 (dk_at dksX2_lots_1 23 rfl rfl)
theorem dX2_lots_48 : decode cX2_lots 48 = .ok (.invokevirtual 440, 3) := dk_182 1 184 (dk_at dksX2_lots_2 0 rfl rfl)
theorem dX2_lots_51 : decode cX2_lots 51 = .ok (.imul, 1) := dk_104 (dk_at dksX2_lots_2 3 rfl rfl)
theorem dX2_lots_52 : decode cX2_lots 52 = .ok (.iload_n 1, 1) := dk_27 (dk_at dksX2_lots_2 4 rfl rfl)
theorem dX2_lots_53 : decode cX2_lots 53 = .ok (.iadd, 1) := dk_96 (dk_at dksX2_lots_2 5 rfl rfl)
theorem dX2_lots_54 : decode cX2_lots 54 = .ok (.iaload, 1) := dk_46 (dk_at dksX2_lots_2 6 rfl rfl)
theorem dX2_lots_55 : decode cX2_lots 55 = .ok (.iadd, 1) := dk_96 (dk_at dksX2_lots_2 7 rfl rfl)
theorem dX2_lots_56 : decode cX2_lots 56 = .ok (.istore_n 2, 1) := dk_61 (dk_at dksX2_lots_2 8 rfl rfl)
theorem dX2_lots_57 : decode cX2_lots 57 = .ok (.iinc 3 1, 3) := dk_132 3 1 (dk_at dksX2_lots_2 9 rfl rfl)
theorem dX2_lots_60 : decode cX2_lots 60 = .ok (.goto (-31), 3) := dk_167 255 225 (dk_at dksX2_lots_2 12 rfl rfl)
theorem dX2_lots_63 : decode cX2_lots 63 = .ok (.iload_n 2, 1) := dk_28 (dk_at dksX2_lots_2 15 rfl rfl)
theorem dX2_lots_64 : decode cX2_lots 64 = .ok (.ireturn, 1) := dk_172 (dk_at dksX2_lots_2 16 rfl rfl)
abbrev cX2_layFromNone : ByteArray := prog_9_method_70_code
def yX2_layFromNone : MethodName := ⟨RX2, "layFromNone", "()Z"⟩
def dkwX2_layFromNone_0 : List UInt8 := [42, 3, 3, 182, 1, 149, 172]
abbrev dktX2_layFromNone_0 : List UInt8 := dkwX2_layFromNone_0 ++ []
theorem dksX2_layFromNone_0 : cX2_layFromNone.data.toList.drop 0 = dktX2_layFromNone_0 := by decide +kernel
theorem dX2_layFromNone_0 : decode cX2_layFromNone 0 = .ok (.aload_n 0, 1) := dk_42 (dk_at dksX2_layFromNone_0 0 rfl rfl)
theorem dX2_layFromNone_1 : decode cX2_layFromNone 1 = .ok (.iconst 0, 1) := dk_3 (dk_at dksX2_layFromNone_0 1 rfl rfl)
theorem dX2_layFromNone_2 : decode cX2_layFromNone 2 = .ok (.iconst 0, 1) := dk_3 (dk_at dksX2_layFromNone_0 2 rfl rfl)
theorem dX2_layFromNone_3 : decode cX2_layFromNone 3 = .ok (.invokevirtual 405, 3) := dk_182 1 149 (dk_at dksX2_layFromNone_0 3 rfl rfl)
theorem dX2_layFromNone_6 : decode cX2_layFromNone 6 = .ok (.ireturn, 1) := dk_172 (dk_at dksX2_layFromNone_0 6 rfl rfl)
abbrev cX2_turnsByOrder : ByteArray := prog_9_method_78_code
def yX2_turnsByOrder : MethodName := ⟨RX2, "turnsByOrder", "(I)V"⟩
def dkwX2_turnsByOrder_1 : List UInt8 := [167, 255, 236, 177]
abbrev dktX2_turnsByOrder_1 : List UInt8 := dkwX2_turnsByOrder_1 ++ []
def dkwX2_turnsByOrder_0 : List UInt8 := [3, 61, 28, 16, 6, 162, 0, 20, 42, 180, 0, 122, 28, 27, 28, 184, 1, 175, 79, 132, 2, 1]
abbrev dktX2_turnsByOrder_0 : List UInt8 := dkwX2_turnsByOrder_0 ++ dktX2_turnsByOrder_1
theorem dksX2_turnsByOrder_0 : cX2_turnsByOrder.data.toList.drop 0 = dktX2_turnsByOrder_0 := by decide +kernel
theorem dksX2_turnsByOrder_1 : cX2_turnsByOrder.data.toList.drop 22 = dktX2_turnsByOrder_1 := dk_seg dksX2_turnsByOrder_0 22 rfl rfl
theorem dX2_turnsByOrder_0 : decode cX2_turnsByOrder 0 = .ok (.iconst 0, 1) := dk_3 (dk_at dksX2_turnsByOrder_0 0 rfl rfl)
theorem dX2_turnsByOrder_1 : decode cX2_turnsByOrder 1 = .ok (.istore_n 2, 1) := dk_61 (dk_at dksX2_turnsByOrder_0 1 rfl rfl)
theorem dX2_turnsByOrder_2 : decode cX2_turnsByOrder 2 = .ok (.iload_n 2, 1) := dk_28 (dk_at dksX2_turnsByOrder_0 2 rfl rfl)
theorem dX2_turnsByOrder_3 : decode cX2_turnsByOrder 3 = .ok (.bipush 6, 2) := dk_16 6 (dk_at dksX2_turnsByOrder_0 3 rfl rfl)
theorem dX2_turnsByOrder_5 : decode cX2_turnsByOrder 5 = .ok (.if_icmp .ge 20, 3) := dk_162 0 20 (dk_at dksX2_turnsByOrder_0 5 rfl rfl)
theorem dX2_turnsByOrder_8 : decode cX2_turnsByOrder 8 = .ok (.aload_n 0, 1) := dk_42 (dk_at dksX2_turnsByOrder_0 8 rfl rfl)
theorem dX2_turnsByOrder_9 : decode cX2_turnsByOrder 9 = .ok (.getfield 122, 3) := dk_180 0 122 (dk_at dksX2_turnsByOrder_0 9 rfl rfl)
theorem dX2_turnsByOrder_12 : decode cX2_turnsByOrder 12 = .ok (.iload_n 2, 1) := dk_28 (dk_at dksX2_turnsByOrder_0 12 rfl rfl)
theorem dX2_turnsByOrder_13 : decode cX2_turnsByOrder 13 = .ok (.iload_n 1, 1) := dk_27 (dk_at dksX2_turnsByOrder_0 13 rfl rfl)
theorem dX2_turnsByOrder_14 : decode cX2_turnsByOrder 14 = .ok (.iload_n 2, 1) := dk_28 (dk_at dksX2_turnsByOrder_0 14 rfl rfl)
theorem dX2_turnsByOrder_15 : decode cX2_turnsByOrder 15 = .ok (.invokestatic 431, 3) := dk_184 1 175 (dk_at dksX2_turnsByOrder_0 15 rfl rfl)
theorem dX2_turnsByOrder_18 : decode cX2_turnsByOrder 18 = .ok (.iastore, 1) := dk_79 (dk_at dksX2_turnsByOrder_0 18 rfl rfl)
theorem dX2_turnsByOrder_19 : decode cX2_turnsByOrder 19 = .ok (.iinc 2 1, 3) := dk_132 2 1 (dk_at dksX2_turnsByOrder_0 19 rfl rfl)
theorem dX2_turnsByOrder_22 : decode cX2_turnsByOrder 22 = .ok (.goto (-20), 3) := dk_167 255 236 (dk_at dksX2_turnsByOrder_1 0 rfl rfl)
theorem dX2_turnsByOrder_25 : decode cX2_turnsByOrder 25 = .ok (.return_, 1) := dk_177 (dk_at dksX2_turnsByOrder_1 3 rfl rfl)
abbrev cX2_used : ByteArray := prog_9_method_91_code
def yX2_used : MethodName := ⟨RX2, "used", "()I"⟩
def dkwX2_used_6 : List UInt8 := [167, 255, 211, 132, 3, 1, 167, 255, 155, 167, 255, 137, 27, 172]
abbrev dktX2_used_6 : List UInt8 := dkwX2_used_6 ++ []
def dkwX2_used_5 : List UInt8 := [46, 16, 8, 161, 0, 18, 27, 4, 42, 180, 0, 54, 21, 4, 46, 16, 8, 100, 120, 128, 60, 132, 4, 1]
abbrev dktX2_used_5 : List UInt8 := dkwX2_used_5 ++ dktX2_used_6
def dkwX2_used_4 : List UInt8 := [104, 54, 4, 21, 4, 7, 29, 104, 42, 180, 0, 51, 29, 46, 96, 162, 0, 36, 42, 180, 0, 54, 21, 4]
abbrev dktX2_used_4 : List UInt8 := dkwX2_used_4 ++ dktX2_used_5
def dkwX2_used_3 : List UInt8 := [180, 0, 48, 29, 46, 122, 4, 126, 153, 0, 67, 42, 29, 182, 1, 202, 154, 0, 6, 167, 0, 56, 7, 29]
abbrev dktX2_used_3 : List UInt8 := dkwX2_used_3 ++ dktX2_used_4
def dkwX2_used_2 : List UInt8 := [29, 16, 24, 42, 180, 0, 233, 104, 42, 180, 0, 30, 42, 180, 0, 233, 46, 96, 162, 0, 86, 27, 42]
abbrev dktX2_used_2 : List UInt8 := dkwX2_used_2 ++ dktX2_used_3
def dkwX2_used_1 : List UInt8 := [154, 0, 5, 3, 172, 4, 60, 3, 61, 28, 27, 159, 0, 120, 27, 61, 16, 24, 42, 180, 0, 233, 104, 62]
abbrev dktX2_used_1 : List UInt8 := dkwX2_used_1 ++ dktX2_used_2
def dkwX2_used_0 : List UInt8 := [42, 182, 1, 206, 42, 180, 0, 27, 42, 180, 0, 233, 46, 153, 0, 12, 42, 180, 0, 131, 3, 46]
abbrev dktX2_used_0 : List UInt8 := dkwX2_used_0 ++ dktX2_used_1
theorem dksX2_used_0 : cX2_used.data.toList.drop 0 = dktX2_used_0 := by decide +kernel
theorem dksX2_used_1 : cX2_used.data.toList.drop 22 = dktX2_used_1 := dk_seg dksX2_used_0 22 rfl rfl
theorem dksX2_used_2 : cX2_used.data.toList.drop 46 = dktX2_used_2 := dk_seg dksX2_used_1 24 rfl rfl
theorem dksX2_used_3 : cX2_used.data.toList.drop 69 = dktX2_used_3 := dk_seg dksX2_used_2 23 rfl rfl
theorem dksX2_used_4 : cX2_used.data.toList.drop 93 = dktX2_used_4 := dk_seg dksX2_used_3 24 rfl rfl
theorem dksX2_used_5 : cX2_used.data.toList.drop 117 = dktX2_used_5 := dk_seg dksX2_used_4 24 rfl rfl
theorem dksX2_used_6 : cX2_used.data.toList.drop 141 = dktX2_used_6 := dk_seg dksX2_used_5 24 rfl rfl
theorem dX2_used_0 : decode cX2_used 0 = .ok (.aload_n 0, 1) := dk_42 (dk_at dksX2_used_0 0 rfl rfl)
theorem dX2_used_1 : decode cX2_used 1 = .ok (.invokevirtual 462, 3) := dk_182 1 206 (dk_at dksX2_used_0 1 rfl rfl)
theorem dX2_used_4 : decode cX2_used 4 = .ok (.aload_n 0, 1) := dk_42 (dk_at dksX2_used_0 4 rfl rfl)
theorem dX2_used_5 : decode cX2_used 5 = .ok (.getfield 27, 3) := dk_180 0 27 (dk_at dksX2_used_0 5 rfl rfl)
theorem dX2_used_8 : decode cX2_used 8 = .ok (.aload_n 0, 1) := dk_42 (dk_at dksX2_used_0 8 rfl rfl)
theorem dX2_used_9 : decode cX2_used 9 = .ok (.getfield 233, 3) := dk_180 0 233 (dk_at dksX2_used_0 9 rfl rfl)
theorem dX2_used_12 : decode cX2_used 12 = .ok (.iaload, 1) := dk_46 (dk_at dksX2_used_0 12 rfl rfl)
theorem dX2_used_13 : decode cX2_used 13 = .ok (.ifCond .eq 12, 3) := dk_153 0 12 (dk_at dksX2_used_0 13 rfl rfl)
theorem dX2_used_16 : decode cX2_used 16 = .ok (.aload_n 0, 1) := dk_42 (dk_at dksX2_used_0 16 rfl rfl)
theorem dX2_used_17 : decode cX2_used 17 = .ok (.getfield 131, 3) := dk_180 0 131 (dk_at dksX2_used_0 17 rfl rfl)
theorem dX2_used_20 : decode cX2_used 20 = .ok (.iconst 0, 1) := dk_3 (dk_at dksX2_used_0 20 rfl rfl)
theorem dX2_used_21 : decode cX2_used 21 = .ok (.iaload, 1) := dk_46 (dk_at dksX2_used_0 21 rfl rfl)
theorem dX2_used_22 : decode cX2_used 22 = .ok (.ifCond .ne 5, 3) := dk_154 0 5 (dk_at dksX2_used_1 0 rfl rfl)
theorem dX2_used_25 : decode cX2_used 25 = .ok (.iconst 0, 1) := dk_3 (dk_at dksX2_used_1 3 rfl rfl)
theorem dX2_used_26 : decode cX2_used 26 = .ok (.ireturn, 1) := dk_172 (dk_at dksX2_used_1 4 rfl rfl)
theorem dX2_used_27 : decode cX2_used 27 = .ok (.iconst 1, 1) := dk_4 (dk_at dksX2_used_1 5 rfl rfl)
theorem dX2_used_28 : decode cX2_used 28 = .ok (.istore_n 1, 1) := dk_60 (dk_at dksX2_used_1 6 rfl rfl)
theorem dX2_used_29 : decode cX2_used 29 = .ok (.iconst 0, 1) := dk_3 (dk_at dksX2_used_1 7 rfl rfl)
theorem dX2_used_30 : decode cX2_used 30 = .ok (.istore_n 2, 1) := dk_61 (dk_at dksX2_used_1 8 rfl rfl)
theorem dX2_used_31 : decode cX2_used 31 = .ok (.iload_n 2, 1) := dk_28 (dk_at dksX2_used_1 9 rfl rfl)
theorem dX2_used_32 : decode cX2_used 32 = .ok (.iload_n 1, 1) := dk_27 (dk_at dksX2_used_1 10 rfl rfl)
theorem dX2_used_33 : decode cX2_used 33 = .ok (.if_icmp .eq 120, 3) := dk_159 0 120 (dk_at dksX2_used_1 11 rfl rfl)
theorem dX2_used_36 : decode cX2_used 36 = .ok (.iload_n 1, 1) := dk_27 (dk_at dksX2_used_1 14 rfl rfl)
theorem dX2_used_37 : decode cX2_used 37 = .ok (.istore_n 2, 1) := dk_61 (dk_at dksX2_used_1 15 rfl rfl)
theorem dX2_used_38 : decode cX2_used 38 = .ok (.bipush 24, 2) := dk_16 24 (dk_at dksX2_used_1 16 rfl rfl)
theorem dX2_used_40 : decode cX2_used 40 = .ok (.aload_n 0, 1) := dk_42 (dk_at dksX2_used_1 18 rfl rfl)
theorem dX2_used_41 : decode cX2_used 41 = .ok (.getfield 233, 3) := dk_180 0 233 (dk_at dksX2_used_1 19 rfl rfl)
theorem dX2_used_44 : decode cX2_used 44 = .ok (.imul, 1) := dk_104 (dk_at dksX2_used_1 22 rfl rfl)
theorem dX2_used_45 : decode cX2_used 45 = .ok (.istore_n 3, 1) := dk_62 (dk_at dksX2_used_1 23 rfl rfl)
theorem dX2_used_46 : decode cX2_used 46 = .ok (.iload_n 3, 1) := dk_29 (dk_at dksX2_used_2 0 rfl rfl)
theorem dX2_used_47 : decode cX2_used 47 = .ok (.bipush 24, 2) := dk_16 24 (dk_at dksX2_used_2 1 rfl rfl)
theorem dX2_used_49 : decode cX2_used 49 = .ok (.aload_n 0, 1) := dk_42 (dk_at dksX2_used_2 3 rfl rfl)
theorem dX2_used_50 : decode cX2_used 50 = .ok (.getfield 233, 3) := dk_180 0 233 (dk_at dksX2_used_2 4 rfl rfl)
theorem dX2_used_53 : decode cX2_used 53 = .ok (.imul, 1) := dk_104 (dk_at dksX2_used_2 7 rfl rfl)
theorem dX2_used_54 : decode cX2_used 54 = .ok (.aload_n 0, 1) := dk_42 (dk_at dksX2_used_2 8 rfl rfl)
theorem dX2_used_55 : decode cX2_used 55 = .ok (.getfield 30, 3) := dk_180 0 30 (dk_at dksX2_used_2 9 rfl rfl)
theorem dX2_used_58 : decode cX2_used 58 = .ok (.aload_n 0, 1) := dk_42 (dk_at dksX2_used_2 12 rfl rfl)
theorem dX2_used_59 : decode cX2_used 59 = .ok (.getfield 233, 3) := dk_180 0 233 (dk_at dksX2_used_2 13 rfl rfl)
theorem dX2_used_62 : decode cX2_used 62 = .ok (.iaload, 1) := dk_46 (dk_at dksX2_used_2 16 rfl rfl)
theorem dX2_used_63 : decode cX2_used 63 = .ok (.iadd, 1) := dk_96 (dk_at dksX2_used_2 17 rfl rfl)
theorem dX2_used_64 : decode cX2_used 64 = .ok (.if_icmp .ge 86, 3) := dk_162 0 86 (dk_at dksX2_used_2 18 rfl rfl)
theorem dX2_used_67 : decode cX2_used 67 = .ok (.iload_n 1, 1) := dk_27 (dk_at dksX2_used_2 21 rfl rfl)
theorem dX2_used_68 : decode cX2_used 68 = .ok (.aload_n 0, 1) := dk_42 (dk_at dksX2_used_2 22 rfl rfl)
theorem dX2_used_69 : decode cX2_used 69 = .ok (.getfield 48, 3) := dk_180 0 48 (dk_at dksX2_used_3 0 rfl rfl)
theorem dX2_used_72 : decode cX2_used 72 = .ok (.iload_n 3, 1) := dk_29 (dk_at dksX2_used_3 3 rfl rfl)
theorem dX2_used_73 : decode cX2_used 73 = .ok (.iaload, 1) := dk_46 (dk_at dksX2_used_3 4 rfl rfl)
theorem dX2_used_74 : decode cX2_used 74 = .ok (.ishr, 1) := dk_122 (dk_at dksX2_used_3 5 rfl rfl)
theorem dX2_used_75 : decode cX2_used 75 = .ok (.iconst 1, 1) := dk_4 (dk_at dksX2_used_3 6 rfl rfl)
theorem dX2_used_76 : decode cX2_used 76 = .ok (.iand, 1) := dk_126 (dk_at dksX2_used_3 7 rfl rfl)
theorem dX2_used_77 : decode cX2_used 77 = .ok (.ifCond .eq 67, 3) := dk_153 0 67 (dk_at dksX2_used_3 8 rfl rfl)
theorem dX2_used_80 : decode cX2_used 80 = .ok (.aload_n 0, 1) := dk_42 (dk_at dksX2_used_3 11 rfl rfl)
theorem dX2_used_81 : decode cX2_used 81 = .ok (.iload_n 3, 1) := dk_29 (dk_at dksX2_used_3 12 rfl rfl)
theorem dX2_used_82 : decode cX2_used 82 = .ok (.invokevirtual 458, 3) := dk_182 1 202 (dk_at dksX2_used_3 13 rfl rfl)
theorem dX2_used_85 : decode cX2_used 85 = .ok (.ifCond .ne 6, 3) := dk_154 0 6 (dk_at dksX2_used_3 16 rfl rfl)
theorem dX2_used_88 : decode cX2_used 88 = .ok (.goto 56, 3) := dk_167 0 56 (dk_at dksX2_used_3 19 rfl rfl)
theorem dX2_used_91 : decode cX2_used 91 = .ok (.iconst 4, 1) := dk_7 (dk_at dksX2_used_3 22 rfl rfl)
theorem dX2_used_92 : decode cX2_used 92 = .ok (.iload_n 3, 1) := dk_29 (dk_at dksX2_used_3 23 rfl rfl)
theorem dX2_used_93 : decode cX2_used 93 = .ok (.imul, 1) := dk_104 (dk_at dksX2_used_4 0 rfl rfl)
theorem dX2_used_94 : decode cX2_used 94 = .ok (.istore 4, 2) := dk_54 4 (dk_at dksX2_used_4 1 rfl rfl)
theorem dX2_used_96 : decode cX2_used 96 = .ok (.iload 4, 2) := dk_21 4 (dk_at dksX2_used_4 3 rfl rfl)
theorem dX2_used_98 : decode cX2_used 98 = .ok (.iconst 4, 1) := dk_7 (dk_at dksX2_used_4 5 rfl rfl)
theorem dX2_used_99 : decode cX2_used 99 = .ok (.iload_n 3, 1) := dk_29 (dk_at dksX2_used_4 6 rfl rfl)
theorem dX2_used_100 : decode cX2_used 100 = .ok (.imul, 1) := dk_104 (dk_at dksX2_used_4 7 rfl rfl)
theorem dX2_used_101 : decode cX2_used 101 = .ok (.aload_n 0, 1) := dk_42 (dk_at dksX2_used_4 8 rfl rfl)
theorem dX2_used_102 : decode cX2_used 102 = .ok (.getfield 51, 3) := dk_180 0 51 (dk_at dksX2_used_4 9 rfl rfl)
theorem dX2_used_105 : decode cX2_used 105 = .ok (.iload_n 3, 1) := dk_29 (dk_at dksX2_used_4 12 rfl rfl)
theorem dX2_used_106 : decode cX2_used 106 = .ok (.iaload, 1) := dk_46 (dk_at dksX2_used_4 13 rfl rfl)
theorem dX2_used_107 : decode cX2_used 107 = .ok (.iadd, 1) := dk_96 (dk_at dksX2_used_4 14 rfl rfl)
theorem dX2_used_108 : decode cX2_used 108 = .ok (.if_icmp .ge 36, 3) := dk_162 0 36 (dk_at dksX2_used_4 15 rfl rfl)
theorem dX2_used_111 : decode cX2_used 111 = .ok (.aload_n 0, 1) := dk_42 (dk_at dksX2_used_4 18 rfl rfl)
theorem dX2_used_112 : decode cX2_used 112 = .ok (.getfield 54, 3) := dk_180 0 54 (dk_at dksX2_used_4 19 rfl rfl)
theorem dX2_used_115 : decode cX2_used 115 = .ok (.iload 4, 2) := dk_21 4 (dk_at dksX2_used_4 22 rfl rfl)
theorem dX2_used_117 : decode cX2_used 117 = .ok (.iaload, 1) := dk_46 (dk_at dksX2_used_5 0 rfl rfl)
theorem dX2_used_118 : decode cX2_used 118 = .ok (.bipush 8, 2) := dk_16 8 (dk_at dksX2_used_5 1 rfl rfl)
theorem dX2_used_120 : decode cX2_used 120 = .ok (.if_icmp .lt 18, 3) := dk_161 0 18 (dk_at dksX2_used_5 3 rfl rfl)
theorem dX2_used_123 : decode cX2_used 123 = .ok (.iload_n 1, 1) := dk_27 (dk_at dksX2_used_5 6 rfl rfl)
theorem dX2_used_124 : decode cX2_used 124 = .ok (.iconst 1, 1) := dk_4 (dk_at dksX2_used_5 7 rfl rfl)
theorem dX2_used_125 : decode cX2_used 125 = .ok (.aload_n 0, 1) := dk_42 (dk_at dksX2_used_5 8 rfl rfl)
theorem dX2_used_126 : decode cX2_used 126 = .ok (.getfield 54, 3) := dk_180 0 54 (dk_at dksX2_used_5 9 rfl rfl)
theorem dX2_used_129 : decode cX2_used 129 = .ok (.iload 4, 2) := dk_21 4 (dk_at dksX2_used_5 12 rfl rfl)
theorem dX2_used_131 : decode cX2_used 131 = .ok (.iaload, 1) := dk_46 (dk_at dksX2_used_5 14 rfl rfl)
theorem dX2_used_132 : decode cX2_used 132 = .ok (.bipush 8, 2) := dk_16 8 (dk_at dksX2_used_5 15 rfl rfl)
theorem dX2_used_134 : decode cX2_used 134 = .ok (.isub, 1) := dk_100 (dk_at dksX2_used_5 17 rfl rfl)
theorem dX2_used_135 : decode cX2_used 135 = .ok (.ishl, 1) := dk_120 (dk_at dksX2_used_5 18 rfl rfl)
theorem dX2_used_136 : decode cX2_used 136 = .ok (.ior, 1) := dk_128 (dk_at dksX2_used_5 19 rfl rfl)
theorem dX2_used_137 : decode cX2_used 137 = .ok (.istore_n 1, 1) := dk_60 (dk_at dksX2_used_5 20 rfl rfl)
theorem dX2_used_138 : decode cX2_used 138 = .ok (.iinc 4 1, 3) := dk_132 4 1 (dk_at dksX2_used_5 21 rfl rfl)
theorem dX2_used_141 : decode cX2_used 141 = .ok (.goto (-45), 3) := dk_167 255 211 (dk_at dksX2_used_6 0 rfl rfl)
theorem dX2_used_144 : decode cX2_used 144 = .ok (.iinc 3 1, 3) := dk_132 3 1 (dk_at dksX2_used_6 3 rfl rfl)
theorem dX2_used_147 : decode cX2_used 147 = .ok (.goto (-101), 3) := dk_167 255 155 (dk_at dksX2_used_6 6 rfl rfl)
theorem dX2_used_150 : decode cX2_used 150 = .ok (.goto (-119), 3) := dk_167 255 137 (dk_at dksX2_used_6 9 rfl rfl)
theorem dX2_used_153 : decode cX2_used 153 = .ok (.iload_n 1, 1) := dk_27 (dk_at dksX2_used_6 12 rfl rfl)
theorem dX2_used_154 : decode cX2_used 154 = .ok (.ireturn, 1) := dk_172 (dk_at dksX2_used_6 13 rfl rfl)
abbrev cX2_layShortest : ByteArray := prog_9_method_89_code
def yX2_layShortest : MethodName := ⟨RX2, "layShortest", "()V"⟩
def dkwX2_layShortest_5 : List UInt8 := [167, 255, 163, 177]
abbrev dktX2_layShortest_5 : List UInt8 := dkwX2_layShortest_5 ++ []
def dkwX2_layShortest_4 : List UInt8 := [163, 0, 6, 167, 0, 13, 42, 180, 0, 131, 21, 4, 29, 79, 4, 60, 132, 2, 1, 167, 255, 180]
abbrev dktX2_layShortest_4 : List UInt8 := dkwX2_layShortest_4 ++ dktX2_layShortest_5
def dkwX2_layShortest_3 : List UInt8 := [54, 4, 29, 153, 0, 37, 42, 180, 0, 131, 21, 4, 46, 158, 0, 17, 42, 180, 0, 131, 21, 4, 46, 29]
abbrev dktX2_layShortest_3 : List UInt8 := dkwX2_layShortest_3 ++ dktX2_layShortest_4
def dkwX2_layShortest_2 : List UInt8 := [180, 0, 30, 42, 180, 0, 233, 46, 96, 162, 0, 61, 42, 28, 182, 1, 202, 62, 42, 180, 0, 48, 28, 46]
abbrev dktX2_layShortest_2 : List UInt8 := dkwX2_layShortest_2 ++ dktX2_layShortest_3
def dkwX2_layShortest_1 : List UInt8 := [153, 0, 95, 3, 60, 16, 24, 42, 180, 0, 233, 104, 61, 28, 16, 24, 42, 180, 0, 233, 104, 42]
abbrev dktX2_layShortest_1 : List UInt8 := dkwX2_layShortest_1 ++ dktX2_layShortest_2
def dkwX2_layShortest_0 : List UInt8 := [3, 60, 27, 16, 8, 162, 0, 16, 42, 180, 0, 131, 27, 3, 79, 132, 1, 1, 167, 255, 240, 4, 60, 27]
abbrev dktX2_layShortest_0 : List UInt8 := dkwX2_layShortest_0 ++ dktX2_layShortest_1
theorem dksX2_layShortest_0 : cX2_layShortest.data.toList.drop 0 = dktX2_layShortest_0 := by decide +kernel
theorem dksX2_layShortest_1 : cX2_layShortest.data.toList.drop 24 = dktX2_layShortest_1 := dk_seg dksX2_layShortest_0 24 rfl rfl
theorem dksX2_layShortest_2 : cX2_layShortest.data.toList.drop 46 = dktX2_layShortest_2 := dk_seg dksX2_layShortest_1 22 rfl rfl
theorem dksX2_layShortest_3 : cX2_layShortest.data.toList.drop 70 = dktX2_layShortest_3 := dk_seg dksX2_layShortest_2 24 rfl rfl
theorem dksX2_layShortest_4 : cX2_layShortest.data.toList.drop 94 = dktX2_layShortest_4 := dk_seg dksX2_layShortest_3 24 rfl rfl
theorem dksX2_layShortest_5 : cX2_layShortest.data.toList.drop 116 = dktX2_layShortest_5 := dk_seg dksX2_layShortest_4 22 rfl rfl
theorem dX2_layShortest_0 : decode cX2_layShortest 0 = .ok (.iconst 0, 1) := dk_3 (dk_at dksX2_layShortest_0 0 rfl rfl)
theorem dX2_layShortest_1 : decode cX2_layShortest 1 = .ok (.istore_n 1, 1) := dk_60 (dk_at dksX2_layShortest_0 1 rfl rfl)
theorem dX2_layShortest_2 : decode cX2_layShortest 2 = .ok (.iload_n 1, 1) := dk_27 (dk_at dksX2_layShortest_0 2 rfl rfl)
theorem dX2_layShortest_3 : decode cX2_layShortest 3 = .ok (.bipush 8, 2) := dk_16 8 (dk_at dksX2_layShortest_0 3 rfl rfl)
theorem dX2_layShortest_5 : decode cX2_layShortest 5 = .ok (.if_icmp .ge 16, 3) := dk_162 0 16 (dk_at dksX2_layShortest_0 5 rfl rfl)
theorem dX2_layShortest_8 : decode cX2_layShortest 8 = .ok (.aload_n 0, 1) := dk_42 (dk_at dksX2_layShortest_0 8 rfl rfl)
theorem dX2_layShortest_9 : decode cX2_layShortest 9 = .ok (.getfield 131, 3) := dk_180 0 131 (dk_at dksX2_layShortest_0 9 rfl rfl)
theorem dX2_layShortest_12 : decode cX2_layShortest 12 = .ok (.iload_n 1, 1) := dk_27 (dk_at dksX2_layShortest_0 12 rfl rfl)
theorem dX2_layShortest_13 : decode cX2_layShortest 13 = .ok (.iconst 0, 1) := dk_3 (dk_at dksX2_layShortest_0 13 rfl rfl)
theorem dX2_layShortest_14 : decode cX2_layShortest 14 = .ok (.iastore, 1) := dk_79 (dk_at dksX2_layShortest_0 14 rfl rfl)
theorem dX2_layShortest_15 : decode cX2_layShortest 15 = .ok (.iinc 1 1, 3) := dk_132 1 1 (dk_at dksX2_layShortest_0 15 rfl rfl)
theorem dX2_layShortest_18 : decode cX2_layShortest 18 = .ok (.goto (-16), 3) := dk_167 255 240 (dk_at dksX2_layShortest_0 18 rfl rfl)
theorem dX2_layShortest_21 : decode cX2_layShortest 21 = .ok (.iconst 1, 1) := dk_4 (dk_at dksX2_layShortest_0 21 rfl rfl)
theorem dX2_layShortest_22 : decode cX2_layShortest 22 = .ok (.istore_n 1, 1) := dk_60 (dk_at dksX2_layShortest_0 22 rfl rfl)
theorem dX2_layShortest_23 : decode cX2_layShortest 23 = .ok (.iload_n 1, 1) := dk_27 (dk_at dksX2_layShortest_0 23 rfl rfl)
theorem dX2_layShortest_24 : decode cX2_layShortest 24 = .ok (.ifCond .eq 95, 3) := dk_153 0 95 (dk_at dksX2_layShortest_1 0 rfl rfl)
theorem dX2_layShortest_27 : decode cX2_layShortest 27 = .ok (.iconst 0, 1) := dk_3 (dk_at dksX2_layShortest_1 3 rfl rfl)
theorem dX2_layShortest_28 : decode cX2_layShortest 28 = .ok (.istore_n 1, 1) := dk_60 (dk_at dksX2_layShortest_1 4 rfl rfl)
theorem dX2_layShortest_29 : decode cX2_layShortest 29 = .ok (.bipush 24, 2) := dk_16 24 (dk_at dksX2_layShortest_1 5 rfl rfl)
theorem dX2_layShortest_31 : decode cX2_layShortest 31 = .ok (.aload_n 0, 1) := dk_42 (dk_at dksX2_layShortest_1 7 rfl rfl)
theorem dX2_layShortest_32 : decode cX2_layShortest 32 = .ok (.getfield 233, 3) := dk_180 0 233 (dk_at dksX2_layShortest_1 8 rfl rfl)
theorem dX2_layShortest_35 : decode cX2_layShortest 35 = .ok (.imul, 1) := dk_104 (dk_at dksX2_layShortest_1 11 rfl rfl)
theorem dX2_layShortest_36 : decode cX2_layShortest 36 = .ok (.istore_n 2, 1) := dk_61 (dk_at dksX2_layShortest_1 12 rfl rfl)
theorem dX2_layShortest_37 : decode cX2_layShortest 37 = .ok (.iload_n 2, 1) := dk_28 (dk_at dksX2_layShortest_1 13 rfl rfl)
theorem dX2_layShortest_38 : decode cX2_layShortest 38 = .ok (.bipush 24, 2) := dk_16 24 (dk_at dksX2_layShortest_1 14 rfl rfl)
theorem dX2_layShortest_40 : decode cX2_layShortest 40 = .ok (.aload_n 0, 1) := dk_42 (dk_at dksX2_layShortest_1 16 rfl rfl)
theorem dX2_layShortest_41 : decode cX2_layShortest 41 = .ok (.getfield 233, 3) := dk_180 0 233 (dk_at dksX2_layShortest_1 17 rfl rfl)
theorem dX2_layShortest_44 : decode cX2_layShortest 44 = .ok (.imul, 1) := dk_104 (dk_at dksX2_layShortest_1 20 rfl rfl)
theorem dX2_layShortest_45 : decode cX2_layShortest 45 = .ok (.aload_n 0, 1) := dk_42 (dk_at dksX2_layShortest_1 21 rfl rfl)
theorem dX2_layShortest_46 : decode cX2_layShortest 46 = .ok (.getfield 30, 3) := dk_180 0 30 (dk_at dksX2_layShortest_2 0 rfl rfl)
theorem dX2_layShortest_49 : decode cX2_layShortest 49 = .ok (.aload_n 0, 1) := dk_42 (dk_at dksX2_layShortest_2 3 rfl rfl)
theorem dX2_layShortest_50 : decode cX2_layShortest 50 = .ok (.getfield 233, 3) := dk_180 0 233 (dk_at dksX2_layShortest_2 4 rfl rfl)
theorem dX2_layShortest_53 : decode cX2_layShortest 53 = .ok (.iaload, 1) := dk_46 (dk_at dksX2_layShortest_2 7 rfl rfl)
theorem dX2_layShortest_54 : decode cX2_layShortest 54 = .ok (.iadd, 1) := dk_96 (dk_at dksX2_layShortest_2 8 rfl rfl)
theorem dX2_layShortest_55 : decode cX2_layShortest 55 = .ok (.if_icmp .ge 61, 3) := dk_162 0 61 (dk_at dksX2_layShortest_2 9 rfl rfl)
theorem dX2_layShortest_58 : decode cX2_layShortest 58 = .ok (.aload_n 0, 1) := dk_42 (dk_at dksX2_layShortest_2 12 rfl rfl)
theorem dX2_layShortest_59 : decode cX2_layShortest 59 = .ok (.iload_n 2, 1) := dk_28 (dk_at dksX2_layShortest_2 13 rfl rfl)
theorem dX2_layShortest_60 : decode cX2_layShortest 60 = .ok (.invokevirtual 458, 3) := dk_182 1 202 (dk_at dksX2_layShortest_2 14 rfl rfl)
theorem dX2_layShortest_63 : decode cX2_layShortest 63 = .ok (.istore_n 3, 1) := dk_62 (dk_at dksX2_layShortest_2 17 rfl rfl)
theorem dX2_layShortest_64 : decode cX2_layShortest 64 = .ok (.aload_n 0, 1) := dk_42 (dk_at dksX2_layShortest_2 18 rfl rfl)
theorem dX2_layShortest_65 : decode cX2_layShortest 65 = .ok (.getfield 48, 3) := dk_180 0 48 (dk_at dksX2_layShortest_2 19 rfl rfl)
theorem dX2_layShortest_68 : decode cX2_layShortest 68 = .ok (.iload_n 2, 1) := dk_28 (dk_at dksX2_layShortest_2 22 rfl rfl)
theorem dX2_layShortest_69 : decode cX2_layShortest 69 = .ok (.iaload, 1) := dk_46 (dk_at dksX2_layShortest_2 23 rfl rfl)
theorem dX2_layShortest_70 : decode cX2_layShortest 70 = .ok (.istore 4, 2) := dk_54 4 (dk_at dksX2_layShortest_3 0 rfl rfl)
theorem dX2_layShortest_72 : decode cX2_layShortest 72 = .ok (.iload_n 3, 1) := dk_29 (dk_at dksX2_layShortest_3 2 rfl rfl)
theorem dX2_layShortest_73 : decode cX2_layShortest 73 = .ok (.ifCond .eq 37, 3) := dk_153 0 37 (dk_at dksX2_layShortest_3 3 rfl rfl)
theorem dX2_layShortest_76 : decode cX2_layShortest 76 = .ok (.aload_n 0, 1) := dk_42 (dk_at dksX2_layShortest_3 6 rfl rfl)
theorem dX2_layShortest_77 : decode cX2_layShortest 77 = .ok (.getfield 131, 3) := dk_180 0 131 (dk_at dksX2_layShortest_3 7 rfl rfl)
theorem dX2_layShortest_80 : decode cX2_layShortest 80 = .ok (.iload 4, 2) := dk_21 4 (dk_at dksX2_layShortest_3 10 rfl rfl)
theorem dX2_layShortest_82 : decode cX2_layShortest 82 = .ok (.iaload, 1) := dk_46 (dk_at dksX2_layShortest_3 12 rfl rfl)
theorem dX2_layShortest_83 : decode cX2_layShortest 83 = .ok (.ifCond .le 17, 3) := dk_158 0 17 (dk_at dksX2_layShortest_3 13 rfl rfl)
theorem dX2_layShortest_86 : decode cX2_layShortest 86 = .ok (.aload_n 0, 1) := dk_42 (dk_at dksX2_layShortest_3 16 rfl rfl)
theorem dX2_layShortest_87 : decode cX2_layShortest 87 = .ok (.getfield 131, 3) := dk_180 0 131 (dk_at dksX2_layShortest_3 17 rfl rfl)
theorem dX2_layShortest_90 : decode cX2_layShortest 90 = .ok (.iload 4, 2) := dk_21 4 (dk_at dksX2_layShortest_3 20 rfl rfl)
theorem dX2_layShortest_92 : decode cX2_layShortest 92 = .ok (.iaload, 1) := dk_46 (dk_at dksX2_layShortest_3 22 rfl rfl)
theorem dX2_layShortest_93 : decode cX2_layShortest 93 = .ok (.iload_n 3, 1) := dk_29 (dk_at dksX2_layShortest_3 23 rfl rfl)
theorem dX2_layShortest_94 : decode cX2_layShortest 94 = .ok (.if_icmp .gt 6, 3) := dk_163 0 6 (dk_at dksX2_layShortest_4 0 rfl rfl)
theorem dX2_layShortest_97 : decode cX2_layShortest 97 = .ok (.goto 13, 3) := dk_167 0 13 (dk_at dksX2_layShortest_4 3 rfl rfl)
theorem dX2_layShortest_100 : decode cX2_layShortest 100 = .ok (.aload_n 0, 1) := dk_42 (dk_at dksX2_layShortest_4 6 rfl rfl)
theorem dX2_layShortest_101 : decode cX2_layShortest 101 = .ok (.getfield 131, 3) := dk_180 0 131 (dk_at dksX2_layShortest_4 7 rfl rfl)
theorem dX2_layShortest_104 : decode cX2_layShortest 104 = .ok (.iload 4, 2) := dk_21 4 (dk_at dksX2_layShortest_4 10 rfl rfl)
theorem dX2_layShortest_106 : decode cX2_layShortest 106 = .ok (.iload_n 3, 1) := dk_29 (dk_at dksX2_layShortest_4 12 rfl rfl)
theorem dX2_layShortest_107 : decode cX2_layShortest 107 = .ok (.iastore, 1) := dk_79 (dk_at dksX2_layShortest_4 13 rfl rfl)
theorem dX2_layShortest_108 : decode cX2_layShortest 108 = .ok (.iconst 1, 1) := dk_4 (dk_at dksX2_layShortest_4 14 rfl rfl)
theorem dX2_layShortest_109 : decode cX2_layShortest 109 = .ok (.istore_n 1, 1) := dk_60 (dk_at dksX2_layShortest_4 15 rfl rfl)
theorem dX2_layShortest_110 : decode cX2_layShortest 110 = .ok (.iinc 2 1, 3) := dk_132 2 1 (dk_at dksX2_layShortest_4 16 rfl rfl)
theorem dX2_layShortest_113 : decode cX2_layShortest 113 = .ok (.goto (-76), 3) := dk_167 255 180 (dk_at dksX2_layShortest_4 19 rfl rfl)
theorem dX2_layShortest_116 : decode cX2_layShortest 116 = .ok (.goto (-93), 3) := dk_167 255 163 (dk_at dksX2_layShortest_5 0 rfl rfl)
theorem dX2_layShortest_119 : decode cX2_layShortest 119 = .ok (.return_, 1) := dk_177 (dk_at dksX2_layShortest_5 3 rfl rfl)
abbrev cX2_sumOf : ByteArray := prog_9_method_90_code
def yX2_sumOf : MethodName := ⟨RX2, "sumOf", "(I)I"⟩
def dkwX2_sumOf_3 : List UInt8 := [19, 1, 205, 164, 0, 9, 19, 1, 205, 167, 0, 4, 28, 172]
abbrev dktX2_sumOf_3 : List UInt8 := dkwX2_sumOf_3 ++ []
def dkwX2_sumOf_2 : List UInt8 := [46, 54, 4, 21, 4, 154, 0, 5, 3, 172, 28, 21, 4, 96, 61, 132, 3, 1, 167, 255, 196, 28]
abbrev dktX2_sumOf_2 : List UInt8 := dkwX2_sumOf_2 ++ dktX2_sumOf_3
def dkwX2_sumOf_1 : List UInt8 := [29, 46, 16, 8, 162, 0, 7, 4, 167, 0, 17, 42, 180, 0, 131, 42, 180, 0, 54, 29, 46, 16, 8, 100]
abbrev dktX2_sumOf_1 : List UInt8 := dkwX2_sumOf_1 ++ dktX2_sumOf_2
def dkwX2_sumOf_0 : List UInt8 := [3, 61, 7, 27, 104, 62, 29, 7, 27, 104, 42, 180, 0, 51, 27, 46, 96, 162, 0, 52, 42, 180, 0, 54]
abbrev dktX2_sumOf_0 : List UInt8 := dkwX2_sumOf_0 ++ dktX2_sumOf_1
theorem dksX2_sumOf_0 : cX2_sumOf.data.toList.drop 0 = dktX2_sumOf_0 := by decide +kernel
theorem dksX2_sumOf_1 : cX2_sumOf.data.toList.drop 24 = dktX2_sumOf_1 := dk_seg dksX2_sumOf_0 24 rfl rfl
theorem dksX2_sumOf_2 : cX2_sumOf.data.toList.drop 48 = dktX2_sumOf_2 := dk_seg dksX2_sumOf_1 24 rfl rfl
theorem dksX2_sumOf_3 : cX2_sumOf.data.toList.drop 70 = dktX2_sumOf_3 := dk_seg dksX2_sumOf_2 22 rfl rfl
theorem dX2_sumOf_0 : decode cX2_sumOf 0 = .ok (.iconst 0, 1) := dk_3 (dk_at dksX2_sumOf_0 0 rfl rfl)
theorem dX2_sumOf_1 : decode cX2_sumOf 1 = .ok (.istore_n 2, 1) := dk_61 (dk_at dksX2_sumOf_0 1 rfl rfl)
theorem dX2_sumOf_2 : decode cX2_sumOf 2 = .ok (.iconst 4, 1) := dk_7 (dk_at dksX2_sumOf_0 2 rfl rfl)
theorem dX2_sumOf_3 : decode cX2_sumOf 3 = .ok (.iload_n 1, 1) := dk_27 (dk_at dksX2_sumOf_0 3 rfl rfl)
theorem dX2_sumOf_4 : decode cX2_sumOf 4 = .ok (.imul, 1) := dk_104 (dk_at dksX2_sumOf_0 4 rfl rfl)
theorem dX2_sumOf_5 : decode cX2_sumOf 5 = .ok (.istore_n 3, 1) := dk_62 (dk_at dksX2_sumOf_0 5 rfl rfl)
theorem dX2_sumOf_6 : decode cX2_sumOf 6 = .ok (.iload_n 3, 1) := dk_29 (dk_at dksX2_sumOf_0 6 rfl rfl)
theorem dX2_sumOf_7 : decode cX2_sumOf 7 = .ok (.iconst 4, 1) := dk_7 (dk_at dksX2_sumOf_0 7 rfl rfl)
theorem dX2_sumOf_8 : decode cX2_sumOf 8 = .ok (.iload_n 1, 1) := dk_27 (dk_at dksX2_sumOf_0 8 rfl rfl)
theorem dX2_sumOf_9 : decode cX2_sumOf 9 = .ok (.imul, 1) := dk_104 (dk_at dksX2_sumOf_0 9 rfl rfl)
theorem dX2_sumOf_10 : decode cX2_sumOf 10 = .ok (.aload_n 0, 1) := dk_42 (dk_at dksX2_sumOf_0 10 rfl rfl)
theorem dX2_sumOf_11 : decode cX2_sumOf 11 = .ok (.getfield 51, 3) := dk_180 0 51 (dk_at dksX2_sumOf_0 11 rfl rfl)
theorem dX2_sumOf_14 : decode cX2_sumOf 14 = .ok (.iload_n 1, 1) := dk_27 (dk_at dksX2_sumOf_0 14 rfl rfl)
theorem dX2_sumOf_15 : decode cX2_sumOf 15 = .ok (.iaload, 1) := dk_46 (dk_at dksX2_sumOf_0 15 rfl rfl)
theorem dX2_sumOf_16 : decode cX2_sumOf 16 = .ok (.iadd, 1) := dk_96 (dk_at dksX2_sumOf_0 16 rfl rfl)
theorem dX2_sumOf_17 : decode cX2_sumOf 17 = .ok (.if_icmp .ge 52, 3) := dk_162 0 52 (dk_at dksX2_sumOf_0 17 rfl rfl)
theorem dX2_sumOf_20 : decode cX2_sumOf 20 = .ok (.aload_n 0, 1) := dk_42 (dk_at dksX2_sumOf_0 20 rfl rfl)
theorem dX2_sumOf_21 : decode cX2_sumOf 21 = .ok (.getfield 54, 3) := dk_180 0 54 (dk_at dksX2_sumOf_0 21 rfl rfl)
theorem dX2_sumOf_24 : decode cX2_sumOf 24 = .ok (.iload_n 3, 1) := dk_29 (dk_at dksX2_sumOf_1 0 rfl rfl)
theorem dX2_sumOf_25 : decode cX2_sumOf 25 = .ok (.iaload, 1) := dk_46 (dk_at dksX2_sumOf_1 1 rfl rfl)
theorem dX2_sumOf_26 : decode cX2_sumOf 26 = .ok (.bipush 8, 2) := dk_16 8 (dk_at dksX2_sumOf_1 2 rfl rfl)
theorem dX2_sumOf_28 : decode cX2_sumOf 28 = .ok (.if_icmp .ge 7, 3) := dk_162 0 7 (dk_at dksX2_sumOf_1 4 rfl rfl)
theorem dX2_sumOf_31 : decode cX2_sumOf 31 = .ok (.iconst 1, 1) := dk_4 (dk_at dksX2_sumOf_1 7 rfl rfl)
theorem dX2_sumOf_32 : decode cX2_sumOf 32 = .ok (.goto 17, 3) := dk_167 0 17 (dk_at dksX2_sumOf_1 8 rfl rfl)
theorem dX2_sumOf_35 : decode cX2_sumOf 35 = .ok (.aload_n 0, 1) := dk_42 (dk_at dksX2_sumOf_1 11 rfl rfl)
theorem dX2_sumOf_36 : decode cX2_sumOf 36 = .ok (.getfield 131, 3) := dk_180 0 131 (dk_at dksX2_sumOf_1 12 rfl rfl)
theorem dX2_sumOf_39 : decode cX2_sumOf 39 = .ok (.aload_n 0, 1) := dk_42 (dk_at dksX2_sumOf_1 15 rfl rfl)
theorem dX2_sumOf_40 : decode cX2_sumOf 40 = .ok (.getfield 54, 3) := dk_180 0 54 (dk_at dksX2_sumOf_1 16 rfl rfl)
theorem dX2_sumOf_43 : decode cX2_sumOf 43 = .ok (.iload_n 3, 1) := dk_29 (dk_at dksX2_sumOf_1 19 rfl rfl)
theorem dX2_sumOf_44 : decode cX2_sumOf 44 = .ok (.iaload, 1) := dk_46 (dk_at dksX2_sumOf_1 20 rfl rfl)
theorem dX2_sumOf_45 : decode cX2_sumOf 45 = .ok (.bipush 8, 2) := dk_16 8 (dk_at dksX2_sumOf_1 21 rfl rfl)
theorem dX2_sumOf_47 : decode cX2_sumOf 47 = .ok (.isub, 1) := dk_100 (dk_at dksX2_sumOf_1 23 rfl rfl)
theorem dX2_sumOf_48 : decode cX2_sumOf 48 = .ok (.iaload, 1) := dk_46 (dk_at dksX2_sumOf_2 0 rfl rfl)
theorem dX2_sumOf_49 : decode cX2_sumOf 49 = .ok (.istore 4, 2) := dk_54 4 (dk_at dksX2_sumOf_2 1 rfl rfl)
theorem dX2_sumOf_51 : decode cX2_sumOf 51 = .ok (.iload 4, 2) := dk_21 4 (dk_at dksX2_sumOf_2 3 rfl rfl)
theorem dX2_sumOf_53 : decode cX2_sumOf 53 = .ok (.ifCond .ne 5, 3) := dk_154 0 5 (dk_at dksX2_sumOf_2 5 rfl rfl)
theorem dX2_sumOf_56 : decode cX2_sumOf 56 = .ok (.iconst 0, 1) := dk_3 (dk_at dksX2_sumOf_2 8 rfl rfl)
theorem dX2_sumOf_57 : decode cX2_sumOf 57 = .ok (.ireturn, 1) := dk_172 (dk_at dksX2_sumOf_2 9 rfl rfl)
theorem dX2_sumOf_58 : decode cX2_sumOf 58 = .ok (.iload_n 2, 1) := dk_28 (dk_at dksX2_sumOf_2 10 rfl rfl)
theorem dX2_sumOf_59 : decode cX2_sumOf 59 = .ok (.iload 4, 2) := dk_21 4 (dk_at dksX2_sumOf_2 11 rfl rfl)
theorem dX2_sumOf_61 : decode cX2_sumOf 61 = .ok (.iadd, 1) := dk_96 (dk_at dksX2_sumOf_2 13 rfl rfl)
theorem dX2_sumOf_62 : decode cX2_sumOf 62 = .ok (.istore_n 2, 1) := dk_61 (dk_at dksX2_sumOf_2 14 rfl rfl)
theorem dX2_sumOf_63 : decode cX2_sumOf 63 = .ok (.iinc 3 1, 3) := dk_132 3 1 (dk_at dksX2_sumOf_2 15 rfl rfl)
theorem dX2_sumOf_66 : decode cX2_sumOf 66 = .ok (.goto (-60), 3) := dk_167 255 196 (dk_at dksX2_sumOf_2 18 rfl rfl)
theorem dX2_sumOf_69 : decode cX2_sumOf 69 = .ok (.iload_n 2, 1) := dk_28 (dk_at dksX2_sumOf_2 21 rfl rfl)
theorem dX2_sumOf_70 : decode cX2_sumOf 70 = .ok (.ldc_w 461, 3) := dk_19 1 205 (dk_at dksX2_sumOf_3 0 rfl rfl)
theorem dX2_sumOf_73 : decode cX2_sumOf 73 = .ok (.if_icmp .le 9, 3) := dk_164 0 9 (dk_at dksX2_sumOf_3 3 rfl rfl)
theorem dX2_sumOf_76 : decode cX2_sumOf 76 = .ok (.ldc_w 461, 3) := dk_19 1 205 (dk_at dksX2_sumOf_3 6 rfl rfl)
theorem dX2_sumOf_79 : decode cX2_sumOf 79 = .ok (.goto 4, 3) := dk_167 0 4 (dk_at dksX2_sumOf_3 9 rfl rfl)
theorem dX2_sumOf_82 : decode cX2_sumOf 82 = .ok (.iload_n 2, 1) := dk_28 (dk_at dksX2_sumOf_3 12 rfl rfl)
theorem dX2_sumOf_83 : decode cX2_sumOf 83 = .ok (.ireturn, 1) := dk_172 (dk_at dksX2_sumOf_3 13 rfl rfl)
abbrev cX2_shortest : ByteArray := prog_9_method_92_code
def yX2_shortest : MethodName := ⟨RX2, "shortest", "(I)I"⟩
def dkwX2_shortest_1 : List UInt8 := [182, 1, 206, 42, 180, 0, 131, 27, 46, 172]
abbrev dktX2_shortest_1 : List UInt8 := dkwX2_shortest_1 ++ []
def dkwX2_shortest_0 : List UInt8 := [27, 3, 42, 180, 0, 27, 42, 180, 0, 233, 46, 4, 100, 184, 1, 42, 154, 0, 5, 2, 172, 42]
abbrev dktX2_shortest_0 : List UInt8 := dkwX2_shortest_0 ++ dktX2_shortest_1
theorem dksX2_shortest_0 : cX2_shortest.data.toList.drop 0 = dktX2_shortest_0 := by decide +kernel
theorem dksX2_shortest_1 : cX2_shortest.data.toList.drop 22 = dktX2_shortest_1 := dk_seg dksX2_shortest_0 22 rfl rfl
theorem dX2_shortest_0 : decode cX2_shortest 0 = .ok (.iload_n 1, 1) := dk_27 (dk_at dksX2_shortest_0 0 rfl rfl)
theorem dX2_shortest_1 : decode cX2_shortest 1 = .ok (.iconst 0, 1) := dk_3 (dk_at dksX2_shortest_0 1 rfl rfl)
theorem dX2_shortest_2 : decode cX2_shortest 2 = .ok (.aload_n 0, 1) := dk_42 (dk_at dksX2_shortest_0 2 rfl rfl)
theorem dX2_shortest_3 : decode cX2_shortest 3 = .ok (.getfield 27, 3) := dk_180 0 27 (dk_at dksX2_shortest_0 3 rfl rfl)
theorem dX2_shortest_6 : decode cX2_shortest 6 = .ok (.aload_n 0, 1) := dk_42 (dk_at dksX2_shortest_0 6 rfl rfl)
theorem dX2_shortest_7 : decode cX2_shortest 7 = .ok (.getfield 233, 3) := dk_180 0 233 (dk_at dksX2_shortest_0 7 rfl rfl)
theorem dX2_shortest_10 : decode cX2_shortest 10 = .ok (.iaload, 1) := dk_46 (dk_at dksX2_shortest_0 10 rfl rfl)
theorem dX2_shortest_11 : decode cX2_shortest 11 = .ok (.iconst 1, 1) := dk_4 (dk_at dksX2_shortest_0 11 rfl rfl)
theorem dX2_shortest_12 : decode cX2_shortest 12 = .ok (.isub, 1) := dk_100 (dk_at dksX2_shortest_0 12 rfl rfl)
theorem dX2_shortest_13 : decode cX2_shortest 13 = .ok (.invokestatic 298, 3) := dk_184 1 42 (dk_at dksX2_shortest_0 13 rfl rfl)
theorem dX2_shortest_16 : decode cX2_shortest 16 = .ok (.ifCond .ne 5, 3) := dk_154 0 5 (dk_at dksX2_shortest_0 16 rfl rfl)
theorem dX2_shortest_19 : decode cX2_shortest 19 = .ok (.iconst (-1), 1) := dk_2 (dk_at dksX2_shortest_0 19 rfl rfl)
theorem dX2_shortest_20 : decode cX2_shortest 20 = .ok (.ireturn, 1) := dk_172 (dk_at dksX2_shortest_0 20 rfl rfl)
theorem dX2_shortest_21 : decode cX2_shortest 21 = .ok (.aload_n 0, 1) := dk_42 (dk_at dksX2_shortest_0 21 rfl rfl)
theorem dX2_shortest_22 : decode cX2_shortest 22 = .ok (.invokevirtual 462, 3) := dk_182 1 206 (dk_at dksX2_shortest_1 0 rfl rfl)
theorem dX2_shortest_25 : decode cX2_shortest 25 = .ok (.aload_n 0, 1) := dk_42 (dk_at dksX2_shortest_1 3 rfl rfl)
theorem dX2_shortest_26 : decode cX2_shortest 26 = .ok (.getfield 131, 3) := dk_180 0 131 (dk_at dksX2_shortest_1 4 rfl rfl)
theorem dX2_shortest_29 : decode cX2_shortest 29 = .ok (.iload_n 1, 1) := dk_27 (dk_at dksX2_shortest_1 7 rfl rfl)
theorem dX2_shortest_30 : decode cX2_shortest 30 = .ok (.iaload, 1) := dk_46 (dk_at dksX2_shortest_1 8 rfl rfl)
theorem dX2_shortest_31 : decode cX2_shortest 31 = .ok (.ireturn, 1) := dk_172 (dk_at dksX2_shortest_1 9 rfl rfl)
abbrev cX2_doubtful : ByteArray := prog_9_method_93_code
def yX2_doubtful : MethodName := ⟨RX2, "doubtful", "()I"⟩
def dkwX2_doubtful_3 : List UInt8 := [3, 172]
abbrev dktX2_doubtful_3 : List UInt8 := dkwX2_doubtful_3 ++ []
def dkwX2_doubtful_2 : List UInt8 := [20, 1, 212, 148, 156, 0, 6, 167, 0, 11, 42, 27, 182, 1, 187, 32, 136, 172, 132, 1, 1, 167, 255, 207]
abbrev dktX2_doubtful_2 : List UInt8 := dkwX2_doubtful_2 ++ dktX2_doubtful_3
def dkwX2_doubtful_1 : List UInt8 := [162, 0, 47, 42, 42, 180, 0, 107, 27, 46, 182, 1, 209, 42, 42, 182, 1, 46, 182, 1, 107, 65, 32]
abbrev dktX2_doubtful_1 : List UInt8 := dkwX2_doubtful_1 ++ dktX2_doubtful_2
def dkwX2_doubtful_0 : List UInt8 := [42, 3, 181, 0, 248, 42, 182, 1, 196, 154, 0, 6, 16, 254, 172, 3, 60, 27, 42, 180, 1, 134]
abbrev dktX2_doubtful_0 : List UInt8 := dkwX2_doubtful_0 ++ dktX2_doubtful_1
theorem dksX2_doubtful_0 : cX2_doubtful.data.toList.drop 0 = dktX2_doubtful_0 := by decide +kernel
theorem dksX2_doubtful_1 : cX2_doubtful.data.toList.drop 22 = dktX2_doubtful_1 := dk_seg dksX2_doubtful_0 22 rfl rfl
theorem dksX2_doubtful_2 : cX2_doubtful.data.toList.drop 45 = dktX2_doubtful_2 := dk_seg dksX2_doubtful_1 23 rfl rfl
theorem dksX2_doubtful_3 : cX2_doubtful.data.toList.drop 69 = dktX2_doubtful_3 := dk_seg dksX2_doubtful_2 24 rfl rfl
theorem dX2_doubtful_0 : decode cX2_doubtful 0 = .ok (.aload_n 0, 1) := dk_42 (dk_at dksX2_doubtful_0 0 rfl rfl)
theorem dX2_doubtful_1 : decode cX2_doubtful 1 = .ok (.iconst 0, 1) := dk_3 (dk_at dksX2_doubtful_0 1 rfl rfl)
theorem dX2_doubtful_2 : decode cX2_doubtful 2 = .ok (.putfield 248, 3) := dk_181 0 248 (dk_at dksX2_doubtful_0 2 rfl rfl)
theorem dX2_doubtful_5 : decode cX2_doubtful 5 = .ok (.aload_n 0, 1) := dk_42 (dk_at dksX2_doubtful_0 5 rfl rfl)
theorem dX2_doubtful_6 : decode cX2_doubtful 6 = .ok (.invokevirtual 452, 3) := dk_182 1 196 (dk_at dksX2_doubtful_0 6 rfl rfl)
theorem dX2_doubtful_9 : decode cX2_doubtful 9 = .ok (.ifCond .ne 6, 3) := dk_154 0 6 (dk_at dksX2_doubtful_0 9 rfl rfl)
theorem dX2_doubtful_12 : decode cX2_doubtful 12 = .ok (.bipush (-2), 2) := dk_16 254 (dk_at dksX2_doubtful_0 12 rfl rfl)
theorem dX2_doubtful_14 : decode cX2_doubtful 14 = .ok (.ireturn, 1) := dk_172 (dk_at dksX2_doubtful_0 14 rfl rfl)
theorem dX2_doubtful_15 : decode cX2_doubtful 15 = .ok (.iconst 0, 1) := dk_3 (dk_at dksX2_doubtful_0 15 rfl rfl)
theorem dX2_doubtful_16 : decode cX2_doubtful 16 = .ok (.istore_n 1, 1) := dk_60 (dk_at dksX2_doubtful_0 16 rfl rfl)
theorem dX2_doubtful_17 : decode cX2_doubtful 17 = .ok (.iload_n 1, 1) := dk_27 (dk_at dksX2_doubtful_0 17 rfl rfl)
theorem dX2_doubtful_18 : decode cX2_doubtful 18 = .ok (.aload_n 0, 1) := dk_42 (dk_at dksX2_doubtful_0 18 rfl rfl)
theorem dX2_doubtful_19 : decode cX2_doubtful 19 = .ok (.getfield 390, 3) := dk_180 1 134 (dk_at dksX2_doubtful_0 19 rfl rfl)
theorem dX2_doubtful_22 : decode cX2_doubtful 22 = .ok (.if_icmp .ge 47, 3) := dk_162 0 47 (dk_at dksX2_doubtful_1 0 rfl rfl)
theorem dX2_doubtful_25 : decode cX2_doubtful 25 = .ok (.aload_n 0, 1) := dk_42 (dk_at dksX2_doubtful_1 3 rfl rfl)
theorem dX2_doubtful_26 : decode cX2_doubtful 26 = .ok (.aload_n 0, 1) := dk_42 (dk_at dksX2_doubtful_1 4 rfl rfl)
theorem dX2_doubtful_27 : decode cX2_doubtful 27 = .ok (.getfield 107, 3) := dk_180 0 107 (dk_at dksX2_doubtful_1 5 rfl rfl)
theorem dX2_doubtful_30 : decode cX2_doubtful 30 = .ok (.iload_n 1, 1) := dk_27 (dk_at dksX2_doubtful_1 8 rfl rfl)
theorem dX2_doubtful_31 : decode cX2_doubtful 31 = .ok (.iaload, 1) := dk_46 (dk_at dksX2_doubtful_1 9 rfl rfl)
theorem dX2_doubtful_32 : decode cX2_doubtful 32 = .ok (.invokevirtual 465, 3) := dk_182 1 209 (dk_at dksX2_doubtful_1 10 rfl rfl)
theorem dX2_doubtful_35 : decode cX2_doubtful 35 = .ok (.aload_n 0, 1) := dk_42 (dk_at dksX2_doubtful_1 13 rfl rfl)
theorem dX2_doubtful_36 : decode cX2_doubtful 36 = .ok (.aload_n 0, 1) := dk_42 (dk_at dksX2_doubtful_1 14 rfl rfl)
theorem dX2_doubtful_37 : decode cX2_doubtful 37 = .ok (.invokevirtual 302, 3) := dk_182 1 46 (dk_at dksX2_doubtful_1 15 rfl rfl)
theorem dX2_doubtful_40 : decode cX2_doubtful 40 = .ok (.invokevirtual 363, 3) := dk_182 1 107 (dk_at dksX2_doubtful_1 18 rfl rfl)
theorem dX2_doubtful_43 : decode cX2_doubtful 43 = .ok (.lstore_n 2, 1) := dk_65 (dk_at dksX2_doubtful_1 21 rfl rfl)
theorem dX2_doubtful_44 : decode cX2_doubtful 44 = .ok (.lload_n 2, 1) := dk_32 (dk_at dksX2_doubtful_1 22 rfl rfl)
theorem dX2_doubtful_45 : decode cX2_doubtful 45 = .ok (.ldc2_w 468, 3) := dk_20 1 212 (dk_at dksX2_doubtful_2 0 rfl rfl)
theorem dX2_doubtful_48 : decode cX2_doubtful 48 = .ok (.lcmp, 1) := dk_148 (dk_at dksX2_doubtful_2 3 rfl rfl)
theorem dX2_doubtful_49 : decode cX2_doubtful 49 = .ok (.ifCond .ge 6, 3) := dk_156 0 6 (dk_at dksX2_doubtful_2 4 rfl rfl)
theorem dX2_doubtful_52 : decode cX2_doubtful 52 = .ok (.goto 11, 3) := dk_167 0 11 (dk_at dksX2_doubtful_2 7 rfl rfl)
theorem dX2_doubtful_55 : decode cX2_doubtful 55 = .ok (.aload_n 0, 1) := dk_42 (dk_at dksX2_doubtful_2 10 rfl rfl)
theorem dX2_doubtful_56 : decode cX2_doubtful 56 = .ok (.iload_n 1, 1) := dk_27 (dk_at dksX2_doubtful_2 11 rfl rfl)
theorem dX2_doubtful_57 : decode cX2_doubtful 57 = .ok (.invokevirtual 443, 3) := dk_182 1 187 (dk_at dksX2_doubtful_2 12 rfl rfl)
theorem dX2_doubtful_60 : decode cX2_doubtful 60 = .ok (.lload_n 2, 1) := dk_32 (dk_at dksX2_doubtful_2 15 rfl rfl)
theorem dX2_doubtful_61 : decode cX2_doubtful 61 = .ok (.l2i, 1) := dk_136 (dk_at dksX2_doubtful_2 16 rfl rfl)
theorem dX2_doubtful_62 : decode cX2_doubtful 62 = .ok (.ireturn, 1) := dk_172 (dk_at dksX2_doubtful_2 17 rfl rfl)
theorem dX2_doubtful_63 : decode cX2_doubtful 63 = .ok (.iinc 1 1, 3) := dk_132 1 1 (dk_at dksX2_doubtful_2 18 rfl rfl)
theorem dX2_doubtful_66 : decode cX2_doubtful 66 = .ok (.goto (-49), 3) := dk_167 255 207 (dk_at dksX2_doubtful_2 21 rfl rfl)
theorem dX2_doubtful_69 : decode cX2_doubtful 69 = .ok (.iconst 0, 1) := dk_3 (dk_at dksX2_doubtful_3 0 rfl rfl)
theorem dX2_doubtful_70 : decode cX2_doubtful 70 = .ok (.ireturn, 1) := dk_172 (dk_at dksX2_doubtful_3 1 rfl rfl)
abbrev cX2_unpack : ByteArray := prog_9_method_65_code
def yX2_unpack : MethodName := ⟨RX2, "unpack", "(I)V"⟩
def dkwX2_unpack_1 : List UInt8 := [132, 2, 1, 167, 255, 233, 177]
abbrev dktX2_unpack_1 : List UInt8 := dkwX2_unpack_1 ++ []
def dkwX2_unpack_0 : List UInt8 := [3, 61, 28, 42, 182, 1, 46, 162, 0, 21, 42, 180, 0, 77, 28, 42, 27, 28, 182, 1, 124, 79]
abbrev dktX2_unpack_0 : List UInt8 := dkwX2_unpack_0 ++ dktX2_unpack_1
theorem dksX2_unpack_0 : cX2_unpack.data.toList.drop 0 = dktX2_unpack_0 := by decide +kernel
theorem dksX2_unpack_1 : cX2_unpack.data.toList.drop 22 = dktX2_unpack_1 := dk_seg dksX2_unpack_0 22 rfl rfl
theorem dX2_unpack_0 : decode cX2_unpack 0 = .ok (.iconst 0, 1) := dk_3 (dk_at dksX2_unpack_0 0 rfl rfl)
theorem dX2_unpack_1 : decode cX2_unpack 1 = .ok (.istore_n 2, 1) := dk_61 (dk_at dksX2_unpack_0 1 rfl rfl)
theorem dX2_unpack_2 : decode cX2_unpack 2 = .ok (.iload_n 2, 1) := dk_28 (dk_at dksX2_unpack_0 2 rfl rfl)
theorem dX2_unpack_3 : decode cX2_unpack 3 = .ok (.aload_n 0, 1) := dk_42 (dk_at dksX2_unpack_0 3 rfl rfl)
theorem dX2_unpack_4 : decode cX2_unpack 4 = .ok (.invokevirtual 302, 3) := dk_182 1 46 (dk_at dksX2_unpack_0 4 rfl rfl)
theorem dX2_unpack_7 : decode cX2_unpack 7 = .ok (.if_icmp .ge 21, 3) := dk_162 0 21 (dk_at dksX2_unpack_0 7 rfl rfl)
theorem dX2_unpack_10 : decode cX2_unpack 10 = .ok (.aload_n 0, 1) := dk_42 (dk_at dksX2_unpack_0 10 rfl rfl)
theorem dX2_unpack_11 : decode cX2_unpack 11 = .ok (.getfield 77, 3) := dk_180 0 77 (dk_at dksX2_unpack_0 11 rfl rfl)
theorem dX2_unpack_14 : decode cX2_unpack 14 = .ok (.iload_n 2, 1) := dk_28 (dk_at dksX2_unpack_0 14 rfl rfl)
theorem dX2_unpack_15 : decode cX2_unpack 15 = .ok (.aload_n 0, 1) := dk_42 (dk_at dksX2_unpack_0 15 rfl rfl)
theorem dX2_unpack_16 : decode cX2_unpack 16 = .ok (.iload_n 1, 1) := dk_27 (dk_at dksX2_unpack_0 16 rfl rfl)
theorem dX2_unpack_17 : decode cX2_unpack 17 = .ok (.iload_n 2, 1) := dk_28 (dk_at dksX2_unpack_0 17 rfl rfl)
theorem dX2_unpack_18 : decode cX2_unpack 18 = .ok (.invokevirtual 380, 3) := dk_182 1 124 (dk_at dksX2_unpack_0 18 rfl rfl)
theorem dX2_unpack_21 : decode cX2_unpack 21 = .ok (.iastore, 1) := dk_79 (dk_at dksX2_unpack_0 21 rfl rfl)
theorem dX2_unpack_22 : decode cX2_unpack 22 = .ok (.iinc 2 1, 3) := dk_132 2 1 (dk_at dksX2_unpack_1 0 rfl rfl)
theorem dX2_unpack_25 : decode cX2_unpack 25 = .ok (.goto (-23), 3) := dk_167 255 233 (dk_at dksX2_unpack_1 3 rfl rfl)
theorem dX2_unpack_28 : decode cX2_unpack 28 = .ok (.return_, 1) := dk_177 (dk_at dksX2_unpack_1 6 rfl rfl)
abbrev cX2_hole : ByteArray := prog_9_method_94_code
def yX2_hole : MethodName := ⟨RX2, "hole", "(II)Z"⟩
def dkwX2_hole_1 : List UInt8 := [180, 0, 98, 27, 28, 79, 4, 172]
abbrev dktX2_hole_1 : List UInt8 := dkwX2_hole_1 ++ []
def dkwX2_hole_0 : List UInt8 := [42, 27, 182, 1, 101, 153, 0, 16, 28, 2, 159, 0, 13, 42, 28, 182, 1, 49, 154, 0, 5, 3, 172, 42]
abbrev dktX2_hole_0 : List UInt8 := dkwX2_hole_0 ++ dktX2_hole_1
theorem dksX2_hole_0 : cX2_hole.data.toList.drop 0 = dktX2_hole_0 := by decide +kernel
theorem dksX2_hole_1 : cX2_hole.data.toList.drop 24 = dktX2_hole_1 := dk_seg dksX2_hole_0 24 rfl rfl
theorem dX2_hole_0 : decode cX2_hole 0 = .ok (.aload_n 0, 1) := dk_42 (dk_at dksX2_hole_0 0 rfl rfl)
theorem dX2_hole_1 : decode cX2_hole 1 = .ok (.iload_n 1, 1) := dk_27 (dk_at dksX2_hole_0 1 rfl rfl)
theorem dX2_hole_2 : decode cX2_hole 2 = .ok (.invokevirtual 357, 3) := dk_182 1 101 (dk_at dksX2_hole_0 2 rfl rfl)
theorem dX2_hole_5 : decode cX2_hole 5 = .ok (.ifCond .eq 16, 3) := dk_153 0 16 (dk_at dksX2_hole_0 5 rfl rfl)
theorem dX2_hole_8 : decode cX2_hole 8 = .ok (.iload_n 2, 1) := dk_28 (dk_at dksX2_hole_0 8 rfl rfl)
theorem dX2_hole_9 : decode cX2_hole 9 = .ok (.iconst (-1), 1) := dk_2 (dk_at dksX2_hole_0 9 rfl rfl)
theorem dX2_hole_10 : decode cX2_hole 10 = .ok (.if_icmp .eq 13, 3) := dk_159 0 13 (dk_at dksX2_hole_0 10 rfl rfl)
theorem dX2_hole_13 : decode cX2_hole 13 = .ok (.aload_n 0, 1) := dk_42 (dk_at dksX2_hole_0 13 rfl rfl)
theorem dX2_hole_14 : decode cX2_hole 14 = .ok (.iload_n 2, 1) := dk_28 (dk_at dksX2_hole_0 14 rfl rfl)
theorem dX2_hole_15 : decode cX2_hole 15 = .ok (.invokevirtual 305, 3) := dk_182 1 49 (dk_at dksX2_hole_0 15 rfl rfl)
theorem dX2_hole_18 : decode cX2_hole 18 = .ok (.ifCond .ne 5, 3) := dk_154 0 5 (dk_at dksX2_hole_0 18 rfl rfl)
theorem dX2_hole_21 : decode cX2_hole 21 = .ok (.iconst 0, 1) := dk_3 (dk_at dksX2_hole_0 21 rfl rfl)
theorem dX2_hole_22 : decode cX2_hole 22 = .ok (.ireturn, 1) := dk_172 (dk_at dksX2_hole_0 22 rfl rfl)
theorem dX2_hole_23 : decode cX2_hole 23 = .ok (.aload_n 0, 1) := dk_42 (dk_at dksX2_hole_0 23 rfl rfl)
theorem dX2_hole_24 : decode cX2_hole 24 = .ok (.getfield 98, 3) := dk_180 0 98 (dk_at dksX2_hole_1 0 rfl rfl)
theorem dX2_hole_27 : decode cX2_hole 27 = .ok (.iload_n 1, 1) := dk_27 (dk_at dksX2_hole_1 3 rfl rfl)
theorem dX2_hole_28 : decode cX2_hole 28 = .ok (.iload_n 2, 1) := dk_28 (dk_at dksX2_hole_1 4 rfl rfl)
theorem dX2_hole_29 : decode cX2_hole 29 = .ok (.iastore, 1) := dk_79 (dk_at dksX2_hole_1 5 rfl rfl)
theorem dX2_hole_30 : decode cX2_hole 30 = .ok (.iconst 1, 1) := dk_4 (dk_at dksX2_hole_1 6 rfl rfl)
theorem dX2_hole_31 : decode cX2_hole 31 = .ok (.ireturn, 1) := dk_172 (dk_at dksX2_hole_1 7 rfl rfl)
abbrev cX2_fit : ByteArray := prog_9_method_95_code
def yX2_fit : MethodName := ⟨RX2, "fit", "()I"⟩
def dkwX2_fit_0 : List UInt8 := [42, 3, 4, 182, 1, 149, 153, 0, 10, 42, 180, 1, 134, 167, 0, 5, 16, 254, 172]
abbrev dktX2_fit_0 : List UInt8 := dkwX2_fit_0 ++ []
theorem dksX2_fit_0 : cX2_fit.data.toList.drop 0 = dktX2_fit_0 := by decide +kernel
theorem dX2_fit_0 : decode cX2_fit 0 = .ok (.aload_n 0, 1) := dk_42 (dk_at dksX2_fit_0 0 rfl rfl)
theorem dX2_fit_1 : decode cX2_fit 1 = .ok (.iconst 0, 1) := dk_3 (dk_at dksX2_fit_0 1 rfl rfl)
theorem dX2_fit_2 : decode cX2_fit 2 = .ok (.iconst 1, 1) := dk_4 (dk_at dksX2_fit_0 2 rfl rfl)
theorem dX2_fit_3 : decode cX2_fit 3 = .ok (.invokevirtual 405, 3) := dk_182 1 149 (dk_at dksX2_fit_0 3 rfl rfl)
theorem dX2_fit_6 : decode cX2_fit 6 = .ok (.ifCond .eq 10, 3) := dk_153 0 10 (dk_at dksX2_fit_0 6 rfl rfl)
theorem dX2_fit_9 : decode cX2_fit 9 = .ok (.aload_n 0, 1) := dk_42 (dk_at dksX2_fit_0 9 rfl rfl)
theorem dX2_fit_10 : decode cX2_fit 10 = .ok (.getfield 390, 3) := dk_180 1 134 (dk_at dksX2_fit_0 10 rfl rfl)
theorem dX2_fit_13 : decode cX2_fit 13 = .ok (.goto 5, 3) := dk_167 0 5 (dk_at dksX2_fit_0 13 rfl rfl)
theorem dX2_fit_16 : decode cX2_fit 16 = .ok (.bipush (-2), 2) := dk_16 254 (dk_at dksX2_fit_0 16 rfl rfl)
theorem dX2_fit_18 : decode cX2_fit 18 = .ok (.ireturn, 1) := dk_172 (dk_at dksX2_fit_0 18 rfl rfl)
abbrev cX2_best : ByteArray := prog_9_method_96_code
def yX2_best : MethodName := ⟨RX2, "best", "(I)I"⟩
def dkwX2_best_3 : List UInt8 := [132, 3, 1, 167, 255, 220, 42, 28, 182, 1, 187, 42, 180, 0, 110, 6, 28, 104, 27, 96, 46, 172]
abbrev dktX2_best_3 : List UInt8 := dkwX2_best_3 ++ []
def dkwX2_best_2 : List UInt8 := [180, 0, 110, 6, 29, 104, 27, 96, 46, 42, 180, 0, 110, 6, 28, 104, 27, 96, 46, 164, 0, 5, 29, 61]
abbrev dktX2_best_2 : List UInt8 := dkwX2_best_2 ++ dktX2_best_3
def dkwX2_best_1 : List UInt8 := [180, 1, 134, 154, 0, 7, 19, 1, 55, 172, 3, 61, 4, 62, 29, 42, 180, 1, 134, 162, 0, 34, 42]
abbrev dktX2_best_1 : List UInt8 := dkwX2_best_1 ++ dktX2_best_2
def dkwX2_best_0 : List UInt8 := [42, 3, 181, 0, 248, 27, 184, 1, 52, 153, 0, 19, 42, 3, 4, 182, 1, 149, 153, 0, 10, 42]
abbrev dktX2_best_0 : List UInt8 := dkwX2_best_0 ++ dktX2_best_1
theorem dksX2_best_0 : cX2_best.data.toList.drop 0 = dktX2_best_0 := by decide +kernel
theorem dksX2_best_1 : cX2_best.data.toList.drop 22 = dktX2_best_1 := dk_seg dksX2_best_0 22 rfl rfl
theorem dksX2_best_2 : cX2_best.data.toList.drop 45 = dktX2_best_2 := dk_seg dksX2_best_1 23 rfl rfl
theorem dksX2_best_3 : cX2_best.data.toList.drop 69 = dktX2_best_3 := dk_seg dksX2_best_2 24 rfl rfl
theorem dX2_best_0 : decode cX2_best 0 = .ok (.aload_n 0, 1) := dk_42 (dk_at dksX2_best_0 0 rfl rfl)
theorem dX2_best_1 : decode cX2_best 1 = .ok (.iconst 0, 1) := dk_3 (dk_at dksX2_best_0 1 rfl rfl)
theorem dX2_best_2 : decode cX2_best 2 = .ok (.putfield 248, 3) := dk_181 0 248 (dk_at dksX2_best_0 2 rfl rfl)
theorem dX2_best_5 : decode cX2_best 5 = .ok (.iload_n 1, 1) := dk_27 (dk_at dksX2_best_0 5 rfl rfl)
theorem dX2_best_6 : decode cX2_best 6 = .ok (.invokestatic 308, 3) := dk_184 1 52 (dk_at dksX2_best_0 6 rfl rfl)
theorem dX2_best_9 : decode cX2_best 9 = .ok (.ifCond .eq 19, 3) := dk_153 0 19 (dk_at dksX2_best_0 9 rfl rfl)
theorem dX2_best_12 : decode cX2_best 12 = .ok (.aload_n 0, 1) := dk_42 (dk_at dksX2_best_0 12 rfl rfl)
theorem dX2_best_13 : decode cX2_best 13 = .ok (.iconst 0, 1) := dk_3 (dk_at dksX2_best_0 13 rfl rfl)
theorem dX2_best_14 : decode cX2_best 14 = .ok (.iconst 1, 1) := dk_4 (dk_at dksX2_best_0 14 rfl rfl)
theorem dX2_best_15 : decode cX2_best 15 = .ok (.invokevirtual 405, 3) := dk_182 1 149 (dk_at dksX2_best_0 15 rfl rfl)
theorem dX2_best_18 : decode cX2_best 18 = .ok (.ifCond .eq 10, 3) := dk_153 0 10 (dk_at dksX2_best_0 18 rfl rfl)
theorem dX2_best_21 : decode cX2_best 21 = .ok (.aload_n 0, 1) := dk_42 (dk_at dksX2_best_0 21 rfl rfl)
theorem dX2_best_22 : decode cX2_best 22 = .ok (.getfield 390, 3) := dk_180 1 134 (dk_at dksX2_best_1 0 rfl rfl)
theorem dX2_best_25 : decode cX2_best 25 = .ok (.ifCond .ne 7, 3) := dk_154 0 7 (dk_at dksX2_best_1 3 rfl rfl)
theorem dX2_best_28 : decode cX2_best 28 = .ok (.ldc_w 311, 3) := dk_19 1 55 (dk_at dksX2_best_1 6 rfl rfl)
theorem dX2_best_31 : decode cX2_best 31 = .ok (.ireturn, 1) := dk_172 (dk_at dksX2_best_1 9 rfl rfl)
theorem dX2_best_32 : decode cX2_best 32 = .ok (.iconst 0, 1) := dk_3 (dk_at dksX2_best_1 10 rfl rfl)
theorem dX2_best_33 : decode cX2_best 33 = .ok (.istore_n 2, 1) := dk_61 (dk_at dksX2_best_1 11 rfl rfl)
theorem dX2_best_34 : decode cX2_best 34 = .ok (.iconst 1, 1) := dk_4 (dk_at dksX2_best_1 12 rfl rfl)
theorem dX2_best_35 : decode cX2_best 35 = .ok (.istore_n 3, 1) := dk_62 (dk_at dksX2_best_1 13 rfl rfl)
theorem dX2_best_36 : decode cX2_best 36 = .ok (.iload_n 3, 1) := dk_29 (dk_at dksX2_best_1 14 rfl rfl)
theorem dX2_best_37 : decode cX2_best 37 = .ok (.aload_n 0, 1) := dk_42 (dk_at dksX2_best_1 15 rfl rfl)
theorem dX2_best_38 : decode cX2_best 38 = .ok (.getfield 390, 3) := dk_180 1 134 (dk_at dksX2_best_1 16 rfl rfl)
theorem dX2_best_41 : decode cX2_best 41 = .ok (.if_icmp .ge 34, 3) := dk_162 0 34 (dk_at dksX2_best_1 19 rfl rfl)
theorem dX2_best_44 : decode cX2_best 44 = .ok (.aload_n 0, 1) := dk_42 (dk_at dksX2_best_1 22 rfl rfl)
theorem dX2_best_45 : decode cX2_best 45 = .ok (.getfield 110, 3) := dk_180 0 110 (dk_at dksX2_best_2 0 rfl rfl)
theorem dX2_best_48 : decode cX2_best 48 = .ok (.iconst 3, 1) := dk_6 (dk_at dksX2_best_2 3 rfl rfl)
theorem dX2_best_49 : decode cX2_best 49 = .ok (.iload_n 3, 1) := dk_29 (dk_at dksX2_best_2 4 rfl rfl)
theorem dX2_best_50 : decode cX2_best 50 = .ok (.imul, 1) := dk_104 (dk_at dksX2_best_2 5 rfl rfl)
theorem dX2_best_51 : decode cX2_best 51 = .ok (.iload_n 1, 1) := dk_27 (dk_at dksX2_best_2 6 rfl rfl)
theorem dX2_best_52 : decode cX2_best 52 = .ok (.iadd, 1) := dk_96 (dk_at dksX2_best_2 7 rfl rfl)
theorem dX2_best_53 : decode cX2_best 53 = .ok (.iaload, 1) := dk_46 (dk_at dksX2_best_2 8 rfl rfl)
theorem dX2_best_54 : decode cX2_best 54 = .ok (.aload_n 0, 1) := dk_42 (dk_at dksX2_best_2 9 rfl rfl)
theorem dX2_best_55 : decode cX2_best 55 = .ok (.getfield 110, 3) := dk_180 0 110 (dk_at dksX2_best_2 10 rfl rfl)
theorem dX2_best_58 : decode cX2_best 58 = .ok (.iconst 3, 1) := dk_6 (dk_at dksX2_best_2 13 rfl rfl)
theorem dX2_best_59 : decode cX2_best 59 = .ok (.iload_n 2, 1) := dk_28 (dk_at dksX2_best_2 14 rfl rfl)
theorem dX2_best_60 : decode cX2_best 60 = .ok (.imul, 1) := dk_104 (dk_at dksX2_best_2 15 rfl rfl)
theorem dX2_best_61 : decode cX2_best 61 = .ok (.iload_n 1, 1) := dk_27 (dk_at dksX2_best_2 16 rfl rfl)
theorem dX2_best_62 : decode cX2_best 62 = .ok (.iadd, 1) := dk_96 (dk_at dksX2_best_2 17 rfl rfl)
theorem dX2_best_63 : decode cX2_best 63 = .ok (.iaload, 1) := dk_46 (dk_at dksX2_best_2 18 rfl rfl)
theorem dX2_best_64 : decode cX2_best 64 = .ok (.if_icmp .le 5, 3) := dk_164 0 5 (dk_at dksX2_best_2 19 rfl rfl)
theorem dX2_best_67 : decode cX2_best 67 = .ok (.iload_n 3, 1) := dk_29 (dk_at dksX2_best_2 22 rfl rfl)
theorem dX2_best_68 : decode cX2_best 68 = .ok (.istore_n 2, 1) := dk_61 (dk_at dksX2_best_2 23 rfl rfl)
theorem dX2_best_69 : decode cX2_best 69 = .ok (.iinc 3 1, 3) := dk_132 3 1 (dk_at dksX2_best_3 0 rfl rfl)
theorem dX2_best_72 : decode cX2_best 72 = .ok (.goto (-36), 3) := dk_167 255 220 (dk_at dksX2_best_3 3 rfl rfl)
theorem dX2_best_75 : decode cX2_best 75 = .ok (.aload_n 0, 1) := dk_42 (dk_at dksX2_best_3 6 rfl rfl)
theorem dX2_best_76 : decode cX2_best 76 = .ok (.iload_n 2, 1) := dk_28 (dk_at dksX2_best_3 7 rfl rfl)
theorem dX2_best_77 : decode cX2_best 77 = .ok (.invokevirtual 443, 3) := dk_182 1 187 (dk_at dksX2_best_3 8 rfl rfl)
theorem dX2_best_80 : decode cX2_best 80 = .ok (.aload_n 0, 1) := dk_42 (dk_at dksX2_best_3 11 rfl rfl)
theorem dX2_best_81 : decode cX2_best 81 = .ok (.getfield 110, 3) := dk_180 0 110 (dk_at dksX2_best_3 12 rfl rfl)
theorem dX2_best_84 : decode cX2_best 84 = .ok (.iconst 3, 1) := dk_6 (dk_at dksX2_best_3 15 rfl rfl)
theorem dX2_best_85 : decode cX2_best 85 = .ok (.iload_n 2, 1) := dk_28 (dk_at dksX2_best_3 16 rfl rfl)
theorem dX2_best_86 : decode cX2_best 86 = .ok (.imul, 1) := dk_104 (dk_at dksX2_best_3 17 rfl rfl)
theorem dX2_best_87 : decode cX2_best 87 = .ok (.iload_n 1, 1) := dk_27 (dk_at dksX2_best_3 18 rfl rfl)
theorem dX2_best_88 : decode cX2_best 88 = .ok (.iadd, 1) := dk_96 (dk_at dksX2_best_3 19 rfl rfl)
theorem dX2_best_89 : decode cX2_best 89 = .ok (.iaload, 1) := dk_46 (dk_at dksX2_best_3 20 rfl rfl)
theorem dX2_best_90 : decode cX2_best 90 = .ok (.ireturn, 1) := dk_172 (dk_at dksX2_best_3 21 rfl rfl)
abbrev cX2_struck : ByteArray := prog_9_method_98_code
def yX2_struck : MethodName := ⟨RX2, "struck", "(I)I"⟩
def dkwX2_struck_4 : List UInt8 := [132, 4, 1, 167, 255, 190, 28, 172]
abbrev dktX2_struck_4 : List UInt8 := dkwX2_struck_4 ++ []
def dkwX2_struck_3 : List UInt8 := [182, 1, 111, 54, 5, 28, 155, 0, 12, 21, 5, 29, 163, 0, 6, 167, 0, 9, 21, 4, 61, 21, 5, 62]
abbrev dktX2_struck_3 : List UInt8 := dkwX2_struck_3 ++ dktX2_struck_4
def dkwX2_struck_2 : List UInt8 := [180, 1, 80, 4, 100, 182, 1, 92, 154, 0, 6, 167, 0, 35, 42, 42, 180, 1, 80, 4, 100, 27]
abbrev dktX2_struck_2 : List UInt8 := dkwX2_struck_2 ++ dktX2_struck_3
def dkwX2_struck_1 : List UInt8 := [2, 61, 3, 62, 3, 54, 4, 21, 4, 42, 180, 1, 80, 162, 0, 63, 42, 21, 4, 182, 1, 214, 42, 42]
abbrev dktX2_struck_1 : List UInt8 := dkwX2_struck_1 ++ dktX2_struck_2
def dkwX2_struck_0 : List UInt8 := [42, 182, 1, 95, 27, 184, 1, 52, 153, 0, 14, 42, 42, 180, 1, 80, 182, 1, 92, 154, 0, 5, 2, 172]
abbrev dktX2_struck_0 : List UInt8 := dkwX2_struck_0 ++ dktX2_struck_1
theorem dksX2_struck_0 : cX2_struck.data.toList.drop 0 = dktX2_struck_0 := by decide +kernel
theorem dksX2_struck_1 : cX2_struck.data.toList.drop 24 = dktX2_struck_1 := dk_seg dksX2_struck_0 24 rfl rfl
theorem dksX2_struck_2 : cX2_struck.data.toList.drop 48 = dktX2_struck_2 := dk_seg dksX2_struck_1 24 rfl rfl
theorem dksX2_struck_3 : cX2_struck.data.toList.drop 70 = dktX2_struck_3 := dk_seg dksX2_struck_2 22 rfl rfl
theorem dksX2_struck_4 : cX2_struck.data.toList.drop 94 = dktX2_struck_4 := dk_seg dksX2_struck_3 24 rfl rfl
theorem dX2_struck_0 : decode cX2_struck 0 = .ok (.aload_n 0, 1) := dk_42 (dk_at dksX2_struck_0 0 rfl rfl)
theorem dX2_struck_1 : decode cX2_struck 1 = .ok (.invokevirtual 351, 3) := dk_182 1 95 (dk_at dksX2_struck_0 1 rfl rfl)
theorem dX2_struck_4 : decode cX2_struck 4 = .ok (.iload_n 1, 1) := dk_27 (dk_at dksX2_struck_0 4 rfl rfl)
theorem dX2_struck_5 : decode cX2_struck 5 = .ok (.invokestatic 308, 3) := dk_184 1 52 (dk_at dksX2_struck_0 5 rfl rfl)
theorem dX2_struck_8 : decode cX2_struck 8 = .ok (.ifCond .eq 14, 3) := dk_153 0 14 (dk_at dksX2_struck_0 8 rfl rfl)
theorem dX2_struck_11 : decode cX2_struck 11 = .ok (.aload_n 0, 1) := dk_42 (dk_at dksX2_struck_0 11 rfl rfl)
theorem dX2_struck_12 : decode cX2_struck 12 = .ok (.aload_n 0, 1) := dk_42 (dk_at dksX2_struck_0 12 rfl rfl)
theorem dX2_struck_13 : decode cX2_struck 13 = .ok (.getfield 336, 3) := dk_180 1 80 (dk_at dksX2_struck_0 13 rfl rfl)
theorem dX2_struck_16 : decode cX2_struck 16 = .ok (.invokevirtual 348, 3) := dk_182 1 92 (dk_at dksX2_struck_0 16 rfl rfl)
theorem dX2_struck_19 : decode cX2_struck 19 = .ok (.ifCond .ne 5, 3) := dk_154 0 5 (dk_at dksX2_struck_0 19 rfl rfl)
theorem dX2_struck_22 : decode cX2_struck 22 = .ok (.iconst (-1), 1) := dk_2 (dk_at dksX2_struck_0 22 rfl rfl)
theorem dX2_struck_23 : decode cX2_struck 23 = .ok (.ireturn, 1) := dk_172 (dk_at dksX2_struck_0 23 rfl rfl)
theorem dX2_struck_24 : decode cX2_struck 24 = .ok (.iconst (-1), 1) := dk_2 (dk_at dksX2_struck_1 0 rfl rfl)
theorem dX2_struck_25 : decode cX2_struck 25 = .ok (.istore_n 2, 1) := dk_61 (dk_at dksX2_struck_1 1 rfl rfl)
theorem dX2_struck_26 : decode cX2_struck 26 = .ok (.iconst 0, 1) := dk_3 (dk_at dksX2_struck_1 2 rfl rfl)
theorem dX2_struck_27 : decode cX2_struck 27 = .ok (.istore_n 3, 1) := dk_62 (dk_at dksX2_struck_1 3 rfl rfl)
theorem dX2_struck_28 : decode cX2_struck 28 = .ok (.iconst 0, 1) := dk_3 (dk_at dksX2_struck_1 4 rfl rfl)
theorem dX2_struck_29 : decode cX2_struck 29 = .ok (.istore 4, 2) := dk_54 4 (dk_at dksX2_struck_1 5 rfl rfl)
theorem dX2_struck_31 : decode cX2_struck 31 = .ok (.iload 4, 2) := dk_21 4 (dk_at dksX2_struck_1 7 rfl rfl)
theorem dX2_struck_33 : decode cX2_struck 33 = .ok (.aload_n 0, 1) := dk_42 (dk_at dksX2_struck_1 9 rfl rfl)
theorem dX2_struck_34 : decode cX2_struck 34 = .ok (.getfield 336, 3) := dk_180 1 80 (dk_at dksX2_struck_1 10 rfl rfl)
theorem dX2_struck_37 : decode cX2_struck 37 = .ok (.if_icmp .ge 63, 3) := dk_162 0 63 (dk_at dksX2_struck_1 13 rfl rfl)
theorem dX2_struck_40 : decode cX2_struck 40 = .ok (.aload_n 0, 1) := dk_42 (dk_at dksX2_struck_1 16 rfl rfl)
theorem dX2_struck_41 : decode cX2_struck 41 = .ok (.iload 4, 2) := dk_21 4 (dk_at dksX2_struck_1 17 rfl rfl)
theorem dX2_struck_43 : decode cX2_struck 43 = .ok (.invokevirtual 470, 3) := dk_182 1 214 (dk_at dksX2_struck_1 19 rfl rfl)
theorem dX2_struck_46 : decode cX2_struck 46 = .ok (.aload_n 0, 1) := dk_42 (dk_at dksX2_struck_1 22 rfl rfl)
theorem dX2_struck_47 : decode cX2_struck 47 = .ok (.aload_n 0, 1) := dk_42 (dk_at dksX2_struck_1 23 rfl rfl)
theorem dX2_struck_48 : decode cX2_struck 48 = .ok (.getfield 336, 3) := dk_180 1 80 (dk_at dksX2_struck_2 0 rfl rfl)
theorem dX2_struck_51 : decode cX2_struck 51 = .ok (.iconst 1, 1) := dk_4 (dk_at dksX2_struck_2 3 rfl rfl)
theorem dX2_struck_52 : decode cX2_struck 52 = .ok (.isub, 1) := dk_100 (dk_at dksX2_struck_2 4 rfl rfl)
theorem dX2_struck_53 : decode cX2_struck 53 = .ok (.invokevirtual 348, 3) := dk_182 1 92 (dk_at dksX2_struck_2 5 rfl rfl)
theorem dX2_struck_56 : decode cX2_struck 56 = .ok (.ifCond .ne 6, 3) := dk_154 0 6 (dk_at dksX2_struck_2 8 rfl rfl)
theorem dX2_struck_59 : decode cX2_struck 59 = .ok (.goto 35, 3) := dk_167 0 35 (dk_at dksX2_struck_2 11 rfl rfl)
theorem dX2_struck_62 : decode cX2_struck 62 = .ok (.aload_n 0, 1) := dk_42 (dk_at dksX2_struck_2 14 rfl rfl)
theorem dX2_struck_63 : decode cX2_struck 63 = .ok (.aload_n 0, 1) := dk_42 (dk_at dksX2_struck_2 15 rfl rfl)
theorem dX2_struck_64 : decode cX2_struck 64 = .ok (.getfield 336, 3) := dk_180 1 80 (dk_at dksX2_struck_2 16 rfl rfl)
theorem dX2_struck_67 : decode cX2_struck 67 = .ok (.iconst 1, 1) := dk_4 (dk_at dksX2_struck_2 19 rfl rfl)
theorem dX2_struck_68 : decode cX2_struck 68 = .ok (.isub, 1) := dk_100 (dk_at dksX2_struck_2 20 rfl rfl)
theorem dX2_struck_69 : decode cX2_struck 69 = .ok (.iload_n 1, 1) := dk_27 (dk_at dksX2_struck_2 21 rfl rfl)
theorem dX2_struck_70 : decode cX2_struck 70 = .ok (.invokevirtual 367, 3) := dk_182 1 111 (dk_at dksX2_struck_3 0 rfl rfl)
theorem dX2_struck_73 : decode cX2_struck 73 = .ok (.istore 5, 2) := dk_54 5 (dk_at dksX2_struck_3 3 rfl rfl)
theorem dX2_struck_75 : decode cX2_struck 75 = .ok (.iload_n 2, 1) := dk_28 (dk_at dksX2_struck_3 5 rfl rfl)
theorem dX2_struck_76 : decode cX2_struck 76 = .ok (.ifCond .lt 12, 3) := dk_155 0 12 (dk_at dksX2_struck_3 6 rfl rfl)
theorem dX2_struck_79 : decode cX2_struck 79 = .ok (.iload 5, 2) := dk_21 5 (dk_at dksX2_struck_3 9 rfl rfl)
theorem dX2_struck_81 : decode cX2_struck 81 = .ok (.iload_n 3, 1) := dk_29 (dk_at dksX2_struck_3 11 rfl rfl)
theorem dX2_struck_82 : decode cX2_struck 82 = .ok (.if_icmp .gt 6, 3) := dk_163 0 6 (dk_at dksX2_struck_3 12 rfl rfl)
theorem dX2_struck_85 : decode cX2_struck 85 = .ok (.goto 9, 3) := dk_167 0 9 (dk_at dksX2_struck_3 15 rfl rfl)
theorem dX2_struck_88 : decode cX2_struck 88 = .ok (.iload 4, 2) := dk_21 4 (dk_at dksX2_struck_3 18 rfl rfl)
theorem dX2_struck_90 : decode cX2_struck 90 = .ok (.istore_n 2, 1) := dk_61 (dk_at dksX2_struck_3 20 rfl rfl)
theorem dX2_struck_91 : decode cX2_struck 91 = .ok (.iload 5, 2) := dk_21 5 (dk_at dksX2_struck_3 21 rfl rfl)
theorem dX2_struck_93 : decode cX2_struck 93 = .ok (.istore_n 3, 1) := dk_62 (dk_at dksX2_struck_3 23 rfl rfl)
theorem dX2_struck_94 : decode cX2_struck 94 = .ok (.iinc 4 1, 3) := dk_132 4 1 (dk_at dksX2_struck_4 0 rfl rfl)
theorem dX2_struck_97 : decode cX2_struck 97 = .ok (.goto (-66), 3) := dk_167 255 190 (dk_at dksX2_struck_4 3 rfl rfl)
theorem dX2_struck_100 : decode cX2_struck 100 = .ok (.iload_n 2, 1) := dk_28 (dk_at dksX2_struck_4 6 rfl rfl)
theorem dX2_struck_101 : decode cX2_struck 101 = .ok (.ireturn, 1) := dk_172 (dk_at dksX2_struck_4 7 rfl rfl)
abbrev cX2_tryWithout : ByteArray := prog_9_method_97_code
def yX2_tryWithout : MethodName := ⟨RX2, "tryWithout", "(I)V"⟩
def dkwX2_tryWithout_1 : List UInt8 := [28, 42, 180, 0, 92, 29, 46, 79, 132, 2, 1, 132, 3, 1, 167, 255, 222, 177]
abbrev dktX2_tryWithout_1 : List UInt8 := dkwX2_tryWithout_1 ++ []
def dkwX2_tryWithout_0 : List UInt8 := [3, 61, 3, 62, 29, 42, 180, 1, 80, 162, 0, 32, 29, 27, 160, 0, 6, 167, 0, 18, 42, 180, 0, 77]
abbrev dktX2_tryWithout_0 : List UInt8 := dkwX2_tryWithout_0 ++ dktX2_tryWithout_1
theorem dksX2_tryWithout_0 : cX2_tryWithout.data.toList.drop 0 = dktX2_tryWithout_0 := by decide +kernel
theorem dksX2_tryWithout_1 : cX2_tryWithout.data.toList.drop 24 = dktX2_tryWithout_1 := dk_seg dksX2_tryWithout_0 24 rfl rfl
theorem dX2_tryWithout_0 : decode cX2_tryWithout 0 = .ok (.iconst 0, 1) := dk_3 (dk_at dksX2_tryWithout_0 0 rfl rfl)
theorem dX2_tryWithout_1 : decode cX2_tryWithout 1 = .ok (.istore_n 2, 1) := dk_61 (dk_at dksX2_tryWithout_0 1 rfl rfl)
theorem dX2_tryWithout_2 : decode cX2_tryWithout 2 = .ok (.iconst 0, 1) := dk_3 (dk_at dksX2_tryWithout_0 2 rfl rfl)
theorem dX2_tryWithout_3 : decode cX2_tryWithout 3 = .ok (.istore_n 3, 1) := dk_62 (dk_at dksX2_tryWithout_0 3 rfl rfl)
theorem dX2_tryWithout_4 : decode cX2_tryWithout 4 = .ok (.iload_n 3, 1) := dk_29 (dk_at dksX2_tryWithout_0 4 rfl rfl)
theorem dX2_tryWithout_5 : decode cX2_tryWithout 5 = .ok (.aload_n 0, 1) := dk_42 (dk_at dksX2_tryWithout_0 5 rfl rfl)
theorem dX2_tryWithout_6 : decode cX2_tryWithout 6 = .ok (.getfield 336, 3) := dk_180 1 80 (dk_at dksX2_tryWithout_0 6 rfl rfl)
theorem dX2_tryWithout_9 : decode cX2_tryWithout 9 = .ok (.if_icmp .ge 32, 3) := dk_162 0 32 (dk_at dksX2_tryWithout_0 9 rfl rfl)
theorem dX2_tryWithout_12 : decode cX2_tryWithout 12 = .ok (.iload_n 3, 1) := dk_29 (dk_at dksX2_tryWithout_0 12 rfl rfl)
theorem dX2_tryWithout_13 : decode cX2_tryWithout 13 = .ok (.iload_n 1, 1) := dk_27 (dk_at dksX2_tryWithout_0 13 rfl rfl)
theorem dX2_tryWithout_14 : decode cX2_tryWithout 14 = .ok (.if_icmp .ne 6, 3) := dk_160 0 6 (dk_at dksX2_tryWithout_0 14 rfl rfl)
theorem dX2_tryWithout_17 : decode cX2_tryWithout 17 = .ok (.goto 18, 3) := dk_167 0 18 (dk_at dksX2_tryWithout_0 17 rfl rfl)
theorem dX2_tryWithout_20 : decode cX2_tryWithout 20 = .ok (.aload_n 0, 1) := dk_42 (dk_at dksX2_tryWithout_0 20 rfl rfl)
theorem dX2_tryWithout_21 : decode cX2_tryWithout 21 = .ok (.getfield 77, 3) := dk_180 0 77 (dk_at dksX2_tryWithout_0 21 rfl rfl)
theorem dX2_tryWithout_24 : decode cX2_tryWithout 24 = .ok (.iload_n 2, 1) := dk_28 (dk_at dksX2_tryWithout_1 0 rfl rfl)
theorem dX2_tryWithout_25 : decode cX2_tryWithout 25 = .ok (.aload_n 0, 1) := dk_42 (dk_at dksX2_tryWithout_1 1 rfl rfl)
theorem dX2_tryWithout_26 : decode cX2_tryWithout 26 = .ok (.getfield 92, 3) := dk_180 0 92 (dk_at dksX2_tryWithout_1 2 rfl rfl)
theorem dX2_tryWithout_29 : decode cX2_tryWithout 29 = .ok (.iload_n 3, 1) := dk_29 (dk_at dksX2_tryWithout_1 5 rfl rfl)
theorem dX2_tryWithout_30 : decode cX2_tryWithout 30 = .ok (.iaload, 1) := dk_46 (dk_at dksX2_tryWithout_1 6 rfl rfl)
theorem dX2_tryWithout_31 : decode cX2_tryWithout 31 = .ok (.iastore, 1) := dk_79 (dk_at dksX2_tryWithout_1 7 rfl rfl)
theorem dX2_tryWithout_32 : decode cX2_tryWithout 32 = .ok (.iinc 2 1, 3) := dk_132 2 1 (dk_at dksX2_tryWithout_1 8 rfl rfl)
theorem dX2_tryWithout_35 : decode cX2_tryWithout 35 = .ok (.iinc 3 1, 3) := dk_132 3 1 (dk_at dksX2_tryWithout_1 11 rfl rfl)
theorem dX2_tryWithout_38 : decode cX2_tryWithout 38 = .ok (.goto (-34), 3) := dk_167 255 222 (dk_at dksX2_tryWithout_1 14 rfl rfl)
theorem dX2_tryWithout_41 : decode cX2_tryWithout 41 = .ok (.return_, 1) := dk_177 (dk_at dksX2_tryWithout_1 17 rfl rfl)
abbrev cX2_seen : ByteArray := prog_9_method_99_code
def yX2_seen : MethodName := ⟨RX2, "seen", "(IIZ)I"⟩
def dkwX2_seen_4 : List UInt8 := [4, 100, 172]
abbrev dktX2_seen_4 : List UInt8 := dkwX2_seen_4 ++ []
def dkwX2_seen_3 : List UInt8 := [42, 180, 0, 143, 42, 180, 0, 245, 2, 79, 42, 89, 180, 0, 245, 4, 96, 181, 0, 245, 42, 180, 0, 245]
abbrev dktX2_seen_3 : List UInt8 := dkwX2_seen_3 ++ dktX2_seen_4
def dkwX2_seen_2 : List UInt8 := [79, 42, 180, 0, 146, 42, 180, 0, 245, 29, 84, 42, 180, 0, 140, 42, 180, 0, 245, 42, 180, 1, 217, 79]
abbrev dktX2_seen_2 : List UInt8 := dkwX2_seen_2 ++ dktX2_seen_3
def dkwX2_seen_1 : List UInt8 := [160, 0, 5, 2, 172, 42, 180, 0, 134, 42, 180, 0, 245, 27, 79, 42, 180, 0, 137, 42, 180, 0, 245, 28]
abbrev dktX2_seen_1 : List UInt8 := dkwX2_seen_1 ++ dktX2_seen_2
def dkwX2_seen_0 : List UInt8 := [42, 27, 182, 1, 101, 153, 0, 20, 42, 28, 182, 1, 49, 153, 0, 12, 42, 180, 0, 245, 16, 30]
abbrev dktX2_seen_0 : List UInt8 := dkwX2_seen_0 ++ dktX2_seen_1
theorem dksX2_seen_0 : cX2_seen.data.toList.drop 0 = dktX2_seen_0 := by decide +kernel
theorem dksX2_seen_1 : cX2_seen.data.toList.drop 22 = dktX2_seen_1 := dk_seg dksX2_seen_0 22 rfl rfl
theorem dksX2_seen_2 : cX2_seen.data.toList.drop 46 = dktX2_seen_2 := dk_seg dksX2_seen_1 24 rfl rfl
theorem dksX2_seen_3 : cX2_seen.data.toList.drop 70 = dktX2_seen_3 := dk_seg dksX2_seen_2 24 rfl rfl
theorem dksX2_seen_4 : cX2_seen.data.toList.drop 94 = dktX2_seen_4 := dk_seg dksX2_seen_3 24 rfl rfl
theorem dX2_seen_0 : decode cX2_seen 0 = .ok (.aload_n 0, 1) := dk_42 (dk_at dksX2_seen_0 0 rfl rfl)
theorem dX2_seen_1 : decode cX2_seen 1 = .ok (.iload_n 1, 1) := dk_27 (dk_at dksX2_seen_0 1 rfl rfl)
theorem dX2_seen_2 : decode cX2_seen 2 = .ok (.invokevirtual 357, 3) := dk_182 1 101 (dk_at dksX2_seen_0 2 rfl rfl)
theorem dX2_seen_5 : decode cX2_seen 5 = .ok (.ifCond .eq 20, 3) := dk_153 0 20 (dk_at dksX2_seen_0 5 rfl rfl)
theorem dX2_seen_8 : decode cX2_seen 8 = .ok (.aload_n 0, 1) := dk_42 (dk_at dksX2_seen_0 8 rfl rfl)
theorem dX2_seen_9 : decode cX2_seen 9 = .ok (.iload_n 2, 1) := dk_28 (dk_at dksX2_seen_0 9 rfl rfl)
theorem dX2_seen_10 : decode cX2_seen 10 = .ok (.invokevirtual 305, 3) := dk_182 1 49 (dk_at dksX2_seen_0 10 rfl rfl)
theorem dX2_seen_13 : decode cX2_seen 13 = .ok (.ifCond .eq 12, 3) := dk_153 0 12 (dk_at dksX2_seen_0 13 rfl rfl)
theorem dX2_seen_16 : decode cX2_seen 16 = .ok (.aload_n 0, 1) := dk_42 (dk_at dksX2_seen_0 16 rfl rfl)
theorem dX2_seen_17 : decode cX2_seen 17 = .ok (.getfield 245, 3) := dk_180 0 245 (dk_at dksX2_seen_0 17 rfl rfl)
theorem dX2_seen_20 : decode cX2_seen 20 = .ok (.bipush 30, 2) := dk_16 30 (dk_at dksX2_seen_0 20 rfl rfl)
theorem dX2_seen_22 : decode cX2_seen 22 = .ok (.if_icmp .ne 5, 3) := dk_160 0 5 (dk_at dksX2_seen_1 0 rfl rfl)
theorem dX2_seen_25 : decode cX2_seen 25 = .ok (.iconst (-1), 1) := dk_2 (dk_at dksX2_seen_1 3 rfl rfl)
theorem dX2_seen_26 : decode cX2_seen 26 = .ok (.ireturn, 1) := dk_172 (dk_at dksX2_seen_1 4 rfl rfl)
theorem dX2_seen_27 : decode cX2_seen 27 = .ok (.aload_n 0, 1) := dk_42 (dk_at dksX2_seen_1 5 rfl rfl)
theorem dX2_seen_28 : decode cX2_seen 28 = .ok (.getfield 134, 3) := dk_180 0 134 (dk_at dksX2_seen_1 6 rfl rfl)
theorem dX2_seen_31 : decode cX2_seen 31 = .ok (.aload_n 0, 1) := dk_42 (dk_at dksX2_seen_1 9 rfl rfl)
theorem dX2_seen_32 : decode cX2_seen 32 = .ok (.getfield 245, 3) := dk_180 0 245 (dk_at dksX2_seen_1 10 rfl rfl)
theorem dX2_seen_35 : decode cX2_seen 35 = .ok (.iload_n 1, 1) := dk_27 (dk_at dksX2_seen_1 13 rfl rfl)
theorem dX2_seen_36 : decode cX2_seen 36 = .ok (.iastore, 1) := dk_79 (dk_at dksX2_seen_1 14 rfl rfl)
theorem dX2_seen_37 : decode cX2_seen 37 = .ok (.aload_n 0, 1) := dk_42 (dk_at dksX2_seen_1 15 rfl rfl)
theorem dX2_seen_38 : decode cX2_seen 38 = .ok (.getfield 137, 3) := dk_180 0 137 (dk_at dksX2_seen_1 16 rfl rfl)
theorem dX2_seen_41 : decode cX2_seen 41 = .ok (.aload_n 0, 1) := dk_42 (dk_at dksX2_seen_1 19 rfl rfl)
theorem dX2_seen_42 : decode cX2_seen 42 = .ok (.getfield 245, 3) := dk_180 0 245 (dk_at dksX2_seen_1 20 rfl rfl)
theorem dX2_seen_45 : decode cX2_seen 45 = .ok (.iload_n 2, 1) := dk_28 (dk_at dksX2_seen_1 23 rfl rfl)
theorem dX2_seen_46 : decode cX2_seen 46 = .ok (.iastore, 1) := dk_79 (dk_at dksX2_seen_2 0 rfl rfl)
theorem dX2_seen_47 : decode cX2_seen 47 = .ok (.aload_n 0, 1) := dk_42 (dk_at dksX2_seen_2 1 rfl rfl)
theorem dX2_seen_48 : decode cX2_seen 48 = .ok (.getfield 146, 3) := dk_180 0 146 (dk_at dksX2_seen_2 2 rfl rfl)
theorem dX2_seen_51 : decode cX2_seen 51 = .ok (.aload_n 0, 1) := dk_42 (dk_at dksX2_seen_2 5 rfl rfl)
theorem dX2_seen_52 : decode cX2_seen 52 = .ok (.getfield 245, 3) := dk_180 0 245 (dk_at dksX2_seen_2 6 rfl rfl)
theorem dX2_seen_55 : decode cX2_seen 55 = .ok (.iload_n 3, 1) := dk_29 (dk_at dksX2_seen_2 9 rfl rfl)
theorem dX2_seen_56 : decode cX2_seen 56 = .ok (.bastore, 1) := dk_84 (dk_at dksX2_seen_2 10 rfl rfl)
theorem dX2_seen_57 : decode cX2_seen 57 = .ok (.aload_n 0, 1) := dk_42 (dk_at dksX2_seen_2 11 rfl rfl)
theorem dX2_seen_58 : decode cX2_seen 58 = .ok (.getfield 140, 3) := dk_180 0 140 (dk_at dksX2_seen_2 12 rfl rfl)
theorem dX2_seen_61 : decode cX2_seen 61 = .ok (.aload_n 0, 1) := dk_42 (dk_at dksX2_seen_2 15 rfl rfl)
theorem dX2_seen_62 : decode cX2_seen 62 = .ok (.getfield 245, 3) := dk_180 0 245 (dk_at dksX2_seen_2 16 rfl rfl)
theorem dX2_seen_65 : decode cX2_seen 65 = .ok (.aload_n 0, 1) := dk_42 (dk_at dksX2_seen_2 19 rfl rfl)
theorem dX2_seen_66 : decode cX2_seen 66 = .ok (.getfield 473, 3) := dk_180 1 217 (dk_at dksX2_seen_2 20 rfl rfl)
theorem dX2_seen_69 : decode cX2_seen 69 = .ok (.iastore, 1) := dk_79 (dk_at dksX2_seen_2 23 rfl rfl)
theorem dX2_seen_70 : decode cX2_seen 70 = .ok (.aload_n 0, 1) := dk_42 (dk_at dksX2_seen_3 0 rfl rfl)
theorem dX2_seen_71 : decode cX2_seen 71 = .ok (.getfield 143, 3) := dk_180 0 143 (dk_at dksX2_seen_3 1 rfl rfl)
theorem dX2_seen_74 : decode cX2_seen 74 = .ok (.aload_n 0, 1) := dk_42 (dk_at dksX2_seen_3 4 rfl rfl)
theorem dX2_seen_75 : decode cX2_seen 75 = .ok (.getfield 245, 3) := dk_180 0 245 (dk_at dksX2_seen_3 5 rfl rfl)
theorem dX2_seen_78 : decode cX2_seen 78 = .ok (.iconst (-1), 1) := dk_2 (dk_at dksX2_seen_3 8 rfl rfl)
theorem dX2_seen_79 : decode cX2_seen 79 = .ok (.iastore, 1) := dk_79 (dk_at dksX2_seen_3 9 rfl rfl)
theorem dX2_seen_80 : decode cX2_seen 80 = .ok (.aload_n 0, 1) := dk_42 (dk_at dksX2_seen_3 10 rfl rfl)
theorem dX2_seen_81 : decode cX2_seen 81 = .ok (.dup, 1) := dk_89 (dk_at dksX2_seen_3 11 rfl rfl)
theorem dX2_seen_82 : decode cX2_seen 82 = .ok (.getfield 245, 3) := dk_180 0 245 (dk_at dksX2_seen_3 12 rfl rfl)
theorem dX2_seen_85 : decode cX2_seen 85 = .ok (.iconst 1, 1) := dk_4 (dk_at dksX2_seen_3 15 rfl rfl)
theorem dX2_seen_86 : decode cX2_seen 86 = .ok (.iadd, 1) := dk_96 (dk_at dksX2_seen_3 16 rfl rfl)
theorem dX2_seen_87 : decode cX2_seen 87 = .ok (.putfield 245, 3) := dk_181 0 245 (dk_at dksX2_seen_3 17 rfl rfl)
theorem dX2_seen_90 : decode cX2_seen 90 = .ok (.aload_n 0, 1) := dk_42 (dk_at dksX2_seen_3 20 rfl rfl)
theorem dX2_seen_91 : decode cX2_seen 91 = .ok (.getfield 245, 3) := dk_180 0 245 (dk_at dksX2_seen_3 21 rfl rfl)
theorem dX2_seen_94 : decode cX2_seen 94 = .ok (.iconst 1, 1) := dk_4 (dk_at dksX2_seen_4 0 rfl rfl)
theorem dX2_seen_95 : decode cX2_seen 95 = .ok (.isub, 1) := dk_100 (dk_at dksX2_seen_4 1 rfl rfl)
theorem dX2_seen_96 : decode cX2_seen 96 = .ok (.ireturn, 1) := dk_172 (dk_at dksX2_seen_4 2 rfl rfl)
abbrev cX2_untell : ByteArray := prog_9_method_100_code
def yX2_untell : MethodName := ⟨RX2, "untell", "(I)Z"⟩
def dkwX2_untell_1 : List UInt8 := [172, 42, 180, 0, 143, 27, 42, 180, 1, 217, 79, 4, 172]
abbrev dktX2_untell_1 : List UInt8 := dkwX2_untell_1 ++ []
def dkwX2_untell_0 : List UInt8 := [27, 3, 42, 180, 0, 245, 4, 100, 184, 1, 42, 153, 0, 12, 42, 180, 0, 143, 27, 46, 155, 0, 5, 3]
abbrev dktX2_untell_0 : List UInt8 := dkwX2_untell_0 ++ dktX2_untell_1
theorem dksX2_untell_0 : cX2_untell.data.toList.drop 0 = dktX2_untell_0 := by decide +kernel
theorem dksX2_untell_1 : cX2_untell.data.toList.drop 24 = dktX2_untell_1 := dk_seg dksX2_untell_0 24 rfl rfl
theorem dX2_untell_0 : decode cX2_untell 0 = .ok (.iload_n 1, 1) := dk_27 (dk_at dksX2_untell_0 0 rfl rfl)
theorem dX2_untell_1 : decode cX2_untell 1 = .ok (.iconst 0, 1) := dk_3 (dk_at dksX2_untell_0 1 rfl rfl)
theorem dX2_untell_2 : decode cX2_untell 2 = .ok (.aload_n 0, 1) := dk_42 (dk_at dksX2_untell_0 2 rfl rfl)
theorem dX2_untell_3 : decode cX2_untell 3 = .ok (.getfield 245, 3) := dk_180 0 245 (dk_at dksX2_untell_0 3 rfl rfl)
theorem dX2_untell_6 : decode cX2_untell 6 = .ok (.iconst 1, 1) := dk_4 (dk_at dksX2_untell_0 6 rfl rfl)
theorem dX2_untell_7 : decode cX2_untell 7 = .ok (.isub, 1) := dk_100 (dk_at dksX2_untell_0 7 rfl rfl)
theorem dX2_untell_8 : decode cX2_untell 8 = .ok (.invokestatic 298, 3) := dk_184 1 42 (dk_at dksX2_untell_0 8 rfl rfl)
theorem dX2_untell_11 : decode cX2_untell 11 = .ok (.ifCond .eq 12, 3) := dk_153 0 12 (dk_at dksX2_untell_0 11 rfl rfl)
theorem dX2_untell_14 : decode cX2_untell 14 = .ok (.aload_n 0, 1) := dk_42 (dk_at dksX2_untell_0 14 rfl rfl)
theorem dX2_untell_15 : decode cX2_untell 15 = .ok (.getfield 143, 3) := dk_180 0 143 (dk_at dksX2_untell_0 15 rfl rfl)
theorem dX2_untell_18 : decode cX2_untell 18 = .ok (.iload_n 1, 1) := dk_27 (dk_at dksX2_untell_0 18 rfl rfl)
theorem dX2_untell_19 : decode cX2_untell 19 = .ok (.iaload, 1) := dk_46 (dk_at dksX2_untell_0 19 rfl rfl)
theorem dX2_untell_20 : decode cX2_untell 20 = .ok (.ifCond .lt 5, 3) := dk_155 0 5 (dk_at dksX2_untell_0 20 rfl rfl)
theorem dX2_untell_23 : decode cX2_untell 23 = .ok (.iconst 0, 1) := dk_3 (dk_at dksX2_untell_0 23 rfl rfl)
theorem dX2_untell_24 : decode cX2_untell 24 = .ok (.ireturn, 1) := dk_172 (dk_at dksX2_untell_1 0 rfl rfl)
theorem dX2_untell_25 : decode cX2_untell 25 = .ok (.aload_n 0, 1) := dk_42 (dk_at dksX2_untell_1 1 rfl rfl)
theorem dX2_untell_26 : decode cX2_untell 26 = .ok (.getfield 143, 3) := dk_180 0 143 (dk_at dksX2_untell_1 2 rfl rfl)
theorem dX2_untell_29 : decode cX2_untell 29 = .ok (.iload_n 1, 1) := dk_27 (dk_at dksX2_untell_1 5 rfl rfl)
theorem dX2_untell_30 : decode cX2_untell 30 = .ok (.aload_n 0, 1) := dk_42 (dk_at dksX2_untell_1 6 rfl rfl)
theorem dX2_untell_31 : decode cX2_untell 31 = .ok (.getfield 473, 3) := dk_180 1 217 (dk_at dksX2_untell_1 7 rfl rfl)
theorem dX2_untell_34 : decode cX2_untell 34 = .ok (.iastore, 1) := dk_79 (dk_at dksX2_untell_1 10 rfl rfl)
theorem dX2_untell_35 : decode cX2_untell 35 = .ok (.iconst 1, 1) := dk_4 (dk_at dksX2_untell_1 11 rfl rfl)
theorem dX2_untell_36 : decode cX2_untell 36 = .ok (.ireturn, 1) := dk_172 (dk_at dksX2_untell_1 12 rfl rfl)
abbrev cX2_later : ByteArray := prog_9_method_101_code
def yX2_later : MethodName := ⟨RX2, "later", "(I)I"⟩
def dkwX2_later_1 : List UInt8 := [172, 42, 89, 180, 1, 217, 27, 96, 181, 1, 217, 42, 180, 1, 217, 172]
abbrev dktX2_later_1 : List UInt8 := dkwX2_later_1 ++ []
def dkwX2_later_0 : List UInt8 := [27, 3, 17, 3, 232, 184, 1, 42, 153, 0, 15, 42, 180, 1, 217, 27, 96, 19, 1, 220, 164, 0, 5, 2]
abbrev dktX2_later_0 : List UInt8 := dkwX2_later_0 ++ dktX2_later_1
theorem dksX2_later_0 : cX2_later.data.toList.drop 0 = dktX2_later_0 := by decide +kernel
theorem dksX2_later_1 : cX2_later.data.toList.drop 24 = dktX2_later_1 := dk_seg dksX2_later_0 24 rfl rfl
theorem dX2_later_0 : decode cX2_later 0 = .ok (.iload_n 1, 1) := dk_27 (dk_at dksX2_later_0 0 rfl rfl)
theorem dX2_later_1 : decode cX2_later 1 = .ok (.iconst 0, 1) := dk_3 (dk_at dksX2_later_0 1 rfl rfl)
theorem dX2_later_2 : decode cX2_later 2 = .ok (.sipush 1000, 3) := dk_17 3 232 (dk_at dksX2_later_0 2 rfl rfl)
theorem dX2_later_5 : decode cX2_later 5 = .ok (.invokestatic 298, 3) := dk_184 1 42 (dk_at dksX2_later_0 5 rfl rfl)
theorem dX2_later_8 : decode cX2_later 8 = .ok (.ifCond .eq 15, 3) := dk_153 0 15 (dk_at dksX2_later_0 8 rfl rfl)
theorem dX2_later_11 : decode cX2_later 11 = .ok (.aload_n 0, 1) := dk_42 (dk_at dksX2_later_0 11 rfl rfl)
theorem dX2_later_12 : decode cX2_later 12 = .ok (.getfield 473, 3) := dk_180 1 217 (dk_at dksX2_later_0 12 rfl rfl)
theorem dX2_later_15 : decode cX2_later 15 = .ok (.iload_n 1, 1) := dk_27 (dk_at dksX2_later_0 15 rfl rfl)
theorem dX2_later_16 : decode cX2_later 16 = .ok (.iadd, 1) := dk_96 (dk_at dksX2_later_0 16 rfl rfl)
theorem dX2_later_17 : decode cX2_later 17 = .ok (.ldc_w 476, 3) := dk_19 1 220 (dk_at dksX2_later_0 17 rfl rfl)
theorem dX2_later_20 : decode cX2_later 20 = .ok (.if_icmp .le 5, 3) := dk_164 0 5 (dk_at dksX2_later_0 20 rfl rfl)
theorem dX2_later_23 : decode cX2_later 23 = .ok (.iconst (-1), 1) := dk_2 (dk_at dksX2_later_0 23 rfl rfl)
theorem dX2_later_24 : decode cX2_later 24 = .ok (.ireturn, 1) := dk_172 (dk_at dksX2_later_1 0 rfl rfl)
theorem dX2_later_25 : decode cX2_later 25 = .ok (.aload_n 0, 1) := dk_42 (dk_at dksX2_later_1 1 rfl rfl)
theorem dX2_later_26 : decode cX2_later 26 = .ok (.dup, 1) := dk_89 (dk_at dksX2_later_1 2 rfl rfl)
theorem dX2_later_27 : decode cX2_later 27 = .ok (.getfield 473, 3) := dk_180 1 217 (dk_at dksX2_later_1 3 rfl rfl)
theorem dX2_later_30 : decode cX2_later 30 = .ok (.iload_n 1, 1) := dk_27 (dk_at dksX2_later_1 6 rfl rfl)
theorem dX2_later_31 : decode cX2_later 31 = .ok (.iadd, 1) := dk_96 (dk_at dksX2_later_1 7 rfl rfl)
theorem dX2_later_32 : decode cX2_later 32 = .ok (.putfield 473, 3) := dk_181 1 217 (dk_at dksX2_later_1 8 rfl rfl)
theorem dX2_later_35 : decode cX2_later 35 = .ok (.aload_n 0, 1) := dk_42 (dk_at dksX2_later_1 11 rfl rfl)
theorem dX2_later_36 : decode cX2_later 36 = .ok (.getfield 473, 3) := dk_180 1 217 (dk_at dksX2_later_1 12 rfl rfl)
theorem dX2_later_39 : decode cX2_later 39 = .ok (.ireturn, 1) := dk_172 (dk_at dksX2_later_1 15 rfl rfl)
abbrev cX2_orders : ByteArray := prog_9_method_103_code
def yX2_orders : MethodName := ⟨RX2, "orders", "(I)I"⟩
def dkwX2_orders_2 : List UInt8 := [120, 167, 0, 4, 3, 128, 61, 132, 3, 1, 167, 255, 212, 28, 172]
abbrev dktX2_orders_2 : List UInt8 := dkwX2_orders_2 ++ []
def dkwX2_orders_1 : List UInt8 := [158, 0, 37, 42, 29, 182, 1, 199, 28, 42, 42, 3, 182, 1, 184, 27, 182, 1, 221, 153, 0, 9, 4, 29]
abbrev dktX2_orders_1 : List UInt8 := dkwX2_orders_1 ++ dktX2_orders_2
def dkwX2_orders_0 : List UInt8 := [42, 182, 1, 196, 154, 0, 6, 16, 254, 172, 3, 61, 3, 62, 29, 16, 6, 162, 0, 44, 42, 180, 1, 134]
abbrev dktX2_orders_0 : List UInt8 := dkwX2_orders_0 ++ dktX2_orders_1
theorem dksX2_orders_0 : cX2_orders.data.toList.drop 0 = dktX2_orders_0 := by decide +kernel
theorem dksX2_orders_1 : cX2_orders.data.toList.drop 24 = dktX2_orders_1 := dk_seg dksX2_orders_0 24 rfl rfl
theorem dksX2_orders_2 : cX2_orders.data.toList.drop 48 = dktX2_orders_2 := dk_seg dksX2_orders_1 24 rfl rfl
theorem dX2_orders_0 : decode cX2_orders 0 = .ok (.aload_n 0, 1) := dk_42 (dk_at dksX2_orders_0 0 rfl rfl)
theorem dX2_orders_1 : decode cX2_orders 1 = .ok (.invokevirtual 452, 3) := dk_182 1 196 (dk_at dksX2_orders_0 1 rfl rfl)
theorem dX2_orders_4 : decode cX2_orders 4 = .ok (.ifCond .ne 6, 3) := dk_154 0 6 (dk_at dksX2_orders_0 4 rfl rfl)
theorem dX2_orders_7 : decode cX2_orders 7 = .ok (.bipush (-2), 2) := dk_16 254 (dk_at dksX2_orders_0 7 rfl rfl)
theorem dX2_orders_9 : decode cX2_orders 9 = .ok (.ireturn, 1) := dk_172 (dk_at dksX2_orders_0 9 rfl rfl)
theorem dX2_orders_10 : decode cX2_orders 10 = .ok (.iconst 0, 1) := dk_3 (dk_at dksX2_orders_0 10 rfl rfl)
theorem dX2_orders_11 : decode cX2_orders 11 = .ok (.istore_n 2, 1) := dk_61 (dk_at dksX2_orders_0 11 rfl rfl)
theorem dX2_orders_12 : decode cX2_orders 12 = .ok (.iconst 0, 1) := dk_3 (dk_at dksX2_orders_0 12 rfl rfl)
theorem dX2_orders_13 : decode cX2_orders 13 = .ok (.istore_n 3, 1) := dk_62 (dk_at dksX2_orders_0 13 rfl rfl)
theorem dX2_orders_14 : decode cX2_orders 14 = .ok (.iload_n 3, 1) := dk_29 (dk_at dksX2_orders_0 14 rfl rfl)
theorem dX2_orders_15 : decode cX2_orders 15 = .ok (.bipush 6, 2) := dk_16 6 (dk_at dksX2_orders_0 15 rfl rfl)
theorem dX2_orders_17 : decode cX2_orders 17 = .ok (.if_icmp .ge 44, 3) := dk_162 0 44 (dk_at dksX2_orders_0 17 rfl rfl)
theorem dX2_orders_20 : decode cX2_orders 20 = .ok (.aload_n 0, 1) := dk_42 (dk_at dksX2_orders_0 20 rfl rfl)
theorem dX2_orders_21 : decode cX2_orders 21 = .ok (.getfield 390, 3) := dk_180 1 134 (dk_at dksX2_orders_0 21 rfl rfl)
theorem dX2_orders_24 : decode cX2_orders 24 = .ok (.ifCond .le 37, 3) := dk_158 0 37 (dk_at dksX2_orders_1 0 rfl rfl)
theorem dX2_orders_27 : decode cX2_orders 27 = .ok (.aload_n 0, 1) := dk_42 (dk_at dksX2_orders_1 3 rfl rfl)
theorem dX2_orders_28 : decode cX2_orders 28 = .ok (.iload_n 3, 1) := dk_29 (dk_at dksX2_orders_1 4 rfl rfl)
theorem dX2_orders_29 : decode cX2_orders 29 = .ok (.invokevirtual 455, 3) := dk_182 1 199 (dk_at dksX2_orders_1 5 rfl rfl)
theorem dX2_orders_32 : decode cX2_orders 32 = .ok (.iload_n 2, 1) := dk_28 (dk_at dksX2_orders_1 8 rfl rfl)
theorem dX2_orders_33 : decode cX2_orders 33 = .ok (.aload_n 0, 1) := dk_42 (dk_at dksX2_orders_1 9 rfl rfl)
theorem dX2_orders_34 : decode cX2_orders 34 = .ok (.aload_n 0, 1) := dk_42 (dk_at dksX2_orders_1 10 rfl rfl)
theorem dX2_orders_35 : decode cX2_orders 35 = .ok (.iconst 0, 1) := dk_3 (dk_at dksX2_orders_1 11 rfl rfl)
theorem dX2_orders_36 : decode cX2_orders 36 = .ok (.invokevirtual 440, 3) := dk_182 1 184 (dk_at dksX2_orders_1 12 rfl rfl)
theorem dX2_orders_39 : decode cX2_orders 39 = .ok (.iload_n 1, 1) := dk_27 (dk_at dksX2_orders_1 15 rfl rfl)
theorem dX2_orders_40 : decode cX2_orders 40 = .ok (.invokevirtual 477, 3) := dk_182 1 221 (dk_at dksX2_orders_1 16 rfl rfl)
theorem dX2_orders_43 : decode cX2_orders 43 = .ok (.ifCond .eq 9, 3) := dk_153 0 9 (dk_at dksX2_orders_1 19 rfl rfl)
theorem dX2_orders_46 : decode cX2_orders 46 = .ok (.iconst 1, 1) := dk_4 (dk_at dksX2_orders_1 22 rfl rfl)
theorem dX2_orders_47 : decode cX2_orders 47 = .ok (.iload_n 3, 1) := dk_29 (dk_at dksX2_orders_1 23 rfl rfl)
theorem dX2_orders_48 : decode cX2_orders 48 = .ok (.ishl, 1) := dk_120 (dk_at dksX2_orders_2 0 rfl rfl)
theorem dX2_orders_49 : decode cX2_orders 49 = .ok (.goto 4, 3) := dk_167 0 4 (dk_at dksX2_orders_2 1 rfl rfl)
theorem dX2_orders_52 : decode cX2_orders 52 = .ok (.iconst 0, 1) := dk_3 (dk_at dksX2_orders_2 4 rfl rfl)
theorem dX2_orders_53 : decode cX2_orders 53 = .ok (.ior, 1) := dk_128 (dk_at dksX2_orders_2 5 rfl rfl)
theorem dX2_orders_54 : decode cX2_orders 54 = .ok (.istore_n 2, 1) := dk_61 (dk_at dksX2_orders_2 6 rfl rfl)
theorem dX2_orders_55 : decode cX2_orders 55 = .ok (.iinc 3 1, 3) := dk_132 3 1 (dk_at dksX2_orders_2 7 rfl rfl)
theorem dX2_orders_58 : decode cX2_orders 58 = .ok (.goto (-44), 3) := dk_167 255 212 (dk_at dksX2_orders_2 10 rfl rfl)
theorem dX2_orders_61 : decode cX2_orders 61 = .ok (.iload_n 2, 1) := dk_28 (dk_at dksX2_orders_2 13 rfl rfl)
theorem dX2_orders_62 : decode cX2_orders 62 = .ok (.ireturn, 1) := dk_172 (dk_at dksX2_orders_2 14 rfl rfl)
abbrev cX2_isSo : ByteArray := prog_9_method_102_code
def yX2_isSo : MethodName := ⟨RX2, "isSo", "(II)Z"⟩
def dkwX2_isSo_3 : List UInt8 := [180, 0, 146, 29, 51, 159, 0, 5, 3, 172, 132, 3, 1, 167, 255, 175, 4, 172]
abbrev dktX2_isSo_3 : List UInt8 := dkwX2_isSo_3 ++ []
def dkwX2_isSo_2 : List UInt8 := [180, 0, 134, 29, 46, 182, 1, 124, 42, 180, 0, 137, 29, 46, 160, 0, 7, 4, 167, 0, 4, 3, 42]
abbrev dktX2_isSo_2 : List UInt8 := dkwX2_isSo_2 ++ dktX2_isSo_3
def dkwX2_isSo_1 : List UInt8 := [29, 46, 155, 0, 13, 42, 180, 0, 143, 29, 46, 28, 164, 0, 44, 42, 42, 180, 0, 107, 27, 46, 42]
abbrev dktX2_isSo_1 : List UInt8 := dkwX2_isSo_1 ++ dktX2_isSo_2
def dkwX2_isSo_0 : List UInt8 := [3, 62, 29, 42, 180, 0, 245, 162, 0, 79, 42, 180, 0, 140, 29, 46, 28, 163, 0, 63, 42, 180, 0, 143]
abbrev dktX2_isSo_0 : List UInt8 := dkwX2_isSo_0 ++ dktX2_isSo_1
theorem dksX2_isSo_0 : cX2_isSo.data.toList.drop 0 = dktX2_isSo_0 := by decide +kernel
theorem dksX2_isSo_1 : cX2_isSo.data.toList.drop 24 = dktX2_isSo_1 := dk_seg dksX2_isSo_0 24 rfl rfl
theorem dksX2_isSo_2 : cX2_isSo.data.toList.drop 47 = dktX2_isSo_2 := dk_seg dksX2_isSo_1 23 rfl rfl
theorem dksX2_isSo_3 : cX2_isSo.data.toList.drop 70 = dktX2_isSo_3 := dk_seg dksX2_isSo_2 23 rfl rfl
theorem dX2_isSo_0 : decode cX2_isSo 0 = .ok (.iconst 0, 1) := dk_3 (dk_at dksX2_isSo_0 0 rfl rfl)
theorem dX2_isSo_1 : decode cX2_isSo 1 = .ok (.istore_n 3, 1) := dk_62 (dk_at dksX2_isSo_0 1 rfl rfl)
theorem dX2_isSo_2 : decode cX2_isSo 2 = .ok (.iload_n 3, 1) := dk_29 (dk_at dksX2_isSo_0 2 rfl rfl)
theorem dX2_isSo_3 : decode cX2_isSo 3 = .ok (.aload_n 0, 1) := dk_42 (dk_at dksX2_isSo_0 3 rfl rfl)
theorem dX2_isSo_4 : decode cX2_isSo 4 = .ok (.getfield 245, 3) := dk_180 0 245 (dk_at dksX2_isSo_0 4 rfl rfl)
theorem dX2_isSo_7 : decode cX2_isSo 7 = .ok (.if_icmp .ge 79, 3) := dk_162 0 79 (dk_at dksX2_isSo_0 7 rfl rfl)
theorem dX2_isSo_10 : decode cX2_isSo 10 = .ok (.aload_n 0, 1) := dk_42 (dk_at dksX2_isSo_0 10 rfl rfl)
theorem dX2_isSo_11 : decode cX2_isSo 11 = .ok (.getfield 140, 3) := dk_180 0 140 (dk_at dksX2_isSo_0 11 rfl rfl)
theorem dX2_isSo_14 : decode cX2_isSo 14 = .ok (.iload_n 3, 1) := dk_29 (dk_at dksX2_isSo_0 14 rfl rfl)
theorem dX2_isSo_15 : decode cX2_isSo 15 = .ok (.iaload, 1) := dk_46 (dk_at dksX2_isSo_0 15 rfl rfl)
theorem dX2_isSo_16 : decode cX2_isSo 16 = .ok (.iload_n 2, 1) := dk_28 (dk_at dksX2_isSo_0 16 rfl rfl)
theorem dX2_isSo_17 : decode cX2_isSo 17 = .ok (.if_icmp .gt 63, 3) := dk_163 0 63 (dk_at dksX2_isSo_0 17 rfl rfl)
theorem dX2_isSo_20 : decode cX2_isSo 20 = .ok (.aload_n 0, 1) := dk_42 (dk_at dksX2_isSo_0 20 rfl rfl)
theorem dX2_isSo_21 : decode cX2_isSo 21 = .ok (.getfield 143, 3) := dk_180 0 143 (dk_at dksX2_isSo_0 21 rfl rfl)
theorem dX2_isSo_24 : decode cX2_isSo 24 = .ok (.iload_n 3, 1) := dk_29 (dk_at dksX2_isSo_1 0 rfl rfl)
theorem dX2_isSo_25 : decode cX2_isSo 25 = .ok (.iaload, 1) := dk_46 (dk_at dksX2_isSo_1 1 rfl rfl)
theorem dX2_isSo_26 : decode cX2_isSo 26 = .ok (.ifCond .lt 13, 3) := dk_155 0 13 (dk_at dksX2_isSo_1 2 rfl rfl)
theorem dX2_isSo_29 : decode cX2_isSo 29 = .ok (.aload_n 0, 1) := dk_42 (dk_at dksX2_isSo_1 5 rfl rfl)
theorem dX2_isSo_30 : decode cX2_isSo 30 = .ok (.getfield 143, 3) := dk_180 0 143 (dk_at dksX2_isSo_1 6 rfl rfl)
theorem dX2_isSo_33 : decode cX2_isSo 33 = .ok (.iload_n 3, 1) := dk_29 (dk_at dksX2_isSo_1 9 rfl rfl)
theorem dX2_isSo_34 : decode cX2_isSo 34 = .ok (.iaload, 1) := dk_46 (dk_at dksX2_isSo_1 10 rfl rfl)
theorem dX2_isSo_35 : decode cX2_isSo 35 = .ok (.iload_n 2, 1) := dk_28 (dk_at dksX2_isSo_1 11 rfl rfl)
theorem dX2_isSo_36 : decode cX2_isSo 36 = .ok (.if_icmp .le 44, 3) := dk_164 0 44 (dk_at dksX2_isSo_1 12 rfl rfl)
theorem dX2_isSo_39 : decode cX2_isSo 39 = .ok (.aload_n 0, 1) := dk_42 (dk_at dksX2_isSo_1 15 rfl rfl)
theorem dX2_isSo_40 : decode cX2_isSo 40 = .ok (.aload_n 0, 1) := dk_42 (dk_at dksX2_isSo_1 16 rfl rfl)
theorem dX2_isSo_41 : decode cX2_isSo 41 = .ok (.getfield 107, 3) := dk_180 0 107 (dk_at dksX2_isSo_1 17 rfl rfl)
theorem dX2_isSo_44 : decode cX2_isSo 44 = .ok (.iload_n 1, 1) := dk_27 (dk_at dksX2_isSo_1 20 rfl rfl)
theorem dX2_isSo_45 : decode cX2_isSo 45 = .ok (.iaload, 1) := dk_46 (dk_at dksX2_isSo_1 21 rfl rfl)
theorem dX2_isSo_46 : decode cX2_isSo 46 = .ok (.aload_n 0, 1) := dk_42 (dk_at dksX2_isSo_1 22 rfl rfl)
theorem dX2_isSo_47 : decode cX2_isSo 47 = .ok (.getfield 134, 3) := dk_180 0 134 (dk_at dksX2_isSo_2 0 rfl rfl)
theorem dX2_isSo_50 : decode cX2_isSo 50 = .ok (.iload_n 3, 1) := dk_29 (dk_at dksX2_isSo_2 3 rfl rfl)
theorem dX2_isSo_51 : decode cX2_isSo 51 = .ok (.iaload, 1) := dk_46 (dk_at dksX2_isSo_2 4 rfl rfl)
theorem dX2_isSo_52 : decode cX2_isSo 52 = .ok (.invokevirtual 380, 3) := dk_182 1 124 (dk_at dksX2_isSo_2 5 rfl rfl)
theorem dX2_isSo_55 : decode cX2_isSo 55 = .ok (.aload_n 0, 1) := dk_42 (dk_at dksX2_isSo_2 8 rfl rfl)
theorem dX2_isSo_56 : decode cX2_isSo 56 = .ok (.getfield 137, 3) := dk_180 0 137 (dk_at dksX2_isSo_2 9 rfl rfl)
theorem dX2_isSo_59 : decode cX2_isSo 59 = .ok (.iload_n 3, 1) := dk_29 (dk_at dksX2_isSo_2 12 rfl rfl)
theorem dX2_isSo_60 : decode cX2_isSo 60 = .ok (.iaload, 1) := dk_46 (dk_at dksX2_isSo_2 13 rfl rfl)
theorem dX2_isSo_61 : decode cX2_isSo 61 = .ok (.if_icmp .ne 7, 3) := dk_160 0 7 (dk_at dksX2_isSo_2 14 rfl rfl)
theorem dX2_isSo_64 : decode cX2_isSo 64 = .ok (.iconst 1, 1) := dk_4 (dk_at dksX2_isSo_2 17 rfl rfl)
theorem dX2_isSo_65 : decode cX2_isSo 65 = .ok (.goto 4, 3) := dk_167 0 4 (dk_at dksX2_isSo_2 18 rfl rfl)
theorem dX2_isSo_68 : decode cX2_isSo 68 = .ok (.iconst 0, 1) := dk_3 (dk_at dksX2_isSo_2 21 rfl rfl)
theorem dX2_isSo_69 : decode cX2_isSo 69 = .ok (.aload_n 0, 1) := dk_42 (dk_at dksX2_isSo_2 22 rfl rfl)
theorem dX2_isSo_70 : decode cX2_isSo 70 = .ok (.getfield 146, 3) := dk_180 0 146 (dk_at dksX2_isSo_3 0 rfl rfl)
theorem dX2_isSo_73 : decode cX2_isSo 73 = .ok (.iload_n 3, 1) := dk_29 (dk_at dksX2_isSo_3 3 rfl rfl)
theorem dX2_isSo_74 : decode cX2_isSo 74 = .ok (.baload, 1) := dk_51 (dk_at dksX2_isSo_3 4 rfl rfl)
theorem dX2_isSo_75 : decode cX2_isSo 75 = .ok (.if_icmp .eq 5, 3) := dk_159 0 5 (dk_at dksX2_isSo_3 5 rfl rfl)
theorem dX2_isSo_78 : decode cX2_isSo 78 = .ok (.iconst 0, 1) := dk_3 (dk_at dksX2_isSo_3 8 rfl rfl)
theorem dX2_isSo_79 : decode cX2_isSo 79 = .ok (.ireturn, 1) := dk_172 (dk_at dksX2_isSo_3 9 rfl rfl)
theorem dX2_isSo_80 : decode cX2_isSo 80 = .ok (.iinc 3 1, 3) := dk_132 3 1 (dk_at dksX2_isSo_3 10 rfl rfl)
theorem dX2_isSo_83 : decode cX2_isSo 83 = .ok (.goto (-81), 3) := dk_167 255 175 (dk_at dksX2_isSo_3 13 rfl rfl)
theorem dX2_isSo_86 : decode cX2_isSo 86 = .ok (.iconst 1, 1) := dk_4 (dk_at dksX2_isSo_3 16 rfl rfl)
theorem dX2_isSo_87 : decode cX2_isSo 87 = .ok (.ireturn, 1) := dk_172 (dk_at dksX2_isSo_3 17 rfl rfl)
abbrev cX2_image : ByteArray := prog_9_method_104_code
def yX2_image : MethodName := ⟨RX2, "image", "(I)I"⟩
def dkwX2_image_3 : List UInt8 := [180, 1, 80, 172]
abbrev dktX2_image_3 : List UInt8 := dkwX2_image_3 ++ []
def dkwX2_image_2 : List UInt8 := [180, 0, 95, 28, 46, 79, 132, 2, 1, 167, 255, 213, 42, 180, 0, 149, 27, 42, 180, 1, 80, 79, 42]
abbrev dktX2_image_2 : List UInt8 := dkwX2_image_2 ++ dktX2_image_3
def dkwX2_image_1 : List UInt8 := [16, 6, 27, 104, 28, 96, 42, 180, 0, 92, 28, 46, 79, 42, 180, 0, 155, 16, 6, 27, 104, 28, 96, 42]
abbrev dktX2_image_1 : List UInt8 := dkwX2_image_1 ++ dktX2_image_2
def dkwX2_image_0 : List UInt8 := [27, 3, 5, 184, 1, 42, 154, 0, 5, 2, 172, 3, 61, 28, 16, 6, 162, 0, 43, 42, 180, 0, 152]
abbrev dktX2_image_0 : List UInt8 := dkwX2_image_0 ++ dktX2_image_1
theorem dksX2_image_0 : cX2_image.data.toList.drop 0 = dktX2_image_0 := by decide +kernel
theorem dksX2_image_1 : cX2_image.data.toList.drop 23 = dktX2_image_1 := dk_seg dksX2_image_0 23 rfl rfl
theorem dksX2_image_2 : cX2_image.data.toList.drop 47 = dktX2_image_2 := dk_seg dksX2_image_1 24 rfl rfl
theorem dksX2_image_3 : cX2_image.data.toList.drop 70 = dktX2_image_3 := dk_seg dksX2_image_2 23 rfl rfl
theorem dX2_image_0 : decode cX2_image 0 = .ok (.iload_n 1, 1) := dk_27 (dk_at dksX2_image_0 0 rfl rfl)
theorem dX2_image_1 : decode cX2_image 1 = .ok (.iconst 0, 1) := dk_3 (dk_at dksX2_image_0 1 rfl rfl)
theorem dX2_image_2 : decode cX2_image 2 = .ok (.iconst 2, 1) := dk_5 (dk_at dksX2_image_0 2 rfl rfl)
theorem dX2_image_3 : decode cX2_image 3 = .ok (.invokestatic 298, 3) := dk_184 1 42 (dk_at dksX2_image_0 3 rfl rfl)
theorem dX2_image_6 : decode cX2_image 6 = .ok (.ifCond .ne 5, 3) := dk_154 0 5 (dk_at dksX2_image_0 6 rfl rfl)
theorem dX2_image_9 : decode cX2_image 9 = .ok (.iconst (-1), 1) := dk_2 (dk_at dksX2_image_0 9 rfl rfl)
theorem dX2_image_10 : decode cX2_image 10 = .ok (.ireturn, 1) := dk_172 (dk_at dksX2_image_0 10 rfl rfl)
theorem dX2_image_11 : decode cX2_image 11 = .ok (.iconst 0, 1) := dk_3 (dk_at dksX2_image_0 11 rfl rfl)
theorem dX2_image_12 : decode cX2_image 12 = .ok (.istore_n 2, 1) := dk_61 (dk_at dksX2_image_0 12 rfl rfl)
theorem dX2_image_13 : decode cX2_image 13 = .ok (.iload_n 2, 1) := dk_28 (dk_at dksX2_image_0 13 rfl rfl)
theorem dX2_image_14 : decode cX2_image 14 = .ok (.bipush 6, 2) := dk_16 6 (dk_at dksX2_image_0 14 rfl rfl)
theorem dX2_image_16 : decode cX2_image 16 = .ok (.if_icmp .ge 43, 3) := dk_162 0 43 (dk_at dksX2_image_0 16 rfl rfl)
theorem dX2_image_19 : decode cX2_image 19 = .ok (.aload_n 0, 1) := dk_42 (dk_at dksX2_image_0 19 rfl rfl)
theorem dX2_image_20 : decode cX2_image 20 = .ok (.getfield 152, 3) := dk_180 0 152 (dk_at dksX2_image_0 20 rfl rfl)
theorem dX2_image_23 : decode cX2_image 23 = .ok (.bipush 6, 2) := dk_16 6 (dk_at dksX2_image_1 0 rfl rfl)
theorem dX2_image_25 : decode cX2_image 25 = .ok (.iload_n 1, 1) := dk_27 (dk_at dksX2_image_1 2 rfl rfl)
theorem dX2_image_26 : decode cX2_image 26 = .ok (.imul, 1) := dk_104 (dk_at dksX2_image_1 3 rfl rfl)
theorem dX2_image_27 : decode cX2_image 27 = .ok (.iload_n 2, 1) := dk_28 (dk_at dksX2_image_1 4 rfl rfl)
theorem dX2_image_28 : decode cX2_image 28 = .ok (.iadd, 1) := dk_96 (dk_at dksX2_image_1 5 rfl rfl)
theorem dX2_image_29 : decode cX2_image 29 = .ok (.aload_n 0, 1) := dk_42 (dk_at dksX2_image_1 6 rfl rfl)
theorem dX2_image_30 : decode cX2_image 30 = .ok (.getfield 92, 3) := dk_180 0 92 (dk_at dksX2_image_1 7 rfl rfl)
theorem dX2_image_33 : decode cX2_image 33 = .ok (.iload_n 2, 1) := dk_28 (dk_at dksX2_image_1 10 rfl rfl)
theorem dX2_image_34 : decode cX2_image 34 = .ok (.iaload, 1) := dk_46 (dk_at dksX2_image_1 11 rfl rfl)
theorem dX2_image_35 : decode cX2_image 35 = .ok (.iastore, 1) := dk_79 (dk_at dksX2_image_1 12 rfl rfl)
theorem dX2_image_36 : decode cX2_image 36 = .ok (.aload_n 0, 1) := dk_42 (dk_at dksX2_image_1 13 rfl rfl)
theorem dX2_image_37 : decode cX2_image 37 = .ok (.getfield 155, 3) := dk_180 0 155 (dk_at dksX2_image_1 14 rfl rfl)
theorem dX2_image_40 : decode cX2_image 40 = .ok (.bipush 6, 2) := dk_16 6 (dk_at dksX2_image_1 17 rfl rfl)
theorem dX2_image_42 : decode cX2_image 42 = .ok (.iload_n 1, 1) := dk_27 (dk_at dksX2_image_1 19 rfl rfl)
theorem dX2_image_43 : decode cX2_image 43 = .ok (.imul, 1) := dk_104 (dk_at dksX2_image_1 20 rfl rfl)
theorem dX2_image_44 : decode cX2_image 44 = .ok (.iload_n 2, 1) := dk_28 (dk_at dksX2_image_1 21 rfl rfl)
theorem dX2_image_45 : decode cX2_image 45 = .ok (.iadd, 1) := dk_96 (dk_at dksX2_image_1 22 rfl rfl)
theorem dX2_image_46 : decode cX2_image 46 = .ok (.aload_n 0, 1) := dk_42 (dk_at dksX2_image_1 23 rfl rfl)
theorem dX2_image_47 : decode cX2_image 47 = .ok (.getfield 95, 3) := dk_180 0 95 (dk_at dksX2_image_2 0 rfl rfl)
theorem dX2_image_50 : decode cX2_image 50 = .ok (.iload_n 2, 1) := dk_28 (dk_at dksX2_image_2 3 rfl rfl)
theorem dX2_image_51 : decode cX2_image 51 = .ok (.iaload, 1) := dk_46 (dk_at dksX2_image_2 4 rfl rfl)
theorem dX2_image_52 : decode cX2_image 52 = .ok (.iastore, 1) := dk_79 (dk_at dksX2_image_2 5 rfl rfl)
theorem dX2_image_53 : decode cX2_image 53 = .ok (.iinc 2 1, 3) := dk_132 2 1 (dk_at dksX2_image_2 6 rfl rfl)
theorem dX2_image_56 : decode cX2_image 56 = .ok (.goto (-43), 3) := dk_167 255 213 (dk_at dksX2_image_2 9 rfl rfl)
theorem dX2_image_59 : decode cX2_image 59 = .ok (.aload_n 0, 1) := dk_42 (dk_at dksX2_image_2 12 rfl rfl)
theorem dX2_image_60 : decode cX2_image 60 = .ok (.getfield 149, 3) := dk_180 0 149 (dk_at dksX2_image_2 13 rfl rfl)
theorem dX2_image_63 : decode cX2_image 63 = .ok (.iload_n 1, 1) := dk_27 (dk_at dksX2_image_2 16 rfl rfl)
theorem dX2_image_64 : decode cX2_image 64 = .ok (.aload_n 0, 1) := dk_42 (dk_at dksX2_image_2 17 rfl rfl)
theorem dX2_image_65 : decode cX2_image 65 = .ok (.getfield 336, 3) := dk_180 1 80 (dk_at dksX2_image_2 18 rfl rfl)
theorem dX2_image_68 : decode cX2_image 68 = .ok (.iastore, 1) := dk_79 (dk_at dksX2_image_2 21 rfl rfl)
theorem dX2_image_69 : decode cX2_image 69 = .ok (.aload_n 0, 1) := dk_42 (dk_at dksX2_image_2 22 rfl rfl)
theorem dX2_image_70 : decode cX2_image 70 = .ok (.getfield 336, 3) := dk_180 1 80 (dk_at dksX2_image_3 0 rfl rfl)
theorem dX2_image_73 : decode cX2_image 73 = .ok (.ireturn, 1) := dk_172 (dk_at dksX2_image_3 3 rfl rfl)
abbrev cX2_back : ByteArray := prog_9_method_105_code
def yX2_back : MethodName := ⟨RX2, "back", "(I)I"⟩
def dkwX2_back_3 : List UInt8 := [42, 42, 180, 0, 149, 27, 46, 181, 1, 80, 42, 180, 1, 80, 172]
abbrev dktX2_back_3 : List UInt8 := dkwX2_back_3 ++ []
def dkwX2_back_2 : List UInt8 := [79, 42, 180, 0, 95, 28, 42, 180, 0, 155, 16, 6, 27, 104, 28, 96, 46, 79, 132, 2, 1, 167, 255, 213]
abbrev dktX2_back_2 : List UInt8 := dkwX2_back_2 ++ dktX2_back_3
def dkwX2_back_1 : List UInt8 := [3, 61, 28, 16, 6, 162, 0, 43, 42, 180, 0, 92, 28, 42, 180, 0, 152, 16, 6, 27, 104, 28, 96, 46]
abbrev dktX2_back_1 : List UInt8 := dkwX2_back_1 ++ dktX2_back_2
def dkwX2_back_0 : List UInt8 := [27, 3, 5, 184, 1, 42, 153, 0, 12, 42, 180, 0, 149, 27, 46, 156, 0, 5, 2, 172, 42, 182, 0, 161]
abbrev dktX2_back_0 : List UInt8 := dkwX2_back_0 ++ dktX2_back_1
theorem dksX2_back_0 : cX2_back.data.toList.drop 0 = dktX2_back_0 := by decide +kernel
theorem dksX2_back_1 : cX2_back.data.toList.drop 24 = dktX2_back_1 := dk_seg dksX2_back_0 24 rfl rfl
theorem dksX2_back_2 : cX2_back.data.toList.drop 48 = dktX2_back_2 := dk_seg dksX2_back_1 24 rfl rfl
theorem dksX2_back_3 : cX2_back.data.toList.drop 72 = dktX2_back_3 := dk_seg dksX2_back_2 24 rfl rfl
theorem dX2_back_0 : decode cX2_back 0 = .ok (.iload_n 1, 1) := dk_27 (dk_at dksX2_back_0 0 rfl rfl)
theorem dX2_back_1 : decode cX2_back 1 = .ok (.iconst 0, 1) := dk_3 (dk_at dksX2_back_0 1 rfl rfl)
theorem dX2_back_2 : decode cX2_back 2 = .ok (.iconst 2, 1) := dk_5 (dk_at dksX2_back_0 2 rfl rfl)
theorem dX2_back_3 : decode cX2_back 3 = .ok (.invokestatic 298, 3) := dk_184 1 42 (dk_at dksX2_back_0 3 rfl rfl)
theorem dX2_back_6 : decode cX2_back 6 = .ok (.ifCond .eq 12, 3) := dk_153 0 12 (dk_at dksX2_back_0 6 rfl rfl)
theorem dX2_back_9 : decode cX2_back 9 = .ok (.aload_n 0, 1) := dk_42 (dk_at dksX2_back_0 9 rfl rfl)
theorem dX2_back_10 : decode cX2_back 10 = .ok (.getfield 149, 3) := dk_180 0 149 (dk_at dksX2_back_0 10 rfl rfl)
theorem dX2_back_13 : decode cX2_back 13 = .ok (.iload_n 1, 1) := dk_27 (dk_at dksX2_back_0 13 rfl rfl)
theorem dX2_back_14 : decode cX2_back 14 = .ok (.iaload, 1) := dk_46 (dk_at dksX2_back_0 14 rfl rfl)
theorem dX2_back_15 : decode cX2_back 15 = .ok (.ifCond .ge 5, 3) := dk_156 0 5 (dk_at dksX2_back_0 15 rfl rfl)
theorem dX2_back_18 : decode cX2_back 18 = .ok (.iconst (-1), 1) := dk_2 (dk_at dksX2_back_0 18 rfl rfl)
theorem dX2_back_19 : decode cX2_back 19 = .ok (.ireturn, 1) := dk_172 (dk_at dksX2_back_0 19 rfl rfl)
theorem dX2_back_20 : decode cX2_back 20 = .ok (.aload_n 0, 1) := dk_42 (dk_at dksX2_back_0 20 rfl rfl)
theorem dX2_back_21 : decode cX2_back 21 = .ok (.invokevirtual 161, 3) := dk_182 0 161 (dk_at dksX2_back_0 21 rfl rfl)
theorem dX2_back_24 : decode cX2_back 24 = .ok (.iconst 0, 1) := dk_3 (dk_at dksX2_back_1 0 rfl rfl)
theorem dX2_back_25 : decode cX2_back 25 = .ok (.istore_n 2, 1) := dk_61 (dk_at dksX2_back_1 1 rfl rfl)
theorem dX2_back_26 : decode cX2_back 26 = .ok (.iload_n 2, 1) := dk_28 (dk_at dksX2_back_1 2 rfl rfl)
theorem dX2_back_27 : decode cX2_back 27 = .ok (.bipush 6, 2) := dk_16 6 (dk_at dksX2_back_1 3 rfl rfl)
theorem dX2_back_29 : decode cX2_back 29 = .ok (.if_icmp .ge 43, 3) := dk_162 0 43 (dk_at dksX2_back_1 5 rfl rfl)
theorem dX2_back_32 : decode cX2_back 32 = .ok (.aload_n 0, 1) := dk_42 (dk_at dksX2_back_1 8 rfl rfl)
theorem dX2_back_33 : decode cX2_back 33 = .ok (.getfield 92, 3) := dk_180 0 92 (dk_at dksX2_back_1 9 rfl rfl)
theorem dX2_back_36 : decode cX2_back 36 = .ok (.iload_n 2, 1) := dk_28 (dk_at dksX2_back_1 12 rfl rfl)
theorem dX2_back_37 : decode cX2_back 37 = .ok (.aload_n 0, 1) := dk_42 (dk_at dksX2_back_1 13 rfl rfl)
theorem dX2_back_38 : decode cX2_back 38 = .ok (.getfield 152, 3) := dk_180 0 152 (dk_at dksX2_back_1 14 rfl rfl)
theorem dX2_back_41 : decode cX2_back 41 = .ok (.bipush 6, 2) := dk_16 6 (dk_at dksX2_back_1 17 rfl rfl)
theorem dX2_back_43 : decode cX2_back 43 = .ok (.iload_n 1, 1) := dk_27 (dk_at dksX2_back_1 19 rfl rfl)
theorem dX2_back_44 : decode cX2_back 44 = .ok (.imul, 1) := dk_104 (dk_at dksX2_back_1 20 rfl rfl)
theorem dX2_back_45 : decode cX2_back 45 = .ok (.iload_n 2, 1) := dk_28 (dk_at dksX2_back_1 21 rfl rfl)
theorem dX2_back_46 : decode cX2_back 46 = .ok (.iadd, 1) := dk_96 (dk_at dksX2_back_1 22 rfl rfl)
theorem dX2_back_47 : decode cX2_back 47 = .ok (.iaload, 1) := dk_46 (dk_at dksX2_back_1 23 rfl rfl)
theorem dX2_back_48 : decode cX2_back 48 = .ok (.iastore, 1) := dk_79 (dk_at dksX2_back_2 0 rfl rfl)
theorem dX2_back_49 : decode cX2_back 49 = .ok (.aload_n 0, 1) := dk_42 (dk_at dksX2_back_2 1 rfl rfl)
theorem dX2_back_50 : decode cX2_back 50 = .ok (.getfield 95, 3) := dk_180 0 95 (dk_at dksX2_back_2 2 rfl rfl)
theorem dX2_back_53 : decode cX2_back 53 = .ok (.iload_n 2, 1) := dk_28 (dk_at dksX2_back_2 5 rfl rfl)
theorem dX2_back_54 : decode cX2_back 54 = .ok (.aload_n 0, 1) := dk_42 (dk_at dksX2_back_2 6 rfl rfl)
theorem dX2_back_55 : decode cX2_back 55 = .ok (.getfield 155, 3) := dk_180 0 155 (dk_at dksX2_back_2 7 rfl rfl)
theorem dX2_back_58 : decode cX2_back 58 = .ok (.bipush 6, 2) := dk_16 6 (dk_at dksX2_back_2 10 rfl rfl)
theorem dX2_back_60 : decode cX2_back 60 = .ok (.iload_n 1, 1) := dk_27 (dk_at dksX2_back_2 12 rfl rfl)
theorem dX2_back_61 : decode cX2_back 61 = .ok (.imul, 1) := dk_104 (dk_at dksX2_back_2 13 rfl rfl)
theorem dX2_back_62 : decode cX2_back 62 = .ok (.iload_n 2, 1) := dk_28 (dk_at dksX2_back_2 14 rfl rfl)
theorem dX2_back_63 : decode cX2_back 63 = .ok (.iadd, 1) := dk_96 (dk_at dksX2_back_2 15 rfl rfl)
theorem dX2_back_64 : decode cX2_back 64 = .ok (.iaload, 1) := dk_46 (dk_at dksX2_back_2 16 rfl rfl)
theorem dX2_back_65 : decode cX2_back 65 = .ok (.iastore, 1) := dk_79 (dk_at dksX2_back_2 17 rfl rfl)
theorem dX2_back_66 : decode cX2_back 66 = .ok (.iinc 2 1, 3) := dk_132 2 1 (dk_at dksX2_back_2 18 rfl rfl)
theorem dX2_back_69 : decode cX2_back 69 = .ok (.goto (-43), 3) := dk_167 255 213 (dk_at dksX2_back_2 21 rfl rfl)
theorem dX2_back_72 : decode cX2_back 72 = .ok (.aload_n 0, 1) := dk_42 (dk_at dksX2_back_3 0 rfl rfl)
theorem dX2_back_73 : decode cX2_back 73 = .ok (.aload_n 0, 1) := dk_42 (dk_at dksX2_back_3 1 rfl rfl)
theorem dX2_back_74 : decode cX2_back 74 = .ok (.getfield 149, 3) := dk_180 0 149 (dk_at dksX2_back_3 2 rfl rfl)
theorem dX2_back_77 : decode cX2_back 77 = .ok (.iload_n 1, 1) := dk_27 (dk_at dksX2_back_3 5 rfl rfl)
theorem dX2_back_78 : decode cX2_back 78 = .ok (.iaload, 1) := dk_46 (dk_at dksX2_back_3 6 rfl rfl)
theorem dX2_back_79 : decode cX2_back 79 = .ok (.putfield 336, 3) := dk_181 1 80 (dk_at dksX2_back_3 7 rfl rfl)
theorem dX2_back_82 : decode cX2_back 82 = .ok (.aload_n 0, 1) := dk_42 (dk_at dksX2_back_3 10 rfl rfl)
theorem dX2_back_83 : decode cX2_back 83 = .ok (.getfield 336, 3) := dk_180 1 80 (dk_at dksX2_back_3 11 rfl rfl)
theorem dX2_back_86 : decode cX2_back 86 = .ok (.ireturn, 1) := dk_172 (dk_at dksX2_back_3 14 rfl rfl)
abbrev cX2_about : ByteArray := prog_9_method_106_code
def yX2_about : MethodName := ⟨RX2, "about", "(I)I"⟩
def dkwX2_about_5 : List UInt8 := [42, 180, 0, 230, 172, 42, 180, 0, 248, 172, 2, 172]
abbrev dktX2_about_5 : List UInt8 := dkwX2_about_5 ++ []
def dkwX2_about_4 : List UInt8 := [180, 1, 80, 172, 42, 180, 1, 83, 172, 42, 180, 1, 86, 172, 42, 180, 0, 245, 172, 42, 180, 1, 217, 172]
abbrev dktX2_about_4 : List UInt8 := dkwX2_about_4 ++ dktX2_about_5
def dkwX2_about_3 : List UInt8 := [42, 180, 0, 233, 46, 172, 42, 180, 0, 30, 42, 180, 0, 233, 46, 172, 42, 182, 1, 46, 172, 42]
abbrev dktX2_about_3 : List UInt8 := dkwX2_about_3 ++ dktX2_about_4
def dkwX2_about_2 : List UInt8 := [42, 180, 0, 20, 42, 180, 0, 233, 46, 172, 42, 180, 0, 24, 42, 180, 0, 233, 46, 172, 42, 180, 0, 27]
abbrev dktX2_about_2 : List UInt8 := dkwX2_about_2 ++ dktX2_about_3
def dkwX2_about_1 : List UInt8 := [170, 0, 0, 0, 0, 0, 143, 0, 0, 0, 0, 0, 0, 0, 11, 0, 0, 0, 63, 0, 0, 0, 73, 0, 0, 0, 83, 0, 0, 0, 93, 0, 0, 0, 103, 0, 0, 0, 108, 0, 0, 0, 113, 0, 0, 0, 118, 0, 0, 0, 123, 0, 0, 0, 128, 0, 0, 0, 133, 0, 0, 0, 138]
abbrev dktX2_about_1 : List UInt8 := dkwX2_about_1 ++ dktX2_about_2
def dkwX2_about_0 : List UInt8 := [27]
abbrev dktX2_about_0 : List UInt8 := dkwX2_about_0 ++ dktX2_about_1
theorem dksX2_about_0 : cX2_about.data.toList.drop 0 = dktX2_about_0 := by decide +kernel
theorem dksX2_about_1 : cX2_about.data.toList.drop 1 = dktX2_about_1 := dk_seg dksX2_about_0 1 rfl rfl
theorem dksX2_about_2 : cX2_about.data.toList.drop 64 = dktX2_about_2 := dk_seg dksX2_about_1 63 rfl rfl
theorem dksX2_about_3 : cX2_about.data.toList.drop 88 = dktX2_about_3 := dk_seg dksX2_about_2 24 rfl rfl
theorem dksX2_about_4 : cX2_about.data.toList.drop 110 = dktX2_about_4 := dk_seg dksX2_about_3 22 rfl rfl
theorem dksX2_about_5 : cX2_about.data.toList.drop 134 = dktX2_about_5 := dk_seg dksX2_about_4 24 rfl rfl
theorem dX2_about_0 : decode cX2_about 0 = .ok (.iload_n 1, 1) := dk_27 (dk_at dksX2_about_0 0 rfl rfl)
theorem dX2_about_1 : decode cX2_about 1 = .ok (.tableswitch 143 0 11 #[63, 73, 83, 93, 103, 108, 113, 118, 123, 128, 133, 138], 63) := by decide +kernel
theorem dX2_about_64 : decode cX2_about 64 = .ok (.aload_n 0, 1) := dk_42 (dk_at dksX2_about_2 0 rfl rfl)
theorem dX2_about_65 : decode cX2_about 65 = .ok (.getfield 20, 3) := dk_180 0 20 (dk_at dksX2_about_2 1 rfl rfl)
theorem dX2_about_68 : decode cX2_about 68 = .ok (.aload_n 0, 1) := dk_42 (dk_at dksX2_about_2 4 rfl rfl)
theorem dX2_about_69 : decode cX2_about 69 = .ok (.getfield 233, 3) := dk_180 0 233 (dk_at dksX2_about_2 5 rfl rfl)
theorem dX2_about_72 : decode cX2_about 72 = .ok (.iaload, 1) := dk_46 (dk_at dksX2_about_2 8 rfl rfl)
theorem dX2_about_73 : decode cX2_about 73 = .ok (.ireturn, 1) := dk_172 (dk_at dksX2_about_2 9 rfl rfl)
theorem dX2_about_74 : decode cX2_about 74 = .ok (.aload_n 0, 1) := dk_42 (dk_at dksX2_about_2 10 rfl rfl)
theorem dX2_about_75 : decode cX2_about 75 = .ok (.getfield 24, 3) := dk_180 0 24 (dk_at dksX2_about_2 11 rfl rfl)
theorem dX2_about_78 : decode cX2_about 78 = .ok (.aload_n 0, 1) := dk_42 (dk_at dksX2_about_2 14 rfl rfl)
theorem dX2_about_79 : decode cX2_about 79 = .ok (.getfield 233, 3) := dk_180 0 233 (dk_at dksX2_about_2 15 rfl rfl)
theorem dX2_about_82 : decode cX2_about 82 = .ok (.iaload, 1) := dk_46 (dk_at dksX2_about_2 18 rfl rfl)
theorem dX2_about_83 : decode cX2_about 83 = .ok (.ireturn, 1) := dk_172 (dk_at dksX2_about_2 19 rfl rfl)
theorem dX2_about_84 : decode cX2_about 84 = .ok (.aload_n 0, 1) := dk_42 (dk_at dksX2_about_2 20 rfl rfl)
theorem dX2_about_85 : decode cX2_about 85 = .ok (.getfield 27, 3) := dk_180 0 27 (dk_at dksX2_about_2 21 rfl rfl)
theorem dX2_about_88 : decode cX2_about 88 = .ok (.aload_n 0, 1) := dk_42 (dk_at dksX2_about_3 0 rfl rfl)
theorem dX2_about_89 : decode cX2_about 89 = .ok (.getfield 233, 3) := dk_180 0 233 (dk_at dksX2_about_3 1 rfl rfl)
theorem dX2_about_92 : decode cX2_about 92 = .ok (.iaload, 1) := dk_46 (dk_at dksX2_about_3 4 rfl rfl)
theorem dX2_about_93 : decode cX2_about 93 = .ok (.ireturn, 1) := dk_172 (dk_at dksX2_about_3 5 rfl rfl)
theorem dX2_about_94 : decode cX2_about 94 = .ok (.aload_n 0, 1) := dk_42 (dk_at dksX2_about_3 6 rfl rfl)
theorem dX2_about_95 : decode cX2_about 95 = .ok (.getfield 30, 3) := dk_180 0 30 (dk_at dksX2_about_3 7 rfl rfl)
theorem dX2_about_98 : decode cX2_about 98 = .ok (.aload_n 0, 1) := dk_42 (dk_at dksX2_about_3 10 rfl rfl)
theorem dX2_about_99 : decode cX2_about 99 = .ok (.getfield 233, 3) := dk_180 0 233 (dk_at dksX2_about_3 11 rfl rfl)
theorem dX2_about_102 : decode cX2_about 102 = .ok (.iaload, 1) := dk_46 (dk_at dksX2_about_3 14 rfl rfl)
theorem dX2_about_103 : decode cX2_about 103 = .ok (.ireturn, 1) := dk_172 (dk_at dksX2_about_3 15 rfl rfl)
theorem dX2_about_104 : decode cX2_about 104 = .ok (.aload_n 0, 1) := dk_42 (dk_at dksX2_about_3 16 rfl rfl)
theorem dX2_about_105 : decode cX2_about 105 = .ok (.invokevirtual 302, 3) := dk_182 1 46 (dk_at dksX2_about_3 17 rfl rfl)
theorem dX2_about_108 : decode cX2_about 108 = .ok (.ireturn, 1) := dk_172 (dk_at dksX2_about_3 20 rfl rfl)
theorem dX2_about_109 : decode cX2_about 109 = .ok (.aload_n 0, 1) := dk_42 (dk_at dksX2_about_3 21 rfl rfl)
theorem dX2_about_110 : decode cX2_about 110 = .ok (.getfield 336, 3) := dk_180 1 80 (dk_at dksX2_about_4 0 rfl rfl)
theorem dX2_about_113 : decode cX2_about 113 = .ok (.ireturn, 1) := dk_172 (dk_at dksX2_about_4 3 rfl rfl)
theorem dX2_about_114 : decode cX2_about 114 = .ok (.aload_n 0, 1) := dk_42 (dk_at dksX2_about_4 4 rfl rfl)
theorem dX2_about_115 : decode cX2_about 115 = .ok (.getfield 339, 3) := dk_180 1 83 (dk_at dksX2_about_4 5 rfl rfl)
theorem dX2_about_118 : decode cX2_about 118 = .ok (.ireturn, 1) := dk_172 (dk_at dksX2_about_4 8 rfl rfl)
theorem dX2_about_119 : decode cX2_about 119 = .ok (.aload_n 0, 1) := dk_42 (dk_at dksX2_about_4 9 rfl rfl)
theorem dX2_about_120 : decode cX2_about 120 = .ok (.getfield 342, 3) := dk_180 1 86 (dk_at dksX2_about_4 10 rfl rfl)
theorem dX2_about_123 : decode cX2_about 123 = .ok (.ireturn, 1) := dk_172 (dk_at dksX2_about_4 13 rfl rfl)
theorem dX2_about_124 : decode cX2_about 124 = .ok (.aload_n 0, 1) := dk_42 (dk_at dksX2_about_4 14 rfl rfl)
theorem dX2_about_125 : decode cX2_about 125 = .ok (.getfield 245, 3) := dk_180 0 245 (dk_at dksX2_about_4 15 rfl rfl)
theorem dX2_about_128 : decode cX2_about 128 = .ok (.ireturn, 1) := dk_172 (dk_at dksX2_about_4 18 rfl rfl)
theorem dX2_about_129 : decode cX2_about 129 = .ok (.aload_n 0, 1) := dk_42 (dk_at dksX2_about_4 19 rfl rfl)
theorem dX2_about_130 : decode cX2_about 130 = .ok (.getfield 473, 3) := dk_180 1 217 (dk_at dksX2_about_4 20 rfl rfl)
theorem dX2_about_133 : decode cX2_about 133 = .ok (.ireturn, 1) := dk_172 (dk_at dksX2_about_4 23 rfl rfl)
theorem dX2_about_134 : decode cX2_about 134 = .ok (.aload_n 0, 1) := dk_42 (dk_at dksX2_about_5 0 rfl rfl)
theorem dX2_about_135 : decode cX2_about 135 = .ok (.getfield 230, 3) := dk_180 0 230 (dk_at dksX2_about_5 1 rfl rfl)
theorem dX2_about_138 : decode cX2_about 138 = .ok (.ireturn, 1) := dk_172 (dk_at dksX2_about_5 4 rfl rfl)
theorem dX2_about_139 : decode cX2_about 139 = .ok (.aload_n 0, 1) := dk_42 (dk_at dksX2_about_5 5 rfl rfl)
theorem dX2_about_140 : decode cX2_about 140 = .ok (.getfield 248, 3) := dk_180 0 248 (dk_at dksX2_about_5 6 rfl rfl)
theorem dX2_about_143 : decode cX2_about 143 = .ok (.ireturn, 1) := dk_172 (dk_at dksX2_about_5 9 rfl rfl)
theorem dX2_about_144 : decode cX2_about 144 = .ok (.iconst (-1), 1) := dk_2 (dk_at dksX2_about_5 10 rfl rfl)
theorem dX2_about_145 : decode cX2_about 145 = .ok (.ireturn, 1) := dk_172 (dk_at dksX2_about_5 11 rfl rfl)
abbrev cX2_feed : ByteArray := prog_9_method_107_code
def yX2_feed : MethodName := ⟨RX2, "feed", "(IIIII)I"⟩
def dkwX2_feed_5 : List UInt8 := [180, 0, 230, 172]
abbrev dktX2_feed_5 : List UInt8 := dkwX2_feed_5 ++ []
def dkwX2_feed_4 : List UInt8 := [126, 104, 100, 122, 145, 84, 132, 6, 1, 167, 255, 172, 42, 89, 180, 0, 230, 16, 20, 96, 181, 0, 230, 42]
abbrev dktX2_feed_4 : List UInt8 := dkwX2_feed_4 ++ dktX2_feed_5
def dkwX2_feed_3 : List UInt8 := [21, 5, 54, 7, 42, 180, 0, 7, 42, 180, 0, 230, 21, 6, 96, 21, 7, 16, 24, 16, 8, 21, 6, 6]
abbrev dktX2_feed_3 : List UInt8 := dkwX2_feed_3 ++ dktX2_feed_4
def dkwX2_feed_2 : List UInt8 := [21, 6, 16, 12, 162, 0, 7, 29, 167, 0, 17, 21, 6, 16, 16, 162, 0, 8, 21, 4, 167, 0, 5]
abbrev dktX2_feed_2 : List UInt8 := dkwX2_feed_2 ++ dktX2_feed_3
def dkwX2_feed_1 : List UInt8 := [162, 0, 83, 21, 6, 7, 162, 0, 7, 27, 167, 0, 39, 21, 6, 16, 8, 162, 0, 7, 28, 167, 0, 28]
abbrev dktX2_feed_1 : List UInt8 := dkwX2_feed_1 ++ dktX2_feed_2
def dkwX2_feed_0 : List UInt8 := [42, 180, 0, 230, 16, 20, 96, 17, 6, 64, 164, 0, 5, 2, 172, 3, 54, 6, 21, 6, 16, 20]
abbrev dktX2_feed_0 : List UInt8 := dkwX2_feed_0 ++ dktX2_feed_1
theorem dksX2_feed_0 : cX2_feed.data.toList.drop 0 = dktX2_feed_0 := by decide +kernel
theorem dksX2_feed_1 : cX2_feed.data.toList.drop 22 = dktX2_feed_1 := dk_seg dksX2_feed_0 22 rfl rfl
theorem dksX2_feed_2 : cX2_feed.data.toList.drop 46 = dktX2_feed_2 := dk_seg dksX2_feed_1 24 rfl rfl
theorem dksX2_feed_3 : cX2_feed.data.toList.drop 69 = dktX2_feed_3 := dk_seg dksX2_feed_2 23 rfl rfl
theorem dksX2_feed_4 : cX2_feed.data.toList.drop 93 = dktX2_feed_4 := dk_seg dksX2_feed_3 24 rfl rfl
theorem dksX2_feed_5 : cX2_feed.data.toList.drop 117 = dktX2_feed_5 := dk_seg dksX2_feed_4 24 rfl rfl
theorem dX2_feed_0 : decode cX2_feed 0 = .ok (.aload_n 0, 1) := dk_42 (dk_at dksX2_feed_0 0 rfl rfl)
theorem dX2_feed_1 : decode cX2_feed 1 = .ok (.getfield 230, 3) := dk_180 0 230 (dk_at dksX2_feed_0 1 rfl rfl)
theorem dX2_feed_4 : decode cX2_feed 4 = .ok (.bipush 20, 2) := dk_16 20 (dk_at dksX2_feed_0 4 rfl rfl)
theorem dX2_feed_6 : decode cX2_feed 6 = .ok (.iadd, 1) := dk_96 (dk_at dksX2_feed_0 6 rfl rfl)
theorem dX2_feed_7 : decode cX2_feed 7 = .ok (.sipush 1600, 3) := dk_17 6 64 (dk_at dksX2_feed_0 7 rfl rfl)
theorem dX2_feed_10 : decode cX2_feed 10 = .ok (.if_icmp .le 5, 3) := dk_164 0 5 (dk_at dksX2_feed_0 10 rfl rfl)
theorem dX2_feed_13 : decode cX2_feed 13 = .ok (.iconst (-1), 1) := dk_2 (dk_at dksX2_feed_0 13 rfl rfl)
theorem dX2_feed_14 : decode cX2_feed 14 = .ok (.ireturn, 1) := dk_172 (dk_at dksX2_feed_0 14 rfl rfl)
theorem dX2_feed_15 : decode cX2_feed 15 = .ok (.iconst 0, 1) := dk_3 (dk_at dksX2_feed_0 15 rfl rfl)
theorem dX2_feed_16 : decode cX2_feed 16 = .ok (.istore 6, 2) := dk_54 6 (dk_at dksX2_feed_0 16 rfl rfl)
theorem dX2_feed_18 : decode cX2_feed 18 = .ok (.iload 6, 2) := dk_21 6 (dk_at dksX2_feed_0 18 rfl rfl)
theorem dX2_feed_20 : decode cX2_feed 20 = .ok (.bipush 20, 2) := dk_16 20 (dk_at dksX2_feed_0 20 rfl rfl)
theorem dX2_feed_22 : decode cX2_feed 22 = .ok (.if_icmp .ge 83, 3) := dk_162 0 83 (dk_at dksX2_feed_1 0 rfl rfl)
theorem dX2_feed_25 : decode cX2_feed 25 = .ok (.iload 6, 2) := dk_21 6 (dk_at dksX2_feed_1 3 rfl rfl)
theorem dX2_feed_27 : decode cX2_feed 27 = .ok (.iconst 4, 1) := dk_7 (dk_at dksX2_feed_1 5 rfl rfl)
theorem dX2_feed_28 : decode cX2_feed 28 = .ok (.if_icmp .ge 7, 3) := dk_162 0 7 (dk_at dksX2_feed_1 6 rfl rfl)
theorem dX2_feed_31 : decode cX2_feed 31 = .ok (.iload_n 1, 1) := dk_27 (dk_at dksX2_feed_1 9 rfl rfl)
theorem dX2_feed_32 : decode cX2_feed 32 = .ok (.goto 39, 3) := dk_167 0 39 (dk_at dksX2_feed_1 10 rfl rfl)
theorem dX2_feed_35 : decode cX2_feed 35 = .ok (.iload 6, 2) := dk_21 6 (dk_at dksX2_feed_1 13 rfl rfl)
theorem dX2_feed_37 : decode cX2_feed 37 = .ok (.bipush 8, 2) := dk_16 8 (dk_at dksX2_feed_1 15 rfl rfl)
theorem dX2_feed_39 : decode cX2_feed 39 = .ok (.if_icmp .ge 7, 3) := dk_162 0 7 (dk_at dksX2_feed_1 17 rfl rfl)
theorem dX2_feed_42 : decode cX2_feed 42 = .ok (.iload_n 2, 1) := dk_28 (dk_at dksX2_feed_1 20 rfl rfl)
theorem dX2_feed_43 : decode cX2_feed 43 = .ok (.goto 28, 3) := dk_167 0 28 (dk_at dksX2_feed_1 21 rfl rfl)
theorem dX2_feed_46 : decode cX2_feed 46 = .ok (.iload 6, 2) := dk_21 6 (dk_at dksX2_feed_2 0 rfl rfl)
theorem dX2_feed_48 : decode cX2_feed 48 = .ok (.bipush 12, 2) := dk_16 12 (dk_at dksX2_feed_2 2 rfl rfl)
theorem dX2_feed_50 : decode cX2_feed 50 = .ok (.if_icmp .ge 7, 3) := dk_162 0 7 (dk_at dksX2_feed_2 4 rfl rfl)
theorem dX2_feed_53 : decode cX2_feed 53 = .ok (.iload_n 3, 1) := dk_29 (dk_at dksX2_feed_2 7 rfl rfl)
theorem dX2_feed_54 : decode cX2_feed 54 = .ok (.goto 17, 3) := dk_167 0 17 (dk_at dksX2_feed_2 8 rfl rfl)
theorem dX2_feed_57 : decode cX2_feed 57 = .ok (.iload 6, 2) := dk_21 6 (dk_at dksX2_feed_2 11 rfl rfl)
theorem dX2_feed_59 : decode cX2_feed 59 = .ok (.bipush 16, 2) := dk_16 16 (dk_at dksX2_feed_2 13 rfl rfl)
theorem dX2_feed_61 : decode cX2_feed 61 = .ok (.if_icmp .ge 8, 3) := dk_162 0 8 (dk_at dksX2_feed_2 15 rfl rfl)
theorem dX2_feed_64 : decode cX2_feed 64 = .ok (.iload 4, 2) := dk_21 4 (dk_at dksX2_feed_2 18 rfl rfl)
theorem dX2_feed_66 : decode cX2_feed 66 = .ok (.goto 5, 3) := dk_167 0 5 (dk_at dksX2_feed_2 20 rfl rfl)
theorem dX2_feed_69 : decode cX2_feed 69 = .ok (.iload 5, 2) := dk_21 5 (dk_at dksX2_feed_3 0 rfl rfl)
theorem dX2_feed_71 : decode cX2_feed 71 = .ok (.istore 7, 2) := dk_54 7 (dk_at dksX2_feed_3 2 rfl rfl)
theorem dX2_feed_73 : decode cX2_feed 73 = .ok (.aload_n 0, 1) := dk_42 (dk_at dksX2_feed_3 4 rfl rfl)
theorem dX2_feed_74 : decode cX2_feed 74 = .ok (.getfield 7, 3) := dk_180 0 7 (dk_at dksX2_feed_3 5 rfl rfl)
theorem dX2_feed_77 : decode cX2_feed 77 = .ok (.aload_n 0, 1) := dk_42 (dk_at dksX2_feed_3 8 rfl rfl)
theorem dX2_feed_78 : decode cX2_feed 78 = .ok (.getfield 230, 3) := dk_180 0 230 (dk_at dksX2_feed_3 9 rfl rfl)
theorem dX2_feed_81 : decode cX2_feed 81 = .ok (.iload 6, 2) := dk_21 6 (dk_at dksX2_feed_3 12 rfl rfl)
theorem dX2_feed_83 : decode cX2_feed 83 = .ok (.iadd, 1) := dk_96 (dk_at dksX2_feed_3 14 rfl rfl)
theorem dX2_feed_84 : decode cX2_feed 84 = .ok (.iload 7, 2) := dk_21 7 (dk_at dksX2_feed_3 15 rfl rfl)
theorem dX2_feed_86 : decode cX2_feed 86 = .ok (.bipush 24, 2) := dk_16 24 (dk_at dksX2_feed_3 17 rfl rfl)
theorem dX2_feed_88 : decode cX2_feed 88 = .ok (.bipush 8, 2) := dk_16 8 (dk_at dksX2_feed_3 19 rfl rfl)
theorem dX2_feed_90 : decode cX2_feed 90 = .ok (.iload 6, 2) := dk_21 6 (dk_at dksX2_feed_3 21 rfl rfl)
theorem dX2_feed_92 : decode cX2_feed 92 = .ok (.iconst 3, 1) := dk_6 (dk_at dksX2_feed_3 23 rfl rfl)
theorem dX2_feed_93 : decode cX2_feed 93 = .ok (.iand, 1) := dk_126 (dk_at dksX2_feed_4 0 rfl rfl)
theorem dX2_feed_94 : decode cX2_feed 94 = .ok (.imul, 1) := dk_104 (dk_at dksX2_feed_4 1 rfl rfl)
theorem dX2_feed_95 : decode cX2_feed 95 = .ok (.isub, 1) := dk_100 (dk_at dksX2_feed_4 2 rfl rfl)
theorem dX2_feed_96 : decode cX2_feed 96 = .ok (.ishr, 1) := dk_122 (dk_at dksX2_feed_4 3 rfl rfl)
theorem dX2_feed_97 : decode cX2_feed 97 = .ok (.i2b, 1) := dk_145 (dk_at dksX2_feed_4 4 rfl rfl)
theorem dX2_feed_98 : decode cX2_feed 98 = .ok (.bastore, 1) := dk_84 (dk_at dksX2_feed_4 5 rfl rfl)
theorem dX2_feed_99 : decode cX2_feed 99 = .ok (.iinc 6 1, 3) := dk_132 6 1 (dk_at dksX2_feed_4 6 rfl rfl)
theorem dX2_feed_102 : decode cX2_feed 102 = .ok (.goto (-84), 3) := dk_167 255 172 (dk_at dksX2_feed_4 9 rfl rfl)
theorem dX2_feed_105 : decode cX2_feed 105 = .ok (.aload_n 0, 1) := dk_42 (dk_at dksX2_feed_4 12 rfl rfl)
theorem dX2_feed_106 : decode cX2_feed 106 = .ok (.dup, 1) := dk_89 (dk_at dksX2_feed_4 13 rfl rfl)
theorem dX2_feed_107 : decode cX2_feed 107 = .ok (.getfield 230, 3) := dk_180 0 230 (dk_at dksX2_feed_4 14 rfl rfl)
theorem dX2_feed_110 : decode cX2_feed 110 = .ok (.bipush 20, 2) := dk_16 20 (dk_at dksX2_feed_4 17 rfl rfl)
theorem dX2_feed_112 : decode cX2_feed 112 = .ok (.iadd, 1) := dk_96 (dk_at dksX2_feed_4 19 rfl rfl)
theorem dX2_feed_113 : decode cX2_feed 113 = .ok (.putfield 230, 3) := dk_181 0 230 (dk_at dksX2_feed_4 20 rfl rfl)
theorem dX2_feed_116 : decode cX2_feed 116 = .ok (.aload_n 0, 1) := dk_42 (dk_at dksX2_feed_4 23 rfl rfl)
theorem dX2_feed_117 : decode cX2_feed 117 = .ok (.getfield 230, 3) := dk_180 0 230 (dk_at dksX2_feed_5 0 rfl rfl)
theorem dX2_feed_120 : decode cX2_feed 120 = .ok (.ireturn, 1) := dk_172 (dk_at dksX2_feed_5 3 rfl rfl)
abbrev cX2_end : ByteArray := prog_9_method_108_code
def yX2_end : MethodName := ⟨RX2, "end", "(I)I"⟩
def dkwX2_end_0 : List UInt8 := [27, 155, 0, 11, 27, 42, 180, 0, 230, 164, 0, 5, 2, 172, 42, 27, 181, 0, 230, 27, 172]
abbrev dktX2_end_0 : List UInt8 := dkwX2_end_0 ++ []
theorem dksX2_end_0 : cX2_end.data.toList.drop 0 = dktX2_end_0 := by decide +kernel
theorem dX2_end_0 : decode cX2_end 0 = .ok (.iload_n 1, 1) := dk_27 (dk_at dksX2_end_0 0 rfl rfl)
theorem dX2_end_1 : decode cX2_end 1 = .ok (.ifCond .lt 11, 3) := dk_155 0 11 (dk_at dksX2_end_0 1 rfl rfl)
theorem dX2_end_4 : decode cX2_end 4 = .ok (.iload_n 1, 1) := dk_27 (dk_at dksX2_end_0 4 rfl rfl)
theorem dX2_end_5 : decode cX2_end 5 = .ok (.aload_n 0, 1) := dk_42 (dk_at dksX2_end_0 5 rfl rfl)
theorem dX2_end_6 : decode cX2_end 6 = .ok (.getfield 230, 3) := dk_180 0 230 (dk_at dksX2_end_0 6 rfl rfl)
theorem dX2_end_9 : decode cX2_end 9 = .ok (.if_icmp .le 5, 3) := dk_164 0 5 (dk_at dksX2_end_0 9 rfl rfl)
theorem dX2_end_12 : decode cX2_end 12 = .ok (.iconst (-1), 1) := dk_2 (dk_at dksX2_end_0 12 rfl rfl)
theorem dX2_end_13 : decode cX2_end 13 = .ok (.ireturn, 1) := dk_172 (dk_at dksX2_end_0 13 rfl rfl)
theorem dX2_end_14 : decode cX2_end 14 = .ok (.aload_n 0, 1) := dk_42 (dk_at dksX2_end_0 14 rfl rfl)
theorem dX2_end_15 : decode cX2_end 15 = .ok (.iload_n 1, 1) := dk_27 (dk_at dksX2_end_0 15 rfl rfl)
theorem dX2_end_16 : decode cX2_end 16 = .ok (.putfield 230, 3) := dk_181 0 230 (dk_at dksX2_end_0 16 rfl rfl)
theorem dX2_end_19 : decode cX2_end 19 = .ok (.iload_n 1, 1) := dk_27 (dk_at dksX2_end_0 19 rfl rfl)
theorem dX2_end_20 : decode cX2_end 20 = .ok (.ireturn, 1) := dk_172 (dk_at dksX2_end_0 20 rfl rfl)
theorem q120 : (Jvm.Cond.initialized "GuildCharterModel") ∈ lw_all := lw_g (lw_at lw_m1 6 rfl) rfl
theorem q822 : (Jvm.Cond.selects "GuildCharterModel" ({ cls := "java/lang/Object", name := "getClass", desc := "()Ljava/lang/Class;" } : Jvm.MethodName) ({ cls := "java/lang/Object", name := "getClass", desc := "()Ljava/lang/Class;" } : Jvm.MethodName)) ∈ lw_all := lw_g (lw_at lw_m3 228 rfl) rfl
theorem q1243 : (Jvm.Cond.instantiable "GuildCharterModel" (71 : Nat)) ∈ lw_all := lw_g (lw_at lw_m5 169 rfl) rfl
theorem q1245 : (Jvm.Cond.instanceMethod ({ cls := "GuildCharterModel", name := "<init>", desc := "()V" } : Jvm.MethodName)) ∈ lw_all := lw_g (lw_at lw_m5 171 rfl) rfl
theorem q1246 : (Jvm.Cond.code ({ cls := "GuildCharterModel", name := "<init>", desc := "()V" } : Jvm.MethodName) prog_9_method_1_code (2 : Nat) (Option.none : Option Jvm.ClassFile.FieldType)) ∈ lw_all := lw_g (lw_at lw_m5 172 rfl) rfl
theorem q1247 : (Jvm.Cond.methodLink "GuildCharterModel" (1 : Nat) ({ cls := "java/lang/Object", name := "<init>", desc := "()V" } : Jvm.MethodName)) ∈ lw_all := lw_g (lw_at lw_m5 173 rfl) rfl
theorem q1248 : (Jvm.Cond.methodLink "GuildCharterModel" (158 : Nat) ({ cls := "GuildCharterModel", name := "clearBank", desc := "()V" } : Jvm.MethodName)) ∈ lw_all := lw_g (lw_at lw_m5 174 rfl) rfl
theorem q1249 : (Jvm.Cond.privateMethod ({ cls := "GuildCharterModel", name := "clearBank", desc := "()V" } : Jvm.MethodName)) ∈ lw_tbl := lw_at lw_m5 175 rfl
theorem q1250 : (Jvm.Cond.instanceMethod ({ cls := "GuildCharterModel", name := "clearBank", desc := "()V" } : Jvm.MethodName)) ∈ lw_all := lw_g (lw_at lw_m5 176 rfl) rfl
theorem q1251 : (Jvm.Cond.code ({ cls := "GuildCharterModel", name := "clearBank", desc := "()V" } : Jvm.MethodName) prog_9_method_14_code (2 : Nat) (Option.none : Option Jvm.ClassFile.FieldType)) ∈ lw_all := lw_g (lw_at lw_m5 177 rfl) rfl
theorem q1252 : (Jvm.Cond.methodLink "GuildCharterModel" (161 : Nat) ({ cls := "GuildCharterModel", name := "begin", desc := "()V" } : Jvm.MethodName)) ∈ lw_all := lw_g (lw_at lw_m5 178 rfl) rfl
theorem q1253 : (Jvm.Cond.privateMethod ({ cls := "GuildCharterModel", name := "begin", desc := "()V" } : Jvm.MethodName)) ∈ lw_tbl := lw_at lw_m5 179 rfl
theorem q1254 : (Jvm.Cond.instanceMethod ({ cls := "GuildCharterModel", name := "begin", desc := "()V" } : Jvm.MethodName)) ∈ lw_all := lw_g (lw_at lw_m5 180 rfl) rfl
theorem q1255 : (Jvm.Cond.code ({ cls := "GuildCharterModel", name := "begin", desc := "()V" } : Jvm.MethodName) prog_9_method_45_code (2 : Nat) (Option.none : Option Jvm.ClassFile.FieldType)) ∈ lw_all := lw_g (lw_at lw_m5 181 rfl) rfl
theorem q1256 : (Jvm.Cond.methodLink "GuildCharterModel" (345 : Nat) ({ cls := "GuildCharterModel", name := "toldTurn", desc := "(I)I" } : Jvm.MethodName)) ∈ lw_all := lw_g (lw_at lw_m5 182 rfl) rfl
theorem q1257 : (Jvm.Cond.privateMethod ({ cls := "GuildCharterModel", name := "toldTurn", desc := "(I)I" } : Jvm.MethodName)) ∈ lw_tbl := lw_at lw_m5 183 rfl
theorem q1258 : (Jvm.Cond.instanceMethod ({ cls := "GuildCharterModel", name := "toldTurn", desc := "(I)I" } : Jvm.MethodName)) ∈ lw_all := lw_g (lw_at lw_m5 184 rfl) rfl
theorem q1259 : (Jvm.Cond.code ({ cls := "GuildCharterModel", name := "toldTurn", desc := "(I)I" } : Jvm.MethodName) prog_9_method_44_code (2 : Nat) (Option.some Jvm.ClassFile.FieldType.int)) ∈ lw_all := lw_g (lw_at lw_m5 185 rfl) rfl
theorem q1260 : (Jvm.Cond.fieldLink "GuildCharterModel" (7 : Nat) "GuildCharterModel" "tape" "[B") ∈ lw_all := lw_g (lw_at lw_m5 186 rfl) rfl
theorem q1261 : (Jvm.Cond.fieldLink "GuildCharterModel" (13 : Nat) "GuildCharterModel" "text" "[B") ∈ lw_all := lw_g (lw_at lw_m5 187 rfl) rfl
theorem q1262 : (Jvm.Cond.fieldLink "GuildCharterModel" (230 : Nat) "GuildCharterModel" "taped" "I") ∈ lw_all := lw_g (lw_at lw_m5 188 rfl) rfl
theorem q1263 : (Jvm.Cond.fieldLink "GuildCharterModel" (164 : Nat) "GuildCharterModel" "size" "I") ∈ lw_all := lw_g (lw_at lw_m5 189 rfl) rfl
theorem q1264 : (Jvm.Cond.fieldLink "GuildCharterModel" (167 : Nat) "GuildCharterModel" "faultKind" "I") ∈ lw_all := lw_g (lw_at lw_m5 190 rfl) rfl
theorem q1265 : (Jvm.Cond.fieldLink "GuildCharterModel" (16 : Nat) "GuildCharterModel" "faultPlace" "I") ∈ lw_all := lw_g (lw_at lw_m5 191 rfl) rfl
theorem q1266 : (Jvm.Cond.fieldLink "GuildCharterModel" (185 : Nat) "GuildCharterModel" "at" "I") ∈ lw_all := lw_g (lw_at lw_m5 192 rfl) rfl
theorem q1267 : (Jvm.Cond.fieldLink "GuildCharterModel" (182 : Nat) "GuildCharterModel" "end" "I") ∈ lw_all := lw_g (lw_at lw_m5 193 rfl) rfl
theorem q1268 : (Jvm.Cond.fieldLink "GuildCharterModel" (192 : Nat) "GuildCharterModel" "token" "I") ∈ lw_all := lw_g (lw_at lw_m5 194 rfl) rfl
theorem q1269 : (Jvm.Cond.fieldLink "GuildCharterModel" (210 : Nat) "GuildCharterModel" "number" "I") ∈ lw_all := lw_g (lw_at lw_m5 195 rfl) rfl
theorem q1270 : (Jvm.Cond.fieldLink "GuildCharterModel" (199 : Nat) "GuildCharterModel" "name" "J") ∈ lw_all := lw_g (lw_at lw_m5 196 rfl) rfl
theorem q1271 : (Jvm.Cond.fieldLink "GuildCharterModel" (20 : Nat) "GuildCharterModel" "words" "[I") ∈ lw_all := lw_g (lw_at lw_m5 197 rfl) rfl
theorem q1272 : (Jvm.Cond.fieldLink "GuildCharterModel" (24 : Nat) "GuildCharterModel" "pairs" "[I") ∈ lw_all := lw_g (lw_at lw_m5 198 rfl) rfl
theorem q1273 : (Jvm.Cond.fieldLink "GuildCharterModel" (27 : Nat) "GuildCharterModel" "rules" "[I") ∈ lw_all := lw_g (lw_at lw_m5 199 rfl) rfl
theorem q1274 : (Jvm.Cond.fieldLink "GuildCharterModel" (30 : Nat) "GuildCharterModel" "alts" "[I") ∈ lw_all := lw_g (lw_at lw_m5 200 rfl) rfl
theorem q1275 : (Jvm.Cond.fieldLink "GuildCharterModel" (33 : Nat) "GuildCharterModel" "length" "[I") ∈ lw_all := lw_g (lw_at lw_m5 201 rfl) rfl
theorem q1276 : (Jvm.Cond.fieldLink "GuildCharterModel" (36 : Nat) "GuildCharterModel" "turnMany" "[I") ∈ lw_all := lw_g (lw_at lw_m5 202 rfl) rfl
theorem q1277 : (Jvm.Cond.fieldLink "GuildCharterModel" (39 : Nat) "GuildCharterModel" "turnOf" "[I") ∈ lw_all := lw_g (lw_at lw_m5 203 rfl) rfl
theorem q1278 : (Jvm.Cond.fieldLink "GuildCharterModel" (42 : Nat) "GuildCharterModel" "worthOf" "[I") ∈ lw_all := lw_g (lw_at lw_m5 204 rfl) rfl
theorem q1279 : (Jvm.Cond.fieldLink "GuildCharterModel" (45 : Nat) "GuildCharterModel" "pairWorth" "[I") ∈ lw_all := lw_g (lw_at lw_m5 205 rfl) rfl
theorem q1280 : (Jvm.Cond.fieldLink "GuildCharterModel" (48 : Nat) "GuildCharterModel" "altRule" "[I") ∈ lw_all := lw_g (lw_at lw_m5 206 rfl) rfl
theorem q1281 : (Jvm.Cond.fieldLink "GuildCharterModel" (51 : Nat) "GuildCharterModel" "altMany" "[I") ∈ lw_all := lw_g (lw_at lw_m5 207 rfl) rfl
theorem q1282 : (Jvm.Cond.fieldLink "GuildCharterModel" (54 : Nat) "GuildCharterModel" "altName" "[I") ∈ lw_all := lw_g (lw_at lw_m5 208 rfl) rfl
theorem q1283 : (Jvm.Cond.fieldLink "GuildCharterModel" (57 : Nat) "GuildCharterModel" "altPlace" "[I") ∈ lw_all := lw_g (lw_at lw_m5 209 rfl) rfl
theorem q1284 : (Jvm.Cond.fieldLink "GuildCharterModel" (60 : Nat) "GuildCharterModel" "isPair" "[Z") ∈ lw_all := lw_g (lw_at lw_m5 210 rfl) rfl
theorem q1285 : (Jvm.Cond.fieldLink "GuildCharterModel" (64 : Nat) "GuildCharterModel" "isLength" "[Z") ∈ lw_all := lw_g (lw_at lw_m5 211 rfl) rfl
theorem q1286 : (Jvm.Cond.fieldLink "GuildCharterModel" (67 : Nat) "GuildCharterModel" "wName" "[J") ∈ lw_all := lw_g (lw_at lw_m5 212 rfl) rfl
theorem q1287 : (Jvm.Cond.fieldLink "GuildCharterModel" (71 : Nat) "GuildCharterModel" "rName" "[J") ∈ lw_all := lw_g (lw_at lw_m5 213 rfl) rfl
theorem q1288 : (Jvm.Cond.fieldLink "GuildCharterModel" (74 : Nat) "GuildCharterModel" "altWord" "[J") ∈ lw_all := lw_g (lw_at lw_m5 214 rfl) rfl
theorem q1289 : (Jvm.Cond.fieldLink "GuildCharterModel" (233 : Nat) "GuildCharterModel" "bank" "I") ∈ lw_all := lw_g (lw_at lw_m5 215 rfl) rfl
theorem q1290 : (Jvm.Cond.fieldLink "GuildCharterModel" (227 : Nat) "GuildCharterModel" "rb" "I") ∈ lw_all := lw_g (lw_at lw_m5 216 rfl) rfl
theorem q1291 : (Jvm.Cond.fieldLink "GuildCharterModel" (77 : Nat) "GuildCharterModel" "tried" "[I") ∈ lw_all := lw_g (lw_at lw_m5 217 rfl) rfl
theorem q1292 : (Jvm.Cond.fieldLink "GuildCharterModel" (80 : Nat) "GuildCharterModel" "ends" "[I") ∈ lw_all := lw_g (lw_at lw_m5 218 rfl) rfl
theorem q1293 : (Jvm.Cond.fieldLink "GuildCharterModel" (83 : Nat) "GuildCharterModel" "waysTo" "[J") ∈ lw_all := lw_g (lw_at lw_m5 219 rfl) rfl
theorem q1294 : (Jvm.Cond.fieldLink "GuildCharterModel" (86 : Nat) "GuildCharterModel" "step" "[J") ∈ lw_all := lw_g (lw_at lw_m5 220 rfl) rfl
theorem q1295 : (Jvm.Cond.fieldLink "GuildCharterModel" (89 : Nat) "GuildCharterModel" "stepNext" "[J") ∈ lw_all := lw_g (lw_at lw_m5 221 rfl) rfl
theorem q1296 : (Jvm.Cond.fieldLink "GuildCharterModel" (92 : Nat) "GuildCharterModel" "row" "[I") ∈ lw_all := lw_g (lw_at lw_m5 222 rfl) rfl
theorem q1297 : (Jvm.Cond.fieldLink "GuildCharterModel" (95 : Nat) "GuildCharterModel" "turnNow" "[I") ∈ lw_all := lw_g (lw_at lw_m5 223 rfl) rfl
theorem q1298 : (Jvm.Cond.fieldLink "GuildCharterModel" (98 : Nat) "GuildCharterModel" "holes" "[I") ∈ lw_all := lw_g (lw_at lw_m5 224 rfl) rfl
theorem q1299 : (Jvm.Cond.fieldLink "GuildCharterModel" (336 : Nat) "GuildCharterModel" "many" "I") ∈ lw_all := lw_g (lw_at lw_m5 225 rfl) rfl
theorem q1300 : (Jvm.Cond.fieldLink "GuildCharterModel" (101 : Nat) "GuildCharterModel" "actPlace" "[I") ∈ lw_all := lw_g (lw_at lw_m5 226 rfl) rfl
theorem q1301 : (Jvm.Cond.fieldLink "GuildCharterModel" (104 : Nat) "GuildCharterModel" "actWhat" "[I") ∈ lw_all := lw_g (lw_at lw_m5 227 rfl) rfl
theorem q1302 : (Jvm.Cond.fieldLink "GuildCharterModel" (339 : Nat) "GuildCharterModel" "acts" "I") ∈ lw_all := lw_g (lw_at lw_m5 228 rfl) rfl
theorem q1303 : (Jvm.Cond.fieldLink "GuildCharterModel" (342 : Nat) "GuildCharterModel" "undone" "I") ∈ lw_all := lw_g (lw_at lw_m5 229 rfl) rfl
theorem q1304 : (Jvm.Cond.fieldLink "GuildCharterModel" (107 : Nat) "GuildCharterModel" "list" "[I") ∈ lw_all := lw_g (lw_at lw_m5 230 rfl) rfl
theorem q1305 : (Jvm.Cond.fieldLink "GuildCharterModel" (110 : Nat) "GuildCharterModel" "meansTo" "[I") ∈ lw_all := lw_g (lw_at lw_m5 231 rfl) rfl
theorem q1306 : (Jvm.Cond.fieldLink "GuildCharterModel" (113 : Nat) "GuildCharterModel" "left" "[I") ∈ lw_all := lw_g (lw_at lw_m5 232 rfl) rfl
theorem q1307 : (Jvm.Cond.fieldLink "GuildCharterModel" (116 : Nat) "GuildCharterModel" "leftNext" "[I") ∈ lw_all := lw_g (lw_at lw_m5 233 rfl) rfl
theorem q1308 : (Jvm.Cond.fieldLink "GuildCharterModel" (390 : Nat) "GuildCharterModel" "listMany" "I") ∈ lw_all := lw_g (lw_at lw_m5 234 rfl) rfl
theorem q1309 : (Jvm.Cond.fieldLink "GuildCharterModel" (393 : Nat) "GuildCharterModel" "listFrom" "I") ∈ lw_all := lw_g (lw_at lw_m5 235 rfl) rfl
theorem q1310 : (Jvm.Cond.fieldLink "GuildCharterModel" (387 : Nat) "GuildCharterModel" "rowsMet" "I") ∈ lw_all := lw_g (lw_at lw_m5 236 rfl) rfl
theorem q1311 : (Jvm.Cond.fieldLink "GuildCharterModel" (242 : Nat) "GuildCharterModel" "listKey" "J") ∈ lw_all := lw_g (lw_at lw_m5 237 rfl) rfl
theorem q1312 : (Jvm.Cond.fieldLink "GuildCharterModel" (119 : Nat) "GuildCharterModel" "path" "[I") ∈ lw_all := lw_g (lw_at lw_m5 238 rfl) rfl
theorem q1313 : (Jvm.Cond.fieldLink "GuildCharterModel" (122 : Nat) "GuildCharterModel" "playTurn" "[I") ∈ lw_all := lw_g (lw_at lw_m5 239 rfl) rfl
theorem q1314 : (Jvm.Cond.fieldLink "GuildCharterModel" (125 : Nat) "GuildCharterModel" "bribed" "I") ∈ lw_all := lw_g (lw_at lw_m6 0 rfl) rfl
theorem q1315 : (Jvm.Cond.fieldLink "GuildCharterModel" (409 : Nat) "GuildCharterModel" "bribePlace" "I") ∈ lw_all := lw_g (lw_at lw_m6 1 rfl) rfl
theorem q1316 : (Jvm.Cond.fieldLink "GuildCharterModel" (412 : Nat) "GuildCharterModel" "bribeWord" "I") ∈ lw_all := lw_g (lw_at lw_m6 2 rfl) rfl
theorem q1317 : (Jvm.Cond.fieldLink "GuildCharterModel" (415 : Nat) "GuildCharterModel" "bribe" "I") ∈ lw_all := lw_g (lw_at lw_m6 3 rfl) rfl
theorem q1318 : (Jvm.Cond.fieldLink "GuildCharterModel" (128 : Nat) "GuildCharterModel" "laidRow" "[I") ∈ lw_all := lw_g (lw_at lw_m6 4 rfl) rfl
theorem q1319 : (Jvm.Cond.fieldLink "GuildCharterModel" (248 : Nat) "GuildCharterModel" "laid" "I") ∈ lw_all := lw_g (lw_at lw_m6 5 rfl) rfl
theorem q1320 : (Jvm.Cond.fieldLink "GuildCharterModel" (131 : Nat) "GuildCharterModel" "shortestOf" "[I") ∈ lw_all := lw_g (lw_at lw_m6 6 rfl) rfl
theorem q1321 : (Jvm.Cond.fieldLink "GuildCharterModel" (134 : Nat) "GuildCharterModel" "sPlace" "[I") ∈ lw_all := lw_g (lw_at lw_m6 7 rfl) rfl
theorem q1322 : (Jvm.Cond.fieldLink "GuildCharterModel" (137 : Nat) "GuildCharterModel" "sWord" "[I") ∈ lw_all := lw_g (lw_at lw_m6 8 rfl) rfl
theorem q1323 : (Jvm.Cond.fieldLink "GuildCharterModel" (140 : Nat) "GuildCharterModel" "sTold" "[I") ∈ lw_all := lw_g (lw_at lw_m6 9 rfl) rfl
theorem q1324 : (Jvm.Cond.fieldLink "GuildCharterModel" (143 : Nat) "GuildCharterModel" "sUntold" "[I") ∈ lw_all := lw_g (lw_at lw_m6 10 rfl) rfl
theorem q1325 : (Jvm.Cond.fieldLink "GuildCharterModel" (146 : Nat) "GuildCharterModel" "sStood" "[Z") ∈ lw_all := lw_g (lw_at lw_m6 11 rfl) rfl
theorem q1326 : (Jvm.Cond.fieldLink "GuildCharterModel" (245 : Nat) "GuildCharterModel" "seenMany" "I") ∈ lw_all := lw_g (lw_at lw_m6 12 rfl) rfl
theorem q1327 : (Jvm.Cond.fieldLink "GuildCharterModel" (473 : Nat) "GuildCharterModel" "time" "I") ∈ lw_all := lw_g (lw_at lw_m6 13 rfl) rfl
theorem q1328 : (Jvm.Cond.fieldLink "GuildCharterModel" (149 : Nat) "GuildCharterModel" "boxMany" "[I") ∈ lw_all := lw_g (lw_at lw_m6 14 rfl) rfl
theorem q1329 : (Jvm.Cond.fieldLink "GuildCharterModel" (152 : Nat) "GuildCharterModel" "boxRow" "[I") ∈ lw_all := lw_g (lw_at lw_m6 15 rfl) rfl
theorem q1330 : (Jvm.Cond.fieldLink "GuildCharterModel" (155 : Nat) "GuildCharterModel" "boxTurn" "[I") ∈ lw_all := lw_g (lw_at lw_m6 16 rfl) rfl
theorem q1331 : (Jvm.Cond.laysFinal "GuildCharterModel" "GuildCharterModel" "tape" "[B") ∈ lw_all := lw_g (lw_at lw_m6 17 rfl) rfl
theorem q1332 : (Jvm.Cond.soleField "GuildCharterModel" "tape") ∈ lw_all := lw_g (lw_at lw_m6 18 rfl) rfl
theorem q1333 : (Jvm.Cond.laysFinal "GuildCharterModel" "GuildCharterModel" "text" "[B") ∈ lw_all := lw_g (lw_at lw_m6 19 rfl) rfl
theorem q1334 : (Jvm.Cond.soleField "GuildCharterModel" "text") ∈ lw_all := lw_g (lw_at lw_m6 20 rfl) rfl
theorem q1335 : (Jvm.Cond.lays "GuildCharterModel" "GuildCharterModel" "taped" "I") ∈ lw_all := lw_g (lw_at lw_m6 21 rfl) rfl
theorem q1336 : (Jvm.Cond.soleField "GuildCharterModel" "taped") ∈ lw_all := lw_g (lw_at lw_m6 22 rfl) rfl
theorem q1337 : (Jvm.Cond.lays "GuildCharterModel" "GuildCharterModel" "size" "I") ∈ lw_all := lw_g (lw_at lw_m6 23 rfl) rfl
theorem q1338 : (Jvm.Cond.soleField "GuildCharterModel" "size") ∈ lw_all := lw_g (lw_at lw_m6 24 rfl) rfl
theorem q1339 : (Jvm.Cond.lays "GuildCharterModel" "GuildCharterModel" "faultKind" "I") ∈ lw_all := lw_g (lw_at lw_m6 25 rfl) rfl
theorem q1340 : (Jvm.Cond.soleField "GuildCharterModel" "faultKind") ∈ lw_all := lw_g (lw_at lw_m6 26 rfl) rfl
theorem q1341 : (Jvm.Cond.lays "GuildCharterModel" "GuildCharterModel" "faultPlace" "I") ∈ lw_all := lw_g (lw_at lw_m6 27 rfl) rfl
theorem q1342 : (Jvm.Cond.soleField "GuildCharterModel" "faultPlace") ∈ lw_all := lw_g (lw_at lw_m6 28 rfl) rfl
theorem q1343 : (Jvm.Cond.lays "GuildCharterModel" "GuildCharterModel" "at" "I") ∈ lw_all := lw_g (lw_at lw_m6 29 rfl) rfl
theorem q1344 : (Jvm.Cond.soleField "GuildCharterModel" "at") ∈ lw_all := lw_g (lw_at lw_m6 30 rfl) rfl
theorem q1345 : (Jvm.Cond.lays "GuildCharterModel" "GuildCharterModel" "end" "I") ∈ lw_all := lw_g (lw_at lw_m6 31 rfl) rfl
theorem q1346 : (Jvm.Cond.soleField "GuildCharterModel" "end") ∈ lw_all := lw_g (lw_at lw_m6 32 rfl) rfl
theorem q1347 : (Jvm.Cond.lays "GuildCharterModel" "GuildCharterModel" "token" "I") ∈ lw_all := lw_g (lw_at lw_m6 33 rfl) rfl
theorem q1348 : (Jvm.Cond.soleField "GuildCharterModel" "token") ∈ lw_all := lw_g (lw_at lw_m6 34 rfl) rfl
theorem q1349 : (Jvm.Cond.lays "GuildCharterModel" "GuildCharterModel" "number" "I") ∈ lw_all := lw_g (lw_at lw_m6 35 rfl) rfl
theorem q1350 : (Jvm.Cond.soleField "GuildCharterModel" "number") ∈ lw_all := lw_g (lw_at lw_m6 36 rfl) rfl
theorem q1351 : (Jvm.Cond.lays "GuildCharterModel" "GuildCharterModel" "name" "J") ∈ lw_all := lw_g (lw_at lw_m6 37 rfl) rfl
theorem q1352 : (Jvm.Cond.soleField "GuildCharterModel" "name") ∈ lw_all := lw_g (lw_at lw_m6 38 rfl) rfl
theorem q1353 : (Jvm.Cond.laysFinal "GuildCharterModel" "GuildCharterModel" "words" "[I") ∈ lw_all := lw_g (lw_at lw_m6 39 rfl) rfl
theorem q1354 : (Jvm.Cond.soleField "GuildCharterModel" "words") ∈ lw_all := lw_g (lw_at lw_m6 40 rfl) rfl
theorem q1355 : (Jvm.Cond.laysFinal "GuildCharterModel" "GuildCharterModel" "pairs" "[I") ∈ lw_all := lw_g (lw_at lw_m6 41 rfl) rfl
theorem q1356 : (Jvm.Cond.soleField "GuildCharterModel" "pairs") ∈ lw_all := lw_g (lw_at lw_m6 42 rfl) rfl
theorem q1357 : (Jvm.Cond.laysFinal "GuildCharterModel" "GuildCharterModel" "rules" "[I") ∈ lw_all := lw_g (lw_at lw_m6 43 rfl) rfl
theorem q1358 : (Jvm.Cond.soleField "GuildCharterModel" "rules") ∈ lw_all := lw_g (lw_at lw_m6 44 rfl) rfl
theorem q1359 : (Jvm.Cond.laysFinal "GuildCharterModel" "GuildCharterModel" "alts" "[I") ∈ lw_all := lw_g (lw_at lw_m6 45 rfl) rfl
theorem q1360 : (Jvm.Cond.soleField "GuildCharterModel" "alts") ∈ lw_all := lw_g (lw_at lw_m6 46 rfl) rfl
theorem q1361 : (Jvm.Cond.laysFinal "GuildCharterModel" "GuildCharterModel" "length" "[I") ∈ lw_all := lw_g (lw_at lw_m6 47 rfl) rfl
theorem q1362 : (Jvm.Cond.soleField "GuildCharterModel" "length") ∈ lw_all := lw_g (lw_at lw_m6 48 rfl) rfl
theorem q1363 : (Jvm.Cond.laysFinal "GuildCharterModel" "GuildCharterModel" "turnMany" "[I") ∈ lw_all := lw_g (lw_at lw_m6 49 rfl) rfl
theorem q1364 : (Jvm.Cond.soleField "GuildCharterModel" "turnMany") ∈ lw_all := lw_g (lw_at lw_m6 50 rfl) rfl
theorem q1365 : (Jvm.Cond.laysFinal "GuildCharterModel" "GuildCharterModel" "turnOf" "[I") ∈ lw_all := lw_g (lw_at lw_m6 51 rfl) rfl
theorem q1366 : (Jvm.Cond.soleField "GuildCharterModel" "turnOf") ∈ lw_all := lw_g (lw_at lw_m6 52 rfl) rfl
theorem q1367 : (Jvm.Cond.laysFinal "GuildCharterModel" "GuildCharterModel" "worthOf" "[I") ∈ lw_all := lw_g (lw_at lw_m6 53 rfl) rfl
theorem q1368 : (Jvm.Cond.soleField "GuildCharterModel" "worthOf") ∈ lw_all := lw_g (lw_at lw_m6 54 rfl) rfl
theorem q1369 : (Jvm.Cond.laysFinal "GuildCharterModel" "GuildCharterModel" "pairWorth" "[I") ∈ lw_all := lw_g (lw_at lw_m6 55 rfl) rfl
theorem q1370 : (Jvm.Cond.soleField "GuildCharterModel" "pairWorth") ∈ lw_all := lw_g (lw_at lw_m6 56 rfl) rfl
theorem q1371 : (Jvm.Cond.laysFinal "GuildCharterModel" "GuildCharterModel" "altRule" "[I") ∈ lw_all := lw_g (lw_at lw_m6 57 rfl) rfl
theorem q1372 : (Jvm.Cond.soleField "GuildCharterModel" "altRule") ∈ lw_all := lw_g (lw_at lw_m6 58 rfl) rfl
theorem q1373 : (Jvm.Cond.laysFinal "GuildCharterModel" "GuildCharterModel" "altMany" "[I") ∈ lw_all := lw_g (lw_at lw_m6 59 rfl) rfl
theorem q1374 : (Jvm.Cond.soleField "GuildCharterModel" "altMany") ∈ lw_all := lw_g (lw_at lw_m6 60 rfl) rfl
theorem q1375 : (Jvm.Cond.laysFinal "GuildCharterModel" "GuildCharterModel" "altName" "[I") ∈ lw_all := lw_g (lw_at lw_m6 61 rfl) rfl
theorem q1376 : (Jvm.Cond.soleField "GuildCharterModel" "altName") ∈ lw_all := lw_g (lw_at lw_m6 62 rfl) rfl
theorem q1377 : (Jvm.Cond.laysFinal "GuildCharterModel" "GuildCharterModel" "altPlace" "[I") ∈ lw_all := lw_g (lw_at lw_m6 63 rfl) rfl
theorem q1378 : (Jvm.Cond.soleField "GuildCharterModel" "altPlace") ∈ lw_all := lw_g (lw_at lw_m6 64 rfl) rfl
theorem q1379 : (Jvm.Cond.laysFinal "GuildCharterModel" "GuildCharterModel" "isPair" "[Z") ∈ lw_all := lw_g (lw_at lw_m6 65 rfl) rfl
theorem q1380 : (Jvm.Cond.soleField "GuildCharterModel" "isPair") ∈ lw_all := lw_g (lw_at lw_m6 66 rfl) rfl
theorem q1381 : (Jvm.Cond.laysFinal "GuildCharterModel" "GuildCharterModel" "isLength" "[Z") ∈ lw_all := lw_g (lw_at lw_m6 67 rfl) rfl
theorem q1382 : (Jvm.Cond.soleField "GuildCharterModel" "isLength") ∈ lw_all := lw_g (lw_at lw_m6 68 rfl) rfl
theorem q1383 : (Jvm.Cond.laysFinal "GuildCharterModel" "GuildCharterModel" "wName" "[J") ∈ lw_all := lw_g (lw_at lw_m6 69 rfl) rfl
theorem q1384 : (Jvm.Cond.soleField "GuildCharterModel" "wName") ∈ lw_all := lw_g (lw_at lw_m6 70 rfl) rfl
theorem q1385 : (Jvm.Cond.laysFinal "GuildCharterModel" "GuildCharterModel" "rName" "[J") ∈ lw_all := lw_g (lw_at lw_m6 71 rfl) rfl
theorem q1386 : (Jvm.Cond.soleField "GuildCharterModel" "rName") ∈ lw_all := lw_g (lw_at lw_m6 72 rfl) rfl
theorem q1387 : (Jvm.Cond.laysFinal "GuildCharterModel" "GuildCharterModel" "altWord" "[J") ∈ lw_all := lw_g (lw_at lw_m6 73 rfl) rfl
theorem q1388 : (Jvm.Cond.soleField "GuildCharterModel" "altWord") ∈ lw_all := lw_g (lw_at lw_m6 74 rfl) rfl
theorem q1389 : (Jvm.Cond.lays "GuildCharterModel" "GuildCharterModel" "bank" "I") ∈ lw_all := lw_g (lw_at lw_m6 75 rfl) rfl
theorem q1390 : (Jvm.Cond.soleField "GuildCharterModel" "bank") ∈ lw_all := lw_g (lw_at lw_m6 76 rfl) rfl
theorem q1391 : (Jvm.Cond.lays "GuildCharterModel" "GuildCharterModel" "rb" "I") ∈ lw_all := lw_g (lw_at lw_m6 77 rfl) rfl
theorem q1392 : (Jvm.Cond.soleField "GuildCharterModel" "rb") ∈ lw_all := lw_g (lw_at lw_m6 78 rfl) rfl
theorem q1393 : (Jvm.Cond.laysFinal "GuildCharterModel" "GuildCharterModel" "tried" "[I") ∈ lw_all := lw_g (lw_at lw_m6 79 rfl) rfl
theorem q1394 : (Jvm.Cond.soleField "GuildCharterModel" "tried") ∈ lw_all := lw_g (lw_at lw_m6 80 rfl) rfl
theorem q1395 : (Jvm.Cond.laysFinal "GuildCharterModel" "GuildCharterModel" "ends" "[I") ∈ lw_all := lw_g (lw_at lw_m6 81 rfl) rfl
theorem q1396 : (Jvm.Cond.soleField "GuildCharterModel" "ends") ∈ lw_all := lw_g (lw_at lw_m6 82 rfl) rfl
theorem q1397 : (Jvm.Cond.laysFinal "GuildCharterModel" "GuildCharterModel" "waysTo" "[J") ∈ lw_all := lw_g (lw_at lw_m6 83 rfl) rfl
theorem q1398 : (Jvm.Cond.soleField "GuildCharterModel" "waysTo") ∈ lw_all := lw_g (lw_at lw_m6 84 rfl) rfl
theorem q1399 : (Jvm.Cond.laysFinal "GuildCharterModel" "GuildCharterModel" "step" "[J") ∈ lw_all := lw_g (lw_at lw_m6 85 rfl) rfl
theorem q1400 : (Jvm.Cond.soleField "GuildCharterModel" "step") ∈ lw_all := lw_g (lw_at lw_m6 86 rfl) rfl
theorem q1401 : (Jvm.Cond.laysFinal "GuildCharterModel" "GuildCharterModel" "stepNext" "[J") ∈ lw_all := lw_g (lw_at lw_m6 87 rfl) rfl
theorem q1402 : (Jvm.Cond.soleField "GuildCharterModel" "stepNext") ∈ lw_all := lw_g (lw_at lw_m6 88 rfl) rfl
theorem q1403 : (Jvm.Cond.laysFinal "GuildCharterModel" "GuildCharterModel" "row" "[I") ∈ lw_all := lw_g (lw_at lw_m6 89 rfl) rfl
theorem q1404 : (Jvm.Cond.soleField "GuildCharterModel" "row") ∈ lw_all := lw_g (lw_at lw_m6 90 rfl) rfl
theorem q1405 : (Jvm.Cond.laysFinal "GuildCharterModel" "GuildCharterModel" "turnNow" "[I") ∈ lw_all := lw_g (lw_at lw_m6 91 rfl) rfl
theorem q1406 : (Jvm.Cond.soleField "GuildCharterModel" "turnNow") ∈ lw_all := lw_g (lw_at lw_m6 92 rfl) rfl
theorem q1407 : (Jvm.Cond.laysFinal "GuildCharterModel" "GuildCharterModel" "holes" "[I") ∈ lw_all := lw_g (lw_at lw_m6 93 rfl) rfl
theorem q1408 : (Jvm.Cond.soleField "GuildCharterModel" "holes") ∈ lw_all := lw_g (lw_at lw_m6 94 rfl) rfl
theorem q1409 : (Jvm.Cond.lays "GuildCharterModel" "GuildCharterModel" "many" "I") ∈ lw_all := lw_g (lw_at lw_m6 95 rfl) rfl
theorem q1410 : (Jvm.Cond.soleField "GuildCharterModel" "many") ∈ lw_all := lw_g (lw_at lw_m6 96 rfl) rfl
theorem q1411 : (Jvm.Cond.laysFinal "GuildCharterModel" "GuildCharterModel" "actPlace" "[I") ∈ lw_all := lw_g (lw_at lw_m6 97 rfl) rfl
theorem q1412 : (Jvm.Cond.soleField "GuildCharterModel" "actPlace") ∈ lw_all := lw_g (lw_at lw_m6 98 rfl) rfl
theorem q1413 : (Jvm.Cond.laysFinal "GuildCharterModel" "GuildCharterModel" "actWhat" "[I") ∈ lw_all := lw_g (lw_at lw_m6 99 rfl) rfl
theorem q1414 : (Jvm.Cond.soleField "GuildCharterModel" "actWhat") ∈ lw_all := lw_g (lw_at lw_m6 100 rfl) rfl
theorem q1415 : (Jvm.Cond.lays "GuildCharterModel" "GuildCharterModel" "acts" "I") ∈ lw_all := lw_g (lw_at lw_m6 101 rfl) rfl
theorem q1416 : (Jvm.Cond.soleField "GuildCharterModel" "acts") ∈ lw_all := lw_g (lw_at lw_m6 102 rfl) rfl
theorem q1417 : (Jvm.Cond.lays "GuildCharterModel" "GuildCharterModel" "undone" "I") ∈ lw_all := lw_g (lw_at lw_m6 103 rfl) rfl
theorem q1418 : (Jvm.Cond.soleField "GuildCharterModel" "undone") ∈ lw_all := lw_g (lw_at lw_m6 104 rfl) rfl
theorem q1419 : (Jvm.Cond.laysFinal "GuildCharterModel" "GuildCharterModel" "list" "[I") ∈ lw_all := lw_g (lw_at lw_m6 105 rfl) rfl
theorem q1420 : (Jvm.Cond.soleField "GuildCharterModel" "list") ∈ lw_all := lw_g (lw_at lw_m6 106 rfl) rfl
theorem q1421 : (Jvm.Cond.laysFinal "GuildCharterModel" "GuildCharterModel" "meansTo" "[I") ∈ lw_all := lw_g (lw_at lw_m6 107 rfl) rfl
theorem q1422 : (Jvm.Cond.soleField "GuildCharterModel" "meansTo") ∈ lw_all := lw_g (lw_at lw_m6 108 rfl) rfl
theorem q1423 : (Jvm.Cond.laysFinal "GuildCharterModel" "GuildCharterModel" "left" "[I") ∈ lw_all := lw_g (lw_at lw_m6 109 rfl) rfl
theorem q1424 : (Jvm.Cond.soleField "GuildCharterModel" "left") ∈ lw_all := lw_g (lw_at lw_m6 110 rfl) rfl
theorem q1425 : (Jvm.Cond.laysFinal "GuildCharterModel" "GuildCharterModel" "leftNext" "[I") ∈ lw_all := lw_g (lw_at lw_m6 111 rfl) rfl
theorem q1426 : (Jvm.Cond.soleField "GuildCharterModel" "leftNext") ∈ lw_all := lw_g (lw_at lw_m6 112 rfl) rfl
theorem q1427 : (Jvm.Cond.lays "GuildCharterModel" "GuildCharterModel" "listMany" "I") ∈ lw_all := lw_g (lw_at lw_m6 113 rfl) rfl
theorem q1428 : (Jvm.Cond.soleField "GuildCharterModel" "listMany") ∈ lw_all := lw_g (lw_at lw_m6 114 rfl) rfl
theorem q1429 : (Jvm.Cond.lays "GuildCharterModel" "GuildCharterModel" "listFrom" "I") ∈ lw_all := lw_g (lw_at lw_m6 115 rfl) rfl
theorem q1430 : (Jvm.Cond.soleField "GuildCharterModel" "listFrom") ∈ lw_all := lw_g (lw_at lw_m6 116 rfl) rfl
theorem q1431 : (Jvm.Cond.lays "GuildCharterModel" "GuildCharterModel" "rowsMet" "I") ∈ lw_all := lw_g (lw_at lw_m6 117 rfl) rfl
theorem q1432 : (Jvm.Cond.soleField "GuildCharterModel" "rowsMet") ∈ lw_all := lw_g (lw_at lw_m6 118 rfl) rfl
theorem q1433 : (Jvm.Cond.lays "GuildCharterModel" "GuildCharterModel" "listKey" "J") ∈ lw_all := lw_g (lw_at lw_m6 119 rfl) rfl
theorem q1434 : (Jvm.Cond.soleField "GuildCharterModel" "listKey") ∈ lw_all := lw_g (lw_at lw_m6 120 rfl) rfl
theorem q1435 : (Jvm.Cond.laysFinal "GuildCharterModel" "GuildCharterModel" "path" "[I") ∈ lw_all := lw_g (lw_at lw_m6 121 rfl) rfl
theorem q1436 : (Jvm.Cond.soleField "GuildCharterModel" "path") ∈ lw_all := lw_g (lw_at lw_m6 122 rfl) rfl
theorem q1437 : (Jvm.Cond.laysFinal "GuildCharterModel" "GuildCharterModel" "playTurn" "[I") ∈ lw_all := lw_g (lw_at lw_m6 123 rfl) rfl
theorem q1438 : (Jvm.Cond.soleField "GuildCharterModel" "playTurn") ∈ lw_all := lw_g (lw_at lw_m6 124 rfl) rfl
theorem q1439 : (Jvm.Cond.lays "GuildCharterModel" "GuildCharterModel" "bribed" "I") ∈ lw_all := lw_g (lw_at lw_m6 125 rfl) rfl
theorem q1440 : (Jvm.Cond.soleField "GuildCharterModel" "bribed") ∈ lw_all := lw_g (lw_at lw_m6 126 rfl) rfl
theorem q1441 : (Jvm.Cond.lays "GuildCharterModel" "GuildCharterModel" "bribePlace" "I") ∈ lw_all := lw_g (lw_at lw_m6 127 rfl) rfl
theorem q1442 : (Jvm.Cond.soleField "GuildCharterModel" "bribePlace") ∈ lw_all := lw_g (lw_at lw_m6 128 rfl) rfl
theorem q1443 : (Jvm.Cond.lays "GuildCharterModel" "GuildCharterModel" "bribeWord" "I") ∈ lw_all := lw_g (lw_at lw_m6 129 rfl) rfl
theorem q1444 : (Jvm.Cond.soleField "GuildCharterModel" "bribeWord") ∈ lw_all := lw_g (lw_at lw_m6 130 rfl) rfl
theorem q1445 : (Jvm.Cond.lays "GuildCharterModel" "GuildCharterModel" "bribe" "I") ∈ lw_all := lw_g (lw_at lw_m6 131 rfl) rfl
theorem q1446 : (Jvm.Cond.soleField "GuildCharterModel" "bribe") ∈ lw_all := lw_g (lw_at lw_m6 132 rfl) rfl
theorem q1447 : (Jvm.Cond.laysFinal "GuildCharterModel" "GuildCharterModel" "laidRow" "[I") ∈ lw_all := lw_g (lw_at lw_m6 133 rfl) rfl
theorem q1448 : (Jvm.Cond.soleField "GuildCharterModel" "laidRow") ∈ lw_all := lw_g (lw_at lw_m6 134 rfl) rfl
theorem q1449 : (Jvm.Cond.lays "GuildCharterModel" "GuildCharterModel" "laid" "I") ∈ lw_all := lw_g (lw_at lw_m6 135 rfl) rfl
theorem q1450 : (Jvm.Cond.soleField "GuildCharterModel" "laid") ∈ lw_all := lw_g (lw_at lw_m6 136 rfl) rfl
theorem q1451 : (Jvm.Cond.laysFinal "GuildCharterModel" "GuildCharterModel" "shortestOf" "[I") ∈ lw_all := lw_g (lw_at lw_m6 137 rfl) rfl
theorem q1452 : (Jvm.Cond.soleField "GuildCharterModel" "shortestOf") ∈ lw_all := lw_g (lw_at lw_m6 138 rfl) rfl
theorem q1453 : (Jvm.Cond.laysFinal "GuildCharterModel" "GuildCharterModel" "sPlace" "[I") ∈ lw_all := lw_g (lw_at lw_m6 139 rfl) rfl
theorem q1454 : (Jvm.Cond.soleField "GuildCharterModel" "sPlace") ∈ lw_all := lw_g (lw_at lw_m6 140 rfl) rfl
theorem q1455 : (Jvm.Cond.laysFinal "GuildCharterModel" "GuildCharterModel" "sWord" "[I") ∈ lw_all := lw_g (lw_at lw_m6 141 rfl) rfl
theorem q1456 : (Jvm.Cond.soleField "GuildCharterModel" "sWord") ∈ lw_all := lw_g (lw_at lw_m6 142 rfl) rfl
theorem q1457 : (Jvm.Cond.laysFinal "GuildCharterModel" "GuildCharterModel" "sTold" "[I") ∈ lw_all := lw_g (lw_at lw_m6 143 rfl) rfl
theorem q1458 : (Jvm.Cond.soleField "GuildCharterModel" "sTold") ∈ lw_all := lw_g (lw_at lw_m6 144 rfl) rfl
theorem q1459 : (Jvm.Cond.laysFinal "GuildCharterModel" "GuildCharterModel" "sUntold" "[I") ∈ lw_all := lw_g (lw_at lw_m6 145 rfl) rfl
theorem q1460 : (Jvm.Cond.soleField "GuildCharterModel" "sUntold") ∈ lw_all := lw_g (lw_at lw_m6 146 rfl) rfl
theorem q1461 : (Jvm.Cond.laysFinal "GuildCharterModel" "GuildCharterModel" "sStood" "[Z") ∈ lw_all := lw_g (lw_at lw_m6 147 rfl) rfl
theorem q1462 : (Jvm.Cond.soleField "GuildCharterModel" "sStood") ∈ lw_all := lw_g (lw_at lw_m6 148 rfl) rfl
theorem q1463 : (Jvm.Cond.lays "GuildCharterModel" "GuildCharterModel" "seenMany" "I") ∈ lw_all := lw_g (lw_at lw_m6 149 rfl) rfl
theorem q1464 : (Jvm.Cond.soleField "GuildCharterModel" "seenMany") ∈ lw_all := lw_g (lw_at lw_m6 150 rfl) rfl
theorem q1465 : (Jvm.Cond.lays "GuildCharterModel" "GuildCharterModel" "time" "I") ∈ lw_all := lw_g (lw_at lw_m6 151 rfl) rfl
theorem q1466 : (Jvm.Cond.soleField "GuildCharterModel" "time") ∈ lw_all := lw_g (lw_at lw_m6 152 rfl) rfl
theorem q1467 : (Jvm.Cond.laysFinal "GuildCharterModel" "GuildCharterModel" "boxMany" "[I") ∈ lw_all := lw_g (lw_at lw_m6 153 rfl) rfl
theorem q1468 : (Jvm.Cond.soleField "GuildCharterModel" "boxMany") ∈ lw_all := lw_g (lw_at lw_m6 154 rfl) rfl
theorem q1469 : (Jvm.Cond.laysFinal "GuildCharterModel" "GuildCharterModel" "boxRow" "[I") ∈ lw_all := lw_g (lw_at lw_m6 155 rfl) rfl
theorem q1470 : (Jvm.Cond.soleField "GuildCharterModel" "boxRow") ∈ lw_all := lw_g (lw_at lw_m6 156 rfl) rfl
theorem q1471 : (Jvm.Cond.laysFinal "GuildCharterModel" "GuildCharterModel" "boxTurn" "[I") ∈ lw_all := lw_g (lw_at lw_m6 157 rfl) rfl
theorem q1472 : (Jvm.Cond.soleField "GuildCharterModel" "boxTurn") ∈ lw_all := lw_g (lw_at lw_m6 158 rfl) rfl
theorem q1473 : (Jvm.Cond.superclass "GuildCharterModel" "java/lang/Object") ∈ lw_all := lw_g (lw_at lw_m6 159 rfl) rfl
theorem q1475 : (Jvm.Cond.instanceMethod ({ cls := "GuildCharterModel", name := "port", desc := "()I" } : Jvm.MethodName)) ∈ lw_all := lw_g (lw_at lw_m6 161 rfl) rfl
theorem q1476 : (Jvm.Cond.selects "GuildCharterModel" ({ cls := "GuildCharterModel", name := "port", desc := "()I" } : Jvm.MethodName) ({ cls := "GuildCharterModel", name := "port", desc := "()I" } : Jvm.MethodName)) ∈ lw_all := lw_g (lw_at lw_m6 162 rfl) rfl
theorem q1477 : (Jvm.Cond.code ({ cls := "GuildCharterModel", name := "port", desc := "()I" } : Jvm.MethodName) prog_9_method_15_code (2 : Nat) (Option.some Jvm.ClassFile.FieldType.int)) ∈ lw_all := lw_g (lw_at lw_m6 163 rfl) rfl
theorem q1478 : (Jvm.Cond.methodLink "GuildCharterModel" (221 : Nat) ({ cls := "GuildCharterModel", name := "goOn", desc := "()V" } : Jvm.MethodName)) ∈ lw_all := lw_g (lw_at lw_m6 164 rfl) rfl
theorem q1479 : (Jvm.Cond.privateMethod ({ cls := "GuildCharterModel", name := "goOn", desc := "()V" } : Jvm.MethodName)) ∈ lw_tbl := lw_at lw_m6 165 rfl
theorem q1480 : (Jvm.Cond.instanceMethod ({ cls := "GuildCharterModel", name := "goOn", desc := "()V" } : Jvm.MethodName)) ∈ lw_all := lw_g (lw_at lw_m6 166 rfl) rfl
theorem q1481 : (Jvm.Cond.code ({ cls := "GuildCharterModel", name := "goOn", desc := "()V" } : Jvm.MethodName) prog_9_method_8_code (3 : Nat) (Option.none : Option Jvm.ClassFile.FieldType)) ∈ lw_all := lw_g (lw_at lw_m6 167 rfl) rfl
theorem q1482 : (Jvm.Cond.methodLink "GuildCharterModel" (188 : Nat) ({ cls := "GuildCharterModel", name := "sign", desc := "(I)I" } : Jvm.MethodName)) ∈ lw_all := lw_g (lw_at lw_m6 168 rfl) rfl
theorem q1483 : (Jvm.Cond.privateMethod ({ cls := "GuildCharterModel", name := "sign", desc := "(I)I" } : Jvm.MethodName)) ∈ lw_tbl := lw_at lw_m6 169 rfl
theorem q1484 : (Jvm.Cond.instanceMethod ({ cls := "GuildCharterModel", name := "sign", desc := "(I)I" } : Jvm.MethodName)) ∈ lw_all := lw_g (lw_at lw_m6 170 rfl) rfl
theorem q1485 : (Jvm.Cond.code ({ cls := "GuildCharterModel", name := "sign", desc := "(I)I" } : Jvm.MethodName) prog_9_method_2_code (2 : Nat) (Option.some Jvm.ClassFile.FieldType.int)) ∈ lw_all := lw_g (lw_at lw_m6 171 rfl) rfl
theorem q1486 : (Jvm.Cond.methodLink "GuildCharterModel" (195 : Nat) ({ cls := "GuildCharterModel", name := "isLetter", desc := "(I)Z" } : Jvm.MethodName)) ∈ lw_all := lw_g (lw_at lw_m6 172 rfl) rfl
theorem q1487 : (Jvm.Cond.static ({ cls := "GuildCharterModel", name := "isLetter", desc := "(I)Z" } : Jvm.MethodName)) ∈ lw_all := lw_g (lw_at lw_m6 173 rfl) rfl
theorem q1488 : (Jvm.Cond.code ({ cls := "GuildCharterModel", name := "isLetter", desc := "(I)Z" } : Jvm.MethodName) prog_9_method_3_code (1 : Nat) (Option.some Jvm.ClassFile.FieldType.boolean)) ∈ lw_all := lw_g (lw_at lw_m6 174 rfl) rfl
theorem q1489 : (Jvm.Cond.methodLink "GuildCharterModel" (203 : Nat) ({ cls := "GuildCharterModel", name := "isKept", desc := "(J)Z" } : Jvm.MethodName)) ∈ lw_all := lw_g (lw_at lw_m6 175 rfl) rfl
theorem q1490 : (Jvm.Cond.static ({ cls := "GuildCharterModel", name := "isKept", desc := "(J)Z" } : Jvm.MethodName)) ∈ lw_all := lw_g (lw_at lw_m6 176 rfl) rfl
theorem q1491 : (Jvm.Cond.code ({ cls := "GuildCharterModel", name := "isKept", desc := "(J)Z" } : Jvm.MethodName) prog_9_method_7_code (2 : Nat) (Option.some Jvm.ClassFile.FieldType.boolean)) ∈ lw_all := lw_g (lw_at lw_m6 177 rfl) rfl
theorem q1492 : (Jvm.Cond.constantLong "GuildCharterModel" (170 : Nat) (2003792484 : Int64)) ∈ lw_all := lw_g (lw_at lw_m6 178 rfl) rfl
theorem q1493 : (Jvm.Cond.constantLong "GuildCharterModel" (172 : Nat) (1885432178 : Int64)) ∈ lw_all := lw_g (lw_at lw_m6 179 rfl) rfl
theorem q1494 : (Jvm.Cond.constantLong "GuildCharterModel" (174 : Nat) (1920298085 : Int64)) ∈ lw_all := lw_g (lw_at lw_m6 180 rfl) rfl
theorem q1495 : (Jvm.Cond.constantLong "GuildCharterModel" (176 : Nat) (28530 : Int64)) ∈ lw_all := lw_g (lw_at lw_m6 181 rfl) rfl
theorem q1496 : (Jvm.Cond.constantLong "GuildCharterModel" (178 : Nat) (119182899770472 : Int64)) ∈ lw_all := lw_g (lw_at lw_m6 182 rfl) rfl
theorem q1497 : (Jvm.Cond.constantLong "GuildCharterModel" (180 : Nat) (500186639987 : Int64)) ∈ lw_all := lw_g (lw_at lw_m6 183 rfl) rfl
theorem q1498 : (Jvm.Cond.methodLink "GuildCharterModel" (207 : Nat) ({ cls := "GuildCharterModel", name := "isDigit", desc := "(I)Z" } : Jvm.MethodName)) ∈ lw_all := lw_g (lw_at lw_m6 184 rfl) rfl
theorem q1499 : (Jvm.Cond.static ({ cls := "GuildCharterModel", name := "isDigit", desc := "(I)Z" } : Jvm.MethodName)) ∈ lw_all := lw_g (lw_at lw_m6 185 rfl) rfl
theorem q1500 : (Jvm.Cond.code ({ cls := "GuildCharterModel", name := "isDigit", desc := "(I)Z" } : Jvm.MethodName) prog_9_method_4_code (1 : Nat) (Option.some Jvm.ClassFile.FieldType.boolean)) ∈ lw_all := lw_g (lw_at lw_m6 186 rfl) rfl
theorem q1501 : (Jvm.Cond.methodLink "GuildCharterModel" (217 : Nat) ({ cls := "GuildCharterModel", name := "isGood", desc := "()Z" } : Jvm.MethodName)) ∈ lw_all := lw_g (lw_at lw_m6 187 rfl) rfl
theorem q1502 : (Jvm.Cond.privateMethod ({ cls := "GuildCharterModel", name := "isGood", desc := "()Z" } : Jvm.MethodName)) ∈ lw_tbl := lw_at lw_m6 188 rfl
theorem q1503 : (Jvm.Cond.instanceMethod ({ cls := "GuildCharterModel", name := "isGood", desc := "()Z" } : Jvm.MethodName)) ∈ lw_all := lw_g (lw_at lw_m6 189 rfl) rfl
theorem q1504 : (Jvm.Cond.code ({ cls := "GuildCharterModel", name := "isGood", desc := "()Z" } : Jvm.MethodName) prog_9_method_6_code (1 : Nat) (Option.some Jvm.ClassFile.FieldType.boolean)) ∈ lw_all := lw_g (lw_at lw_m6 190 rfl) rfl
theorem q1505 : (Jvm.Cond.methodLink "GuildCharterModel" (236 : Nat) ({ cls := "GuildCharterModel", name := "readLine", desc := "()V" } : Jvm.MethodName)) ∈ lw_all := lw_g (lw_at lw_m6 191 rfl) rfl
theorem q1506 : (Jvm.Cond.privateMethod ({ cls := "GuildCharterModel", name := "readLine", desc := "()V" } : Jvm.MethodName)) ∈ lw_tbl := lw_at lw_m6 192 rfl
theorem q1507 : (Jvm.Cond.instanceMethod ({ cls := "GuildCharterModel", name := "readLine", desc := "()V" } : Jvm.MethodName)) ∈ lw_all := lw_g (lw_at lw_m6 193 rfl) rfl
theorem q1508 : (Jvm.Cond.code ({ cls := "GuildCharterModel", name := "readLine", desc := "()V" } : Jvm.MethodName) prog_9_method_17_code (3 : Nat) (Option.none : Option Jvm.ClassFile.FieldType)) ∈ lw_all := lw_g (lw_at lw_m6 194 rfl) rfl
theorem q1509 : (Jvm.Cond.methodLink "GuildCharterModel" (254 : Nat) ({ cls := "GuildCharterModel", name := "isFull", desc := "()Z" } : Jvm.MethodName)) ∈ lw_all := lw_g (lw_at lw_m6 195 rfl) rfl
theorem q1510 : (Jvm.Cond.privateMethod ({ cls := "GuildCharterModel", name := "isFull", desc := "()Z" } : Jvm.MethodName)) ∈ lw_tbl := lw_at lw_m6 196 rfl
theorem q1511 : (Jvm.Cond.instanceMethod ({ cls := "GuildCharterModel", name := "isFull", desc := "()Z" } : Jvm.MethodName)) ∈ lw_all := lw_g (lw_at lw_m6 197 rfl) rfl
theorem q1512 : (Jvm.Cond.code ({ cls := "GuildCharterModel", name := "isFull", desc := "()Z" } : Jvm.MethodName) prog_9_method_16_code (1 : Nat) (Option.some Jvm.ClassFile.FieldType.boolean)) ∈ lw_all := lw_g (lw_at lw_m6 198 rfl) rfl
theorem q1513 : (Jvm.Cond.methodLink "GuildCharterModel" (251 : Nat) ({ cls := "GuildCharterModel", name := "isWord", desc := "(J)Z" } : Jvm.MethodName)) ∈ lw_all := lw_g (lw_at lw_m6 199 rfl) rfl
theorem q1514 : (Jvm.Cond.privateMethod ({ cls := "GuildCharterModel", name := "isWord", desc := "(J)Z" } : Jvm.MethodName)) ∈ lw_tbl := lw_at lw_m6 200 rfl
theorem q1515 : (Jvm.Cond.instanceMethod ({ cls := "GuildCharterModel", name := "isWord", desc := "(J)Z" } : Jvm.MethodName)) ∈ lw_all := lw_g (lw_at lw_m6 201 rfl) rfl
theorem q1516 : (Jvm.Cond.code ({ cls := "GuildCharterModel", name := "isWord", desc := "(J)Z" } : Jvm.MethodName) prog_9_method_10_code (3 : Nat) (Option.some Jvm.ClassFile.FieldType.boolean)) ∈ lw_all := lw_g (lw_at lw_m6 202 rfl) rfl
theorem q1517 : (Jvm.Cond.methodLink "GuildCharterModel" (224 : Nat) ({ cls := "GuildCharterModel", name := "misplaced", desc := "()V" } : Jvm.MethodName)) ∈ lw_all := lw_g (lw_at lw_m6 203 rfl) rfl
theorem q1518 : (Jvm.Cond.privateMethod ({ cls := "GuildCharterModel", name := "misplaced", desc := "()V" } : Jvm.MethodName)) ∈ lw_tbl := lw_at lw_m6 204 rfl
theorem q1519 : (Jvm.Cond.instanceMethod ({ cls := "GuildCharterModel", name := "misplaced", desc := "()V" } : Jvm.MethodName)) ∈ lw_all := lw_g (lw_at lw_m6 205 rfl) rfl
theorem q1520 : (Jvm.Cond.code ({ cls := "GuildCharterModel", name := "misplaced", desc := "()V" } : Jvm.MethodName) prog_9_method_11_code (1 : Nat) (Option.none : Option Jvm.ClassFile.FieldType)) ∈ lw_all := lw_g (lw_at lw_m6 206 rfl) rfl
theorem q1521 : (Jvm.Cond.methodLink "GuildCharterModel" (213 : Nat) ({ cls := "GuildCharterModel", name := "fails", desc := "(II)V" } : Jvm.MethodName)) ∈ lw_all := lw_g (lw_at lw_m6 207 rfl) rfl
theorem q1522 : (Jvm.Cond.privateMethod ({ cls := "GuildCharterModel", name := "fails", desc := "(II)V" } : Jvm.MethodName)) ∈ lw_tbl := lw_at lw_m6 208 rfl
theorem q1523 : (Jvm.Cond.instanceMethod ({ cls := "GuildCharterModel", name := "fails", desc := "(II)V" } : Jvm.MethodName)) ∈ lw_all := lw_g (lw_at lw_m6 209 rfl) rfl
theorem q1524 : (Jvm.Cond.code ({ cls := "GuildCharterModel", name := "fails", desc := "(II)V" } : Jvm.MethodName) prog_9_method_5_code (3 : Nat) (Option.none : Option Jvm.ClassFile.FieldType)) ∈ lw_all := lw_g (lw_at lw_m6 210 rfl) rfl
theorem q1525 : (Jvm.Cond.methodLink "GuildCharterModel" (257 : Nat) ({ cls := "GuildCharterModel", name := "readWord", desc := "()V" } : Jvm.MethodName)) ∈ lw_all := lw_g (lw_at lw_m6 211 rfl) rfl
theorem q1526 : (Jvm.Cond.privateMethod ({ cls := "GuildCharterModel", name := "readWord", desc := "()V" } : Jvm.MethodName)) ∈ lw_tbl := lw_at lw_m6 212 rfl
theorem q1527 : (Jvm.Cond.instanceMethod ({ cls := "GuildCharterModel", name := "readWord", desc := "()V" } : Jvm.MethodName)) ∈ lw_all := lw_g (lw_at lw_m6 213 rfl) rfl
theorem q1528 : (Jvm.Cond.code ({ cls := "GuildCharterModel", name := "readWord", desc := "()V" } : Jvm.MethodName) prog_9_method_21_code (3 : Nat) (Option.none : Option Jvm.ClassFile.FieldType)) ∈ lw_all := lw_g (lw_at lw_m6 214 rfl) rfl
theorem q1529 : (Jvm.Cond.methodLink "GuildCharterModel" (287 : Nat) ({ cls := "GuildCharterModel", name := "fresh", desc := "()J" } : Jvm.MethodName)) ∈ lw_all := lw_g (lw_at lw_m6 215 rfl) rfl
theorem q1530 : (Jvm.Cond.privateMethod ({ cls := "GuildCharterModel", name := "fresh", desc := "()J" } : Jvm.MethodName)) ∈ lw_tbl := lw_at lw_m6 216 rfl
theorem q1531 : (Jvm.Cond.instanceMethod ({ cls := "GuildCharterModel", name := "fresh", desc := "()J" } : Jvm.MethodName)) ∈ lw_all := lw_g (lw_at lw_m6 217 rfl) rfl
theorem q1532 : (Jvm.Cond.code ({ cls := "GuildCharterModel", name := "fresh", desc := "()J" } : Jvm.MethodName) prog_9_method_20_code (3 : Nat) (Option.some Jvm.ClassFile.FieldType.long)) ∈ lw_all := lw_g (lw_at lw_m6 218 rfl) rfl
theorem q1533 : (Jvm.Cond.methodLink "GuildCharterModel" (280 : Nat) ({ cls := "GuildCharterModel", name := "wordOf", desc := "(J)I" } : Jvm.MethodName)) ∈ lw_all := lw_g (lw_at lw_m6 219 rfl) rfl
theorem q1534 : (Jvm.Cond.privateMethod ({ cls := "GuildCharterModel", name := "wordOf", desc := "(J)I" } : Jvm.MethodName)) ∈ lw_tbl := lw_at lw_m6 220 rfl
theorem q1535 : (Jvm.Cond.instanceMethod ({ cls := "GuildCharterModel", name := "wordOf", desc := "(J)I" } : Jvm.MethodName)) ∈ lw_all := lw_g (lw_at lw_m6 221 rfl) rfl
theorem q1536 : (Jvm.Cond.code ({ cls := "GuildCharterModel", name := "wordOf", desc := "(J)I" } : Jvm.MethodName) prog_9_method_18_code (4 : Nat) (Option.some Jvm.ClassFile.FieldType.int)) ∈ lw_all := lw_g (lw_at lw_m6 222 rfl) rfl
theorem q1537 : (Jvm.Cond.methodLink "GuildCharterModel" (284 : Nat) ({ cls := "GuildCharterModel", name := "ruleOf", desc := "(J)I" } : Jvm.MethodName)) ∈ lw_all := lw_g (lw_at lw_m6 223 rfl) rfl
theorem q1538 : (Jvm.Cond.privateMethod ({ cls := "GuildCharterModel", name := "ruleOf", desc := "(J)I" } : Jvm.MethodName)) ∈ lw_tbl := lw_at lw_m6 224 rfl
theorem q1539 : (Jvm.Cond.instanceMethod ({ cls := "GuildCharterModel", name := "ruleOf", desc := "(J)I" } : Jvm.MethodName)) ∈ lw_all := lw_g (lw_at lw_m6 225 rfl) rfl
theorem q1540 : (Jvm.Cond.code ({ cls := "GuildCharterModel", name := "ruleOf", desc := "(J)I" } : Jvm.MethodName) prog_9_method_19_code (4 : Nat) (Option.some Jvm.ClassFile.FieldType.int)) ∈ lw_all := lw_g (lw_at lw_m6 226 rfl) rfl
theorem q1541 : (Jvm.Cond.methodLink "GuildCharterModel" (266 : Nat) ({ cls := "GuildCharterModel", name := "numeral", desc := "(II)I" } : Jvm.MethodName)) ∈ lw_all := lw_g (lw_at lw_m6 227 rfl) rfl
theorem q1542 : (Jvm.Cond.privateMethod ({ cls := "GuildCharterModel", name := "numeral", desc := "(II)I" } : Jvm.MethodName)) ∈ lw_tbl := lw_at lw_m6 228 rfl
theorem q1543 : (Jvm.Cond.instanceMethod ({ cls := "GuildCharterModel", name := "numeral", desc := "(II)I" } : Jvm.MethodName)) ∈ lw_all := lw_g (lw_at lw_m6 229 rfl) rfl
theorem q1544 : (Jvm.Cond.code ({ cls := "GuildCharterModel", name := "numeral", desc := "(II)I" } : Jvm.MethodName) prog_9_method_13_code (4 : Nat) (Option.some Jvm.ClassFile.FieldType.int)) ∈ lw_all := lw_g (lw_at lw_m6 230 rfl) rfl
theorem q1545 : (Jvm.Cond.methodLink "GuildCharterModel" (260 : Nat) ({ cls := "GuildCharterModel", name := "readPair", desc := "()V" } : Jvm.MethodName)) ∈ lw_all := lw_g (lw_at lw_m6 231 rfl) rfl
theorem q1546 : (Jvm.Cond.privateMethod ({ cls := "GuildCharterModel", name := "readPair", desc := "()V" } : Jvm.MethodName)) ∈ lw_tbl := lw_at lw_m6 232 rfl
theorem q1547 : (Jvm.Cond.instanceMethod ({ cls := "GuildCharterModel", name := "readPair", desc := "()V" } : Jvm.MethodName)) ∈ lw_all := lw_g (lw_at lw_m6 233 rfl) rfl
theorem q1548 : (Jvm.Cond.code ({ cls := "GuildCharterModel", name := "readPair", desc := "()V" } : Jvm.MethodName) prog_9_method_23_code (6 : Nat) (Option.none : Option Jvm.ClassFile.FieldType)) ∈ lw_all := lw_g (lw_at lw_m6 234 rfl) rfl
theorem q1549 : (Jvm.Cond.methodLink "GuildCharterModel" (291 : Nat) ({ cls := "GuildCharterModel", name := "known", desc := "()I" } : Jvm.MethodName)) ∈ lw_all := lw_g (lw_at lw_m6 235 rfl) rfl
theorem q1550 : (Jvm.Cond.privateMethod ({ cls := "GuildCharterModel", name := "known", desc := "()I" } : Jvm.MethodName)) ∈ lw_tbl := lw_at lw_m6 236 rfl
theorem q1551 : (Jvm.Cond.instanceMethod ({ cls := "GuildCharterModel", name := "known", desc := "()I" } : Jvm.MethodName)) ∈ lw_all := lw_g (lw_at lw_m6 237 rfl) rfl
theorem q1552 : (Jvm.Cond.code ({ cls := "GuildCharterModel", name := "known", desc := "()I" } : Jvm.MethodName) prog_9_method_22_code (2 : Nat) (Option.some Jvm.ClassFile.FieldType.int)) ∈ lw_all := lw_g (lw_at lw_m6 238 rfl) rfl
theorem q1553 : (Jvm.Cond.methodLink "GuildCharterModel" (263 : Nat) ({ cls := "GuildCharterModel", name := "readRule", desc := "()V" } : Jvm.MethodName)) ∈ lw_all := lw_g (lw_at lw_m6 239 rfl) rfl
theorem q1554 : (Jvm.Cond.privateMethod ({ cls := "GuildCharterModel", name := "readRule", desc := "()V" } : Jvm.MethodName)) ∈ lw_tbl := lw_at lw_m7 0 rfl
theorem q1555 : (Jvm.Cond.instanceMethod ({ cls := "GuildCharterModel", name := "readRule", desc := "()V" } : Jvm.MethodName)) ∈ lw_all := lw_g (lw_at lw_m7 1 rfl) rfl
theorem q1556 : (Jvm.Cond.code ({ cls := "GuildCharterModel", name := "readRule", desc := "()V" } : Jvm.MethodName) prog_9_method_24_code (2 : Nat) (Option.none : Option Jvm.ClassFile.FieldType)) ∈ lw_all := lw_g (lw_at lw_m7 2 rfl) rfl
theorem q1557 : (Jvm.Cond.methodLink "GuildCharterModel" (273 : Nat) ({ cls := "GuildCharterModel", name := "isSignHere", desc := "(I)Z" } : Jvm.MethodName)) ∈ lw_all := lw_g (lw_at lw_m7 3 rfl) rfl
theorem q1558 : (Jvm.Cond.privateMethod ({ cls := "GuildCharterModel", name := "isSignHere", desc := "(I)Z" } : Jvm.MethodName)) ∈ lw_tbl := lw_at lw_m7 4 rfl
theorem q1559 : (Jvm.Cond.instanceMethod ({ cls := "GuildCharterModel", name := "isSignHere", desc := "(I)Z" } : Jvm.MethodName)) ∈ lw_all := lw_g (lw_at lw_m7 5 rfl) rfl
theorem q1560 : (Jvm.Cond.code ({ cls := "GuildCharterModel", name := "isSignHere", desc := "(I)Z" } : Jvm.MethodName) prog_9_method_9_code (2 : Nat) (Option.some Jvm.ClassFile.FieldType.boolean)) ∈ lw_all := lw_g (lw_at lw_m7 6 rfl) rfl
theorem q1561 : (Jvm.Cond.methodLink "GuildCharterModel" (276 : Nat) ({ cls := "GuildCharterModel", name := "must", desc := "(Z)V" } : Jvm.MethodName)) ∈ lw_all := lw_g (lw_at lw_m7 7 rfl) rfl
theorem q1562 : (Jvm.Cond.privateMethod ({ cls := "GuildCharterModel", name := "must", desc := "(Z)V" } : Jvm.MethodName)) ∈ lw_tbl := lw_at lw_m7 8 rfl
theorem q1563 : (Jvm.Cond.instanceMethod ({ cls := "GuildCharterModel", name := "must", desc := "(Z)V" } : Jvm.MethodName)) ∈ lw_all := lw_g (lw_at lw_m7 9 rfl) rfl
theorem q1564 : (Jvm.Cond.code ({ cls := "GuildCharterModel", name := "must", desc := "(Z)V" } : Jvm.MethodName) prog_9_method_12_code (2 : Nat) (Option.none : Option Jvm.ClassFile.FieldType)) ∈ lw_all := lw_g (lw_at lw_m7 10 rfl) rfl
theorem q1565 : (Jvm.Cond.methodLink "GuildCharterModel" (295 : Nat) ({ cls := "GuildCharterModel", name := "readAlt", desc := "()V" } : Jvm.MethodName)) ∈ lw_all := lw_g (lw_at lw_m7 11 rfl) rfl
theorem q1566 : (Jvm.Cond.privateMethod ({ cls := "GuildCharterModel", name := "readAlt", desc := "()V" } : Jvm.MethodName)) ∈ lw_tbl := lw_at lw_m7 12 rfl
theorem q1567 : (Jvm.Cond.instanceMethod ({ cls := "GuildCharterModel", name := "readAlt", desc := "()V" } : Jvm.MethodName)) ∈ lw_all := lw_g (lw_at lw_m7 13 rfl) rfl
theorem q1568 : (Jvm.Cond.code ({ cls := "GuildCharterModel", name := "readAlt", desc := "()V" } : Jvm.MethodName) prog_9_method_25_code (2 : Nat) (Option.none : Option Jvm.ClassFile.FieldType)) ∈ lw_all := lw_g (lw_at lw_m7 14 rfl) rfl
theorem q1569 : (Jvm.Cond.methodLink "GuildCharterModel" (270 : Nat) ({ cls := "GuildCharterModel", name := "readTurns", desc := "()V" } : Jvm.MethodName)) ∈ lw_all := lw_g (lw_at lw_m7 15 rfl) rfl
theorem q1570 : (Jvm.Cond.privateMethod ({ cls := "GuildCharterModel", name := "readTurns", desc := "()V" } : Jvm.MethodName)) ∈ lw_tbl := lw_at lw_m7 16 rfl
theorem q1571 : (Jvm.Cond.instanceMethod ({ cls := "GuildCharterModel", name := "readTurns", desc := "()V" } : Jvm.MethodName)) ∈ lw_all := lw_g (lw_at lw_m7 17 rfl) rfl
theorem q1572 : (Jvm.Cond.code ({ cls := "GuildCharterModel", name := "readTurns", desc := "()V" } : Jvm.MethodName) prog_9_method_26_code (2 : Nat) (Option.none : Option Jvm.ClassFile.FieldType)) ∈ lw_all := lw_g (lw_at lw_m7 18 rfl) rfl
theorem q1573 : (Jvm.Cond.methodLink "GuildCharterModel" (239 : Nat) ({ cls := "GuildCharterModel", name := "settle", desc := "()V" } : Jvm.MethodName)) ∈ lw_all := lw_g (lw_at lw_m7 19 rfl) rfl
theorem q1574 : (Jvm.Cond.privateMethod ({ cls := "GuildCharterModel", name := "settle", desc := "()V" } : Jvm.MethodName)) ∈ lw_tbl := lw_at lw_m7 20 rfl
theorem q1575 : (Jvm.Cond.instanceMethod ({ cls := "GuildCharterModel", name := "settle", desc := "()V" } : Jvm.MethodName)) ∈ lw_all := lw_g (lw_at lw_m7 21 rfl) rfl
theorem q1576 : (Jvm.Cond.code ({ cls := "GuildCharterModel", name := "settle", desc := "()V" } : Jvm.MethodName) prog_9_method_27_code (5 : Nat) (Option.none : Option Jvm.ClassFile.FieldType)) ∈ lw_all := lw_g (lw_at lw_m7 22 rfl) rfl
theorem q1578 : (Jvm.Cond.instanceMethod ({ cls := "GuildCharterModel", name := "fault", desc := "(I)I" } : Jvm.MethodName)) ∈ lw_all := lw_g (lw_at lw_m7 24 rfl) rfl
theorem q1579 : (Jvm.Cond.selects "GuildCharterModel" ({ cls := "GuildCharterModel", name := "fault", desc := "(I)I" } : Jvm.MethodName) ({ cls := "GuildCharterModel", name := "fault", desc := "(I)I" } : Jvm.MethodName)) ∈ lw_all := lw_g (lw_at lw_m7 25 rfl) rfl
theorem q1580 : (Jvm.Cond.code ({ cls := "GuildCharterModel", name := "fault", desc := "(I)I" } : Jvm.MethodName) prog_9_method_28_code (2 : Nat) (Option.some Jvm.ClassFile.FieldType.int)) ∈ lw_all := lw_g (lw_at lw_m7 26 rfl) rfl
theorem q1582 : (Jvm.Cond.instanceMethod ({ cls := "GuildCharterModel", name := "worth", desc := "(II)I" } : Jvm.MethodName)) ∈ lw_all := lw_g (lw_at lw_m7 28 rfl) rfl
theorem q1583 : (Jvm.Cond.selects "GuildCharterModel" ({ cls := "GuildCharterModel", name := "worth", desc := "(II)I" } : Jvm.MethodName) ({ cls := "GuildCharterModel", name := "worth", desc := "(II)I" } : Jvm.MethodName)) ∈ lw_all := lw_g (lw_at lw_m7 29 rfl) rfl
theorem q1584 : (Jvm.Cond.code ({ cls := "GuildCharterModel", name := "worth", desc := "(II)I" } : Jvm.MethodName) prog_9_method_34_code (3 : Nat) (Option.some Jvm.ClassFile.FieldType.int)) ∈ lw_all := lw_g (lw_at lw_m7 30 rfl) rfl
theorem q1585 : (Jvm.Cond.methodLink "GuildCharterModel" (305 : Nat) ({ cls := "GuildCharterModel", name := "isWordOf", desc := "(I)Z" } : Jvm.MethodName)) ∈ lw_all := lw_g (lw_at lw_m7 31 rfl) rfl
theorem q1586 : (Jvm.Cond.privateMethod ({ cls := "GuildCharterModel", name := "isWordOf", desc := "(I)Z" } : Jvm.MethodName)) ∈ lw_tbl := lw_at lw_m7 32 rfl
theorem q1587 : (Jvm.Cond.instanceMethod ({ cls := "GuildCharterModel", name := "isWordOf", desc := "(I)Z" } : Jvm.MethodName)) ∈ lw_all := lw_g (lw_at lw_m7 33 rfl) rfl
theorem q1588 : (Jvm.Cond.code ({ cls := "GuildCharterModel", name := "isWordOf", desc := "(I)Z" } : Jvm.MethodName) prog_9_method_30_code (2 : Nat) (Option.some Jvm.ClassFile.FieldType.boolean)) ∈ lw_all := lw_g (lw_at lw_m7 34 rfl) rfl
theorem q1589 : (Jvm.Cond.methodLink "GuildCharterModel" (298 : Nat) ({ cls := "GuildCharterModel", name := "isIn", desc := "(III)Z" } : Jvm.MethodName)) ∈ lw_all := lw_g (lw_at lw_m7 35 rfl) rfl
theorem q1590 : (Jvm.Cond.static ({ cls := "GuildCharterModel", name := "isIn", desc := "(III)Z" } : Jvm.MethodName)) ∈ lw_all := lw_g (lw_at lw_m7 36 rfl) rfl
theorem q1591 : (Jvm.Cond.code ({ cls := "GuildCharterModel", name := "isIn", desc := "(III)Z" } : Jvm.MethodName) prog_9_method_29_code (3 : Nat) (Option.some Jvm.ClassFile.FieldType.boolean)) ∈ lw_all := lw_g (lw_at lw_m7 37 rfl) rfl
theorem q1592 : (Jvm.Cond.methodLink "GuildCharterModel" (308 : Nat) ({ cls := "GuildCharterModel", name := "isGuild", desc := "(I)Z" } : Jvm.MethodName)) ∈ lw_all := lw_g (lw_at lw_m7 38 rfl) rfl
theorem q1593 : (Jvm.Cond.static ({ cls := "GuildCharterModel", name := "isGuild", desc := "(I)Z" } : Jvm.MethodName)) ∈ lw_all := lw_g (lw_at lw_m7 39 rfl) rfl
theorem q1594 : (Jvm.Cond.code ({ cls := "GuildCharterModel", name := "isGuild", desc := "(I)Z" } : Jvm.MethodName) prog_9_method_31_code (1 : Nat) (Option.some Jvm.ClassFile.FieldType.boolean)) ∈ lw_all := lw_g (lw_at lw_m7 40 rfl) rfl
theorem q1595 : (Jvm.Cond.constant "GuildCharterModel" (311 : Nat) (-1000000 : Int32)) ∈ lw_all := lw_g (lw_at lw_m7 41 rfl) rfl
theorem q1597 : (Jvm.Cond.instanceMethod ({ cls := "GuildCharterModel", name := "behind", desc := "(III)I" } : Jvm.MethodName)) ∈ lw_all := lw_g (lw_at lw_m7 43 rfl) rfl
theorem q1598 : (Jvm.Cond.selects "GuildCharterModel" ({ cls := "GuildCharterModel", name := "behind", desc := "(III)I" } : Jvm.MethodName) ({ cls := "GuildCharterModel", name := "behind", desc := "(III)I" } : Jvm.MethodName)) ∈ lw_all := lw_g (lw_at lw_m7 44 rfl) rfl
theorem q1599 : (Jvm.Cond.code ({ cls := "GuildCharterModel", name := "behind", desc := "(III)I" } : Jvm.MethodName) prog_9_method_36_code (4 : Nat) (Option.some Jvm.ClassFile.FieldType.int)) ∈ lw_all := lw_g (lw_at lw_m7 45 rfl) rfl
theorem q1600 : (Jvm.Cond.methodLink "GuildCharterModel" (312 : Nat) ({ cls := "GuildCharterModel", name := "pairOf", desc := "(III)I" } : Jvm.MethodName)) ∈ lw_all := lw_g (lw_at lw_m7 46 rfl) rfl
theorem q1601 : (Jvm.Cond.privateMethod ({ cls := "GuildCharterModel", name := "pairOf", desc := "(III)I" } : Jvm.MethodName)) ∈ lw_tbl := lw_at lw_m7 47 rfl
theorem q1602 : (Jvm.Cond.instanceMethod ({ cls := "GuildCharterModel", name := "pairOf", desc := "(III)I" } : Jvm.MethodName)) ∈ lw_all := lw_g (lw_at lw_m7 48 rfl) rfl
theorem q1603 : (Jvm.Cond.code ({ cls := "GuildCharterModel", name := "pairOf", desc := "(III)I" } : Jvm.MethodName) prog_9_method_35_code (4 : Nat) (Option.some Jvm.ClassFile.FieldType.int)) ∈ lw_all := lw_g (lw_at lw_m7 49 rfl) rfl
theorem q1605 : (Jvm.Cond.instanceMethod ({ cls := "GuildCharterModel", name := "turn", desc := "(I)I" } : Jvm.MethodName)) ∈ lw_all := lw_g (lw_at lw_m7 51 rfl) rfl
theorem q1606 : (Jvm.Cond.selects "GuildCharterModel" ({ cls := "GuildCharterModel", name := "turn", desc := "(I)I" } : Jvm.MethodName) ({ cls := "GuildCharterModel", name := "turn", desc := "(I)I" } : Jvm.MethodName)) ∈ lw_all := lw_g (lw_at lw_m7 52 rfl) rfl
theorem q1607 : (Jvm.Cond.code ({ cls := "GuildCharterModel", name := "turn", desc := "(I)I" } : Jvm.MethodName) prog_9_method_49_code (2 : Nat) (Option.some Jvm.ClassFile.FieldType.int)) ∈ lw_all := lw_g (lw_at lw_m7 53 rfl) rfl
theorem q1608 : (Jvm.Cond.methodLink "GuildCharterModel" (357 : Nat) ({ cls := "GuildCharterModel", name := "isPlace", desc := "(I)Z" } : Jvm.MethodName)) ∈ lw_all := lw_g (lw_at lw_m7 54 rfl) rfl
theorem q1609 : (Jvm.Cond.privateMethod ({ cls := "GuildCharterModel", name := "isPlace", desc := "(I)Z" } : Jvm.MethodName)) ∈ lw_tbl := lw_at lw_m7 55 rfl
theorem q1610 : (Jvm.Cond.instanceMethod ({ cls := "GuildCharterModel", name := "isPlace", desc := "(I)Z" } : Jvm.MethodName)) ∈ lw_all := lw_g (lw_at lw_m7 56 rfl) rfl
theorem q1611 : (Jvm.Cond.code ({ cls := "GuildCharterModel", name := "isPlace", desc := "(I)Z" } : Jvm.MethodName) prog_9_method_33_code (2 : Nat) (Option.some Jvm.ClassFile.FieldType.boolean)) ∈ lw_all := lw_g (lw_at lw_m7 57 rfl) rfl
theorem q1612 : (Jvm.Cond.methodLink "GuildCharterModel" (302 : Nat) ({ cls := "GuildCharterModel", name := "longOf", desc := "()I" } : Jvm.MethodName)) ∈ lw_all := lw_g (lw_at lw_m7 58 rfl) rfl
theorem q1613 : (Jvm.Cond.privateMethod ({ cls := "GuildCharterModel", name := "longOf", desc := "()I" } : Jvm.MethodName)) ∈ lw_tbl := lw_at lw_m7 59 rfl
theorem q1614 : (Jvm.Cond.instanceMethod ({ cls := "GuildCharterModel", name := "longOf", desc := "()I" } : Jvm.MethodName)) ∈ lw_all := lw_g (lw_at lw_m7 60 rfl) rfl
theorem q1615 : (Jvm.Cond.code ({ cls := "GuildCharterModel", name := "longOf", desc := "()I" } : Jvm.MethodName) prog_9_method_32_code (1 : Nat) (Option.some Jvm.ClassFile.FieldType.int)) ∈ lw_all := lw_g (lw_at lw_m7 61 rfl) rfl
theorem q1617 : (Jvm.Cond.instanceMethod ({ cls := "GuildCharterModel", name := "word", desc := "(I)I" } : Jvm.MethodName)) ∈ lw_all := lw_g (lw_at lw_m7 63 rfl) rfl
theorem q1618 : (Jvm.Cond.selects "GuildCharterModel" ({ cls := "GuildCharterModel", name := "word", desc := "(I)I" } : Jvm.MethodName) ({ cls := "GuildCharterModel", name := "word", desc := "(I)I" } : Jvm.MethodName)) ∈ lw_all := lw_g (lw_at lw_m7 64 rfl) rfl
theorem q1619 : (Jvm.Cond.code ({ cls := "GuildCharterModel", name := "word", desc := "(I)I" } : Jvm.MethodName) prog_9_method_50_code (2 : Nat) (Option.some Jvm.ClassFile.FieldType.int)) ∈ lw_all := lw_g (lw_at lw_m7 65 rfl) rfl
theorem q1621 : (Jvm.Cond.instanceMethod ({ cls := "GuildCharterModel", name := "next", desc := "()I" } : Jvm.MethodName)) ∈ lw_all := lw_g (lw_at lw_m7 67 rfl) rfl
theorem q1622 : (Jvm.Cond.selects "GuildCharterModel" ({ cls := "GuildCharterModel", name := "next", desc := "()I" } : Jvm.MethodName) ({ cls := "GuildCharterModel", name := "next", desc := "()I" } : Jvm.MethodName)) ∈ lw_all := lw_g (lw_at lw_m7 68 rfl) rfl
theorem q1623 : (Jvm.Cond.code ({ cls := "GuildCharterModel", name := "next", desc := "()I" } : Jvm.MethodName) prog_9_method_51_code (3 : Nat) (Option.some Jvm.ClassFile.FieldType.int)) ∈ lw_all := lw_g (lw_at lw_m7 69 rfl) rfl
theorem q1624 : (Jvm.Cond.methodLink "GuildCharterModel" (360 : Nat) ({ cls := "GuildCharterModel", name := "canCome", desc := "(I)Z" } : Jvm.MethodName)) ∈ lw_all := lw_g (lw_at lw_m7 70 rfl) rfl
theorem q1625 : (Jvm.Cond.privateMethod ({ cls := "GuildCharterModel", name := "canCome", desc := "(I)Z" } : Jvm.MethodName)) ∈ lw_tbl := lw_at lw_m7 71 rfl
theorem q1626 : (Jvm.Cond.instanceMethod ({ cls := "GuildCharterModel", name := "canCome", desc := "(I)Z" } : Jvm.MethodName)) ∈ lw_all := lw_g (lw_at lw_m7 72 rfl) rfl
theorem q1627 : (Jvm.Cond.code ({ cls := "GuildCharterModel", name := "canCome", desc := "(I)Z" } : Jvm.MethodName) prog_9_method_48_code (2 : Nat) (Option.some Jvm.ClassFile.FieldType.boolean)) ∈ lw_all := lw_g (lw_at lw_m7 73 rfl) rfl
theorem q1628 : (Jvm.Cond.methodLink "GuildCharterModel" (351 : Nat) ({ cls := "GuildCharterModel", name := "tryRow", desc := "()V" } : Jvm.MethodName)) ∈ lw_all := lw_g (lw_at lw_m7 74 rfl) rfl
theorem q1629 : (Jvm.Cond.privateMethod ({ cls := "GuildCharterModel", name := "tryRow", desc := "()V" } : Jvm.MethodName)) ∈ lw_tbl := lw_at lw_m7 75 rfl
theorem q1630 : (Jvm.Cond.instanceMethod ({ cls := "GuildCharterModel", name := "tryRow", desc := "()V" } : Jvm.MethodName)) ∈ lw_all := lw_g (lw_at lw_m7 76 rfl) rfl
theorem q1631 : (Jvm.Cond.code ({ cls := "GuildCharterModel", name := "tryRow", desc := "()V" } : Jvm.MethodName) prog_9_method_47_code (2 : Nat) (Option.none : Option Jvm.ClassFile.FieldType)) ∈ lw_all := lw_g (lw_at lw_m7 77 rfl) rfl
theorem q1632 : (Jvm.Cond.methodLink "GuildCharterModel" (354 : Nat) ({ cls := "GuildCharterModel", name := "canGoOn", desc := "(I)Z" } : Jvm.MethodName)) ∈ lw_all := lw_g (lw_at lw_m7 78 rfl) rfl
theorem q1633 : (Jvm.Cond.privateMethod ({ cls := "GuildCharterModel", name := "canGoOn", desc := "(I)Z" } : Jvm.MethodName)) ∈ lw_tbl := lw_at lw_m7 79 rfl
theorem q1634 : (Jvm.Cond.instanceMethod ({ cls := "GuildCharterModel", name := "canGoOn", desc := "(I)Z" } : Jvm.MethodName)) ∈ lw_all := lw_g (lw_at lw_m7 80 rfl) rfl
theorem q1635 : (Jvm.Cond.code ({ cls := "GuildCharterModel", name := "canGoOn", desc := "(I)Z" } : Jvm.MethodName) prog_9_method_46_code (3 : Nat) (Option.some Jvm.ClassFile.FieldType.boolean)) ∈ lw_all := lw_g (lw_at lw_m7 81 rfl) rfl
theorem q1636 : (Jvm.Cond.methodLink "GuildCharterModel" (348 : Nat) ({ cls := "GuildCharterModel", name := "isRead", desc := "(I)Z" } : Jvm.MethodName)) ∈ lw_all := lw_g (lw_at lw_m7 82 rfl) rfl
theorem q1637 : (Jvm.Cond.privateMethod ({ cls := "GuildCharterModel", name := "isRead", desc := "(I)Z" } : Jvm.MethodName)) ∈ lw_tbl := lw_at lw_m7 83 rfl
theorem q1638 : (Jvm.Cond.instanceMethod ({ cls := "GuildCharterModel", name := "isRead", desc := "(I)Z" } : Jvm.MethodName)) ∈ lw_all := lw_g (lw_at lw_m7 84 rfl) rfl
theorem q1639 : (Jvm.Cond.code ({ cls := "GuildCharterModel", name := "isRead", desc := "(I)Z" } : Jvm.MethodName) prog_9_method_40_code (2 : Nat) (Option.some Jvm.ClassFile.FieldType.boolean)) ∈ lw_all := lw_g (lw_at lw_m7 85 rfl) rfl
theorem q1640 : (Jvm.Cond.methodLink "GuildCharterModel" (322 : Nat) ({ cls := "GuildCharterModel", name := "layEnds", desc := "(I)V" } : Jvm.MethodName)) ∈ lw_all := lw_g (lw_at lw_m7 86 rfl) rfl
theorem q1641 : (Jvm.Cond.privateMethod ({ cls := "GuildCharterModel", name := "layEnds", desc := "(I)V" } : Jvm.MethodName)) ∈ lw_tbl := lw_at lw_m7 87 rfl
theorem q1642 : (Jvm.Cond.instanceMethod ({ cls := "GuildCharterModel", name := "layEnds", desc := "(I)V" } : Jvm.MethodName)) ∈ lw_all := lw_g (lw_at lw_m7 88 rfl) rfl
theorem q1643 : (Jvm.Cond.code ({ cls := "GuildCharterModel", name := "layEnds", desc := "(I)V" } : Jvm.MethodName) prog_9_method_39_code (5 : Nat) (Option.none : Option Jvm.ClassFile.FieldType)) ∈ lw_all := lw_g (lw_at lw_m7 89 rfl) rfl
theorem q1644 : (Jvm.Cond.methodLink "GuildCharterModel" (319 : Nat) ({ cls := "GuildCharterModel", name := "doesRead", desc := "(III)Z" } : Jvm.MethodName)) ∈ lw_all := lw_g (lw_at lw_m7 90 rfl) rfl
theorem q1645 : (Jvm.Cond.privateMethod ({ cls := "GuildCharterModel", name := "doesRead", desc := "(III)Z" } : Jvm.MethodName)) ∈ lw_tbl := lw_at lw_m7 91 rfl
theorem q1646 : (Jvm.Cond.instanceMethod ({ cls := "GuildCharterModel", name := "doesRead", desc := "(III)Z" } : Jvm.MethodName)) ∈ lw_all := lw_g (lw_at lw_m7 92 rfl) rfl
theorem q1647 : (Jvm.Cond.code ({ cls := "GuildCharterModel", name := "doesRead", desc := "(III)Z" } : Jvm.MethodName) prog_9_method_38_code (8 : Nat) (Option.some Jvm.ClassFile.FieldType.boolean)) ∈ lw_all := lw_g (lw_at lw_m7 93 rfl) rfl
theorem q1648 : (Jvm.Cond.methodLink "GuildCharterModel" (316 : Nat) ({ cls := "GuildCharterModel", name := "endsBy", desc := "(II)I" } : Jvm.MethodName)) ∈ lw_all := lw_g (lw_at lw_m7 94 rfl) rfl
theorem q1649 : (Jvm.Cond.privateMethod ({ cls := "GuildCharterModel", name := "endsBy", desc := "(II)I" } : Jvm.MethodName)) ∈ lw_tbl := lw_at lw_m7 95 rfl
theorem q1650 : (Jvm.Cond.instanceMethod ({ cls := "GuildCharterModel", name := "endsBy", desc := "(II)I" } : Jvm.MethodName)) ∈ lw_all := lw_g (lw_at lw_m7 96 rfl) rfl
theorem q1651 : (Jvm.Cond.code ({ cls := "GuildCharterModel", name := "endsBy", desc := "(II)I" } : Jvm.MethodName) prog_9_method_37_code (3 : Nat) (Option.some Jvm.ClassFile.FieldType.int)) ∈ lw_all := lw_g (lw_at lw_m7 97 rfl) rfl
theorem q1653 : (Jvm.Cond.instanceMethod ({ cls := "GuildCharterModel", name := "readings", desc := "()I" } : Jvm.MethodName)) ∈ lw_all := lw_g (lw_at lw_m7 99 rfl) rfl
theorem q1654 : (Jvm.Cond.selects "GuildCharterModel" ({ cls := "GuildCharterModel", name := "readings", desc := "()I" } : Jvm.MethodName) ({ cls := "GuildCharterModel", name := "readings", desc := "()I" } : Jvm.MethodName)) ∈ lw_all := lw_g (lw_at lw_m7 100 rfl) rfl
theorem q1655 : (Jvm.Cond.code ({ cls := "GuildCharterModel", name := "readings", desc := "()I" } : Jvm.MethodName) prog_9_method_52_code (1 : Nat) (Option.some Jvm.ClassFile.FieldType.int)) ∈ lw_all := lw_g (lw_at lw_m7 101 rfl) rfl
theorem q1656 : (Jvm.Cond.methodLink "GuildCharterModel" (363 : Nat) ({ cls := "GuildCharterModel", name := "readingsOf", desc := "(I)J" } : Jvm.MethodName)) ∈ lw_all := lw_g (lw_at lw_m7 102 rfl) rfl
theorem q1657 : (Jvm.Cond.privateMethod ({ cls := "GuildCharterModel", name := "readingsOf", desc := "(I)J" } : Jvm.MethodName)) ∈ lw_tbl := lw_at lw_m7 103 rfl
theorem q1658 : (Jvm.Cond.instanceMethod ({ cls := "GuildCharterModel", name := "readingsOf", desc := "(I)J" } : Jvm.MethodName)) ∈ lw_all := lw_g (lw_at lw_m7 104 rfl) rfl
theorem q1659 : (Jvm.Cond.code ({ cls := "GuildCharterModel", name := "readingsOf", desc := "(I)J" } : Jvm.MethodName) prog_9_method_41_code (6 : Nat) (Option.some Jvm.ClassFile.FieldType.long)) ∈ lw_all := lw_g (lw_at lw_m7 105 rfl) rfl
theorem q1660 : (Jvm.Cond.methodLink "GuildCharterModel" (326 : Nat) ({ cls := "GuildCharterModel", name := "waysBy", desc := "(III)J" } : Jvm.MethodName)) ∈ lw_all := lw_g (lw_at lw_m7 106 rfl) rfl
theorem q1661 : (Jvm.Cond.privateMethod ({ cls := "GuildCharterModel", name := "waysBy", desc := "(III)J" } : Jvm.MethodName)) ∈ lw_tbl := lw_at lw_m7 107 rfl
theorem q1662 : (Jvm.Cond.instanceMethod ({ cls := "GuildCharterModel", name := "waysBy", desc := "(III)J" } : Jvm.MethodName)) ∈ lw_all := lw_g (lw_at lw_m7 108 rfl) rfl
theorem q1663 : (Jvm.Cond.code ({ cls := "GuildCharterModel", name := "waysBy", desc := "(III)J" } : Jvm.MethodName) prog_9_method_43_code (7 : Nat) (Option.some Jvm.ClassFile.FieldType.long)) ∈ lw_all := lw_g (lw_at lw_m7 109 rfl) rfl
theorem q1664 : (Jvm.Cond.methodLink "GuildCharterModel" (330 : Nat) ({ cls := "GuildCharterModel", name := "atMost", desc := "(J)J" } : Jvm.MethodName)) ∈ lw_all := lw_g (lw_at lw_m7 110 rfl) rfl
theorem q1665 : (Jvm.Cond.static ({ cls := "GuildCharterModel", name := "atMost", desc := "(J)J" } : Jvm.MethodName)) ∈ lw_all := lw_g (lw_at lw_m7 111 rfl) rfl
theorem q1666 : (Jvm.Cond.code ({ cls := "GuildCharterModel", name := "atMost", desc := "(J)J" } : Jvm.MethodName) prog_9_method_42_code (2 : Nat) (Option.some Jvm.ClassFile.FieldType.long)) ∈ lw_all := lw_g (lw_at lw_m7 112 rfl) rfl
theorem q1667 : (Jvm.Cond.constantLong "GuildCharterModel" (334 : Nat) (1000000000 : Int64)) ∈ lw_all := lw_g (lw_at lw_m7 113 rfl) rfl
theorem q1669 : (Jvm.Cond.instanceMethod ({ cls := "GuildCharterModel", name := "means", desc := "(I)I" } : Jvm.MethodName)) ∈ lw_all := lw_g (lw_at lw_m7 115 rfl) rfl
theorem q1670 : (Jvm.Cond.selects "GuildCharterModel" ({ cls := "GuildCharterModel", name := "means", desc := "(I)I" } : Jvm.MethodName) ({ cls := "GuildCharterModel", name := "means", desc := "(I)I" } : Jvm.MethodName)) ∈ lw_all := lw_g (lw_at lw_m7 116 rfl) rfl
theorem q1671 : (Jvm.Cond.code ({ cls := "GuildCharterModel", name := "means", desc := "(I)I" } : Jvm.MethodName) prog_9_method_54_code (2 : Nat) (Option.some Jvm.ClassFile.FieldType.int)) ∈ lw_all := lw_g (lw_at lw_m7 117 rfl) rfl
theorem q1672 : (Jvm.Cond.methodLink "GuildCharterModel" (367 : Nat) ({ cls := "GuildCharterModel", name := "meansOf", desc := "(II)I" } : Jvm.MethodName)) ∈ lw_all := lw_g (lw_at lw_m7 118 rfl) rfl
theorem q1673 : (Jvm.Cond.privateMethod ({ cls := "GuildCharterModel", name := "meansOf", desc := "(II)I" } : Jvm.MethodName)) ∈ lw_tbl := lw_at lw_m7 119 rfl
theorem q1674 : (Jvm.Cond.instanceMethod ({ cls := "GuildCharterModel", name := "meansOf", desc := "(II)I" } : Jvm.MethodName)) ∈ lw_all := lw_g (lw_at lw_m7 120 rfl) rfl
theorem q1675 : (Jvm.Cond.code ({ cls := "GuildCharterModel", name := "meansOf", desc := "(II)I" } : Jvm.MethodName) prog_9_method_53_code (5 : Nat) (Option.some Jvm.ClassFile.FieldType.int)) ∈ lw_all := lw_g (lw_at lw_m7 121 rfl) rfl
theorem q1677 : (Jvm.Cond.instanceMethod ({ cls := "GuildCharterModel", name := "write", desc := "(I)I" } : Jvm.MethodName)) ∈ lw_all := lw_g (lw_at lw_m7 123 rfl) rfl
theorem q1678 : (Jvm.Cond.selects "GuildCharterModel" ({ cls := "GuildCharterModel", name := "write", desc := "(I)I" } : Jvm.MethodName) ({ cls := "GuildCharterModel", name := "write", desc := "(I)I" } : Jvm.MethodName)) ∈ lw_all := lw_g (lw_at lw_m7 124 rfl) rfl
theorem q1679 : (Jvm.Cond.code ({ cls := "GuildCharterModel", name := "write", desc := "(I)I" } : Jvm.MethodName) prog_9_method_56_code (2 : Nat) (Option.some Jvm.ClassFile.FieldType.int)) ∈ lw_all := lw_g (lw_at lw_m7 125 rfl) rfl
theorem q1680 : (Jvm.Cond.methodLink "GuildCharterModel" (370 : Nat) ({ cls := "GuildCharterModel", name := "keepAct", desc := "(II)V" } : Jvm.MethodName)) ∈ lw_all := lw_g (lw_at lw_m7 126 rfl) rfl
theorem q1681 : (Jvm.Cond.privateMethod ({ cls := "GuildCharterModel", name := "keepAct", desc := "(II)V" } : Jvm.MethodName)) ∈ lw_tbl := lw_at lw_m7 127 rfl
theorem q1682 : (Jvm.Cond.instanceMethod ({ cls := "GuildCharterModel", name := "keepAct", desc := "(II)V" } : Jvm.MethodName)) ∈ lw_all := lw_g (lw_at lw_m7 128 rfl) rfl
theorem q1683 : (Jvm.Cond.code ({ cls := "GuildCharterModel", name := "keepAct", desc := "(II)V" } : Jvm.MethodName) prog_9_method_55_code (4 : Nat) (Option.none : Option Jvm.ClassFile.FieldType)) ∈ lw_all := lw_g (lw_at lw_m7 129 rfl) rfl
theorem q1685 : (Jvm.Cond.instanceMethod ({ cls := "GuildCharterModel", name := "sell", desc := "(II)I" } : Jvm.MethodName)) ∈ lw_all := lw_g (lw_at lw_m7 131 rfl) rfl
theorem q1686 : (Jvm.Cond.selects "GuildCharterModel" ({ cls := "GuildCharterModel", name := "sell", desc := "(II)I" } : Jvm.MethodName) ({ cls := "GuildCharterModel", name := "sell", desc := "(II)I" } : Jvm.MethodName)) ∈ lw_all := lw_g (lw_at lw_m7 132 rfl) rfl
theorem q1687 : (Jvm.Cond.code ({ cls := "GuildCharterModel", name := "sell", desc := "(II)I" } : Jvm.MethodName) prog_9_method_57_code (4 : Nat) (Option.some Jvm.ClassFile.FieldType.int)) ∈ lw_all := lw_g (lw_at lw_m7 133 rfl) rfl
theorem q1689 : (Jvm.Cond.instanceMethod ({ cls := "GuildCharterModel", name := "undo", desc := "()Z" } : Jvm.MethodName)) ∈ lw_all := lw_g (lw_at lw_m7 135 rfl) rfl
theorem q1690 : (Jvm.Cond.selects "GuildCharterModel" ({ cls := "GuildCharterModel", name := "undo", desc := "()Z" } : Jvm.MethodName) ({ cls := "GuildCharterModel", name := "undo", desc := "()Z" } : Jvm.MethodName)) ∈ lw_all := lw_g (lw_at lw_m7 136 rfl) rfl
theorem q1691 : (Jvm.Cond.code ({ cls := "GuildCharterModel", name := "undo", desc := "()Z" } : Jvm.MethodName) prog_9_method_59_code (1 : Nat) (Option.some Jvm.ClassFile.FieldType.boolean)) ∈ lw_all := lw_g (lw_at lw_m7 137 rfl) rfl
theorem q1692 : (Jvm.Cond.methodLink "GuildCharterModel" (373 : Nat) ({ cls := "GuildCharterModel", name := "exchange", desc := "(Z)V" } : Jvm.MethodName)) ∈ lw_all := lw_g (lw_at lw_m7 138 rfl) rfl
theorem q1693 : (Jvm.Cond.privateMethod ({ cls := "GuildCharterModel", name := "exchange", desc := "(Z)V" } : Jvm.MethodName)) ∈ lw_tbl := lw_at lw_m7 139 rfl
theorem q1694 : (Jvm.Cond.instanceMethod ({ cls := "GuildCharterModel", name := "exchange", desc := "(Z)V" } : Jvm.MethodName)) ∈ lw_all := lw_g (lw_at lw_m7 140 rfl) rfl
theorem q1695 : (Jvm.Cond.code ({ cls := "GuildCharterModel", name := "exchange", desc := "(Z)V" } : Jvm.MethodName) prog_9_method_58_code (3 : Nat) (Option.none : Option Jvm.ClassFile.FieldType)) ∈ lw_all := lw_g (lw_at lw_m7 141 rfl) rfl
theorem q1697 : (Jvm.Cond.instanceMethod ({ cls := "GuildCharterModel", name := "redo", desc := "()Z" } : Jvm.MethodName)) ∈ lw_all := lw_g (lw_at lw_m7 143 rfl) rfl
theorem q1698 : (Jvm.Cond.selects "GuildCharterModel" ({ cls := "GuildCharterModel", name := "redo", desc := "()Z" } : Jvm.MethodName) ({ cls := "GuildCharterModel", name := "redo", desc := "()Z" } : Jvm.MethodName)) ∈ lw_all := lw_g (lw_at lw_m7 144 rfl) rfl
theorem q1699 : (Jvm.Cond.code ({ cls := "GuildCharterModel", name := "redo", desc := "()Z" } : Jvm.MethodName) prog_9_method_60_code (1 : Nat) (Option.some Jvm.ClassFile.FieldType.boolean)) ∈ lw_all := lw_g (lw_at lw_m7 145 rfl) rfl
theorem q1701 : (Jvm.Cond.instanceMethod ({ cls := "GuildCharterModel", name := "wipe", desc := "()I" } : Jvm.MethodName)) ∈ lw_all := lw_g (lw_at lw_m7 147 rfl) rfl
theorem q1702 : (Jvm.Cond.selects "GuildCharterModel" ({ cls := "GuildCharterModel", name := "wipe", desc := "()I" } : Jvm.MethodName) ({ cls := "GuildCharterModel", name := "wipe", desc := "()I" } : Jvm.MethodName)) ∈ lw_all := lw_g (lw_at lw_m7 148 rfl) rfl
theorem q1703 : (Jvm.Cond.code ({ cls := "GuildCharterModel", name := "wipe", desc := "()I" } : Jvm.MethodName) prog_9_method_61_code (2 : Nat) (Option.some Jvm.ClassFile.FieldType.int)) ∈ lw_all := lw_g (lw_at lw_m7 149 rfl) rfl
theorem q1705 : (Jvm.Cond.instanceMethod ({ cls := "GuildCharterModel", name := "lies", desc := "(I)I" } : Jvm.MethodName)) ∈ lw_all := lw_g (lw_at lw_m7 151 rfl) rfl
theorem q1706 : (Jvm.Cond.selects "GuildCharterModel" ({ cls := "GuildCharterModel", name := "lies", desc := "(I)I" } : Jvm.MethodName) ({ cls := "GuildCharterModel", name := "lies", desc := "(I)I" } : Jvm.MethodName)) ∈ lw_all := lw_g (lw_at lw_m7 152 rfl) rfl
theorem q1707 : (Jvm.Cond.code ({ cls := "GuildCharterModel", name := "lies", desc := "(I)I" } : Jvm.MethodName) prog_9_method_80_code (2 : Nat) (Option.some Jvm.ClassFile.FieldType.int)) ∈ lw_all := lw_g (lw_at lw_m7 153 rfl) rfl
theorem q1709 : (Jvm.Cond.instanceMethod ({ cls := "GuildCharterModel", name := "written", desc := "(I)I" } : Jvm.MethodName)) ∈ lw_all := lw_g (lw_at lw_m7 155 rfl) rfl
theorem q1710 : (Jvm.Cond.selects "GuildCharterModel" ({ cls := "GuildCharterModel", name := "written", desc := "(I)I" } : Jvm.MethodName) ({ cls := "GuildCharterModel", name := "written", desc := "(I)I" } : Jvm.MethodName)) ∈ lw_all := lw_g (lw_at lw_m7 156 rfl) rfl
theorem q1711 : (Jvm.Cond.code ({ cls := "GuildCharterModel", name := "written", desc := "(I)I" } : Jvm.MethodName) prog_9_method_81_code (3 : Nat) (Option.some Jvm.ClassFile.FieldType.int)) ∈ lw_all := lw_g (lw_at lw_m7 157 rfl) rfl
theorem q1712 : (Jvm.Cond.methodLink "GuildCharterModel" (434 : Nat) ({ cls := "GuildCharterModel", name := "layFromRow", desc := "()Z" } : Jvm.MethodName)) ∈ lw_all := lw_g (lw_at lw_m7 158 rfl) rfl
theorem q1713 : (Jvm.Cond.privateMethod ({ cls := "GuildCharterModel", name := "layFromRow", desc := "()Z" } : Jvm.MethodName)) ∈ lw_tbl := lw_at lw_m7 159 rfl
theorem q1714 : (Jvm.Cond.instanceMethod ({ cls := "GuildCharterModel", name := "layFromRow", desc := "()Z" } : Jvm.MethodName)) ∈ lw_all := lw_g (lw_at lw_m7 160 rfl) rfl
theorem q1715 : (Jvm.Cond.code ({ cls := "GuildCharterModel", name := "layFromRow", desc := "()Z" } : Jvm.MethodName) prog_9_method_69_code (2 : Nat) (Option.some Jvm.ClassFile.FieldType.boolean)) ∈ lw_all := lw_g (lw_at lw_m7 161 rfl) rfl
theorem q1716 : (Jvm.Cond.methodLink "GuildCharterModel" (405 : Nat) ({ cls := "GuildCharterModel", name := "layList", desc := "(IZ)Z" } : Jvm.MethodName)) ∈ lw_all := lw_g (lw_at lw_m7 162 rfl) rfl
theorem q1717 : (Jvm.Cond.privateMethod ({ cls := "GuildCharterModel", name := "layList", desc := "(IZ)Z" } : Jvm.MethodName)) ∈ lw_tbl := lw_at lw_m7 163 rfl
theorem q1718 : (Jvm.Cond.instanceMethod ({ cls := "GuildCharterModel", name := "layList", desc := "(IZ)Z" } : Jvm.MethodName)) ∈ lw_all := lw_g (lw_at lw_m7 164 rfl) rfl
theorem q1719 : (Jvm.Cond.code ({ cls := "GuildCharterModel", name := "layList", desc := "(IZ)Z" } : Jvm.MethodName) prog_9_method_66_code (6 : Nat) (Option.some Jvm.ClassFile.FieldType.boolean)) ∈ lw_all := lw_g (lw_at lw_m7 165 rfl) rfl
theorem q1720 : (Jvm.Cond.methodLink "GuildCharterModel" (383 : Nat) ({ cls := "GuildCharterModel", name := "keyOf", desc := "(IZ)J" } : Jvm.MethodName)) ∈ lw_all := lw_g (lw_at lw_m7 166 rfl) rfl
theorem q1721 : (Jvm.Cond.privateMethod ({ cls := "GuildCharterModel", name := "keyOf", desc := "(IZ)J" } : Jvm.MethodName)) ∈ lw_tbl := lw_at lw_m7 167 rfl
theorem q1722 : (Jvm.Cond.instanceMethod ({ cls := "GuildCharterModel", name := "keyOf", desc := "(IZ)J" } : Jvm.MethodName)) ∈ lw_all := lw_g (lw_at lw_m7 168 rfl) rfl
theorem q1723 : (Jvm.Cond.code ({ cls := "GuildCharterModel", name := "keyOf", desc := "(IZ)J" } : Jvm.MethodName) prog_9_method_62_code (6 : Nat) (Option.some Jvm.ClassFile.FieldType.long)) ∈ lw_all := lw_g (lw_at lw_m7 169 rfl) rfl
theorem q1724 : (Jvm.Cond.constantLong "GuildCharterModel" (376 : Nat) (8 : Int64)) ∈ lw_all := lw_g (lw_at lw_m7 170 rfl) rfl
theorem q1725 : (Jvm.Cond.constantLong "GuildCharterModel" (378 : Nat) (10 : Int64)) ∈ lw_all := lw_g (lw_at lw_m7 171 rfl) rfl
theorem q1726 : (Jvm.Cond.methodLink "GuildCharterModel" (396 : Nat) ({ cls := "GuildCharterModel", name := "isOnPath", desc := "(I)Z" } : Jvm.MethodName)) ∈ lw_all := lw_g (lw_at lw_m7 172 rfl) rfl
theorem q1727 : (Jvm.Cond.privateMethod ({ cls := "GuildCharterModel", name := "isOnPath", desc := "(I)Z" } : Jvm.MethodName)) ∈ lw_tbl := lw_at lw_m7 173 rfl
theorem q1728 : (Jvm.Cond.instanceMethod ({ cls := "GuildCharterModel", name := "isOnPath", desc := "(I)Z" } : Jvm.MethodName)) ∈ lw_all := lw_g (lw_at lw_m7 174 rfl) rfl
theorem q1729 : (Jvm.Cond.code ({ cls := "GuildCharterModel", name := "isOnPath", desc := "(I)Z" } : Jvm.MethodName) prog_9_method_67_code (3 : Nat) (Option.some Jvm.ClassFile.FieldType.boolean)) ∈ lw_all := lw_g (lw_at lw_m7 175 rfl) rfl
theorem q1730 : (Jvm.Cond.methodLink "GuildCharterModel" (399 : Nat) ({ cls := "GuildCharterModel", name := "takeCharter", desc := "()V" } : Jvm.MethodName)) ∈ lw_all := lw_g (lw_at lw_m7 176 rfl) rfl
theorem q1731 : (Jvm.Cond.privateMethod ({ cls := "GuildCharterModel", name := "takeCharter", desc := "()V" } : Jvm.MethodName)) ∈ lw_tbl := lw_at lw_m7 177 rfl
theorem q1732 : (Jvm.Cond.instanceMethod ({ cls := "GuildCharterModel", name := "takeCharter", desc := "()V" } : Jvm.MethodName)) ∈ lw_all := lw_g (lw_at lw_m7 178 rfl) rfl
theorem q1733 : (Jvm.Cond.code ({ cls := "GuildCharterModel", name := "takeCharter", desc := "()V" } : Jvm.MethodName) prog_9_method_68_code (2 : Nat) (Option.none : Option Jvm.ClassFile.FieldType)) ∈ lw_all := lw_g (lw_at lw_m7 179 rfl) rfl
theorem q1734 : (Jvm.Cond.methodLink "GuildCharterModel" (402 : Nat) ({ cls := "GuildCharterModel", name := "packed", desc := "()I" } : Jvm.MethodName)) ∈ lw_all := lw_g (lw_at lw_m7 180 rfl) rfl
theorem q1735 : (Jvm.Cond.privateMethod ({ cls := "GuildCharterModel", name := "packed", desc := "()I" } : Jvm.MethodName)) ∈ lw_tbl := lw_at lw_m7 181 rfl
theorem q1736 : (Jvm.Cond.instanceMethod ({ cls := "GuildCharterModel", name := "packed", desc := "()I" } : Jvm.MethodName)) ∈ lw_all := lw_g (lw_at lw_m7 182 rfl) rfl
theorem q1737 : (Jvm.Cond.code ({ cls := "GuildCharterModel", name := "packed", desc := "()I" } : Jvm.MethodName) prog_9_method_63_code (3 : Nat) (Option.some Jvm.ClassFile.FieldType.int)) ∈ lw_all := lw_g (lw_at lw_m7 183 rfl) rfl
theorem q1738 : (Jvm.Cond.methodLink "GuildCharterModel" (437 : Nat) ({ cls := "GuildCharterModel", name := "turnsNow", desc := "()V" } : Jvm.MethodName)) ∈ lw_all := lw_g (lw_at lw_m7 184 rfl) rfl
theorem q1739 : (Jvm.Cond.privateMethod ({ cls := "GuildCharterModel", name := "turnsNow", desc := "()V" } : Jvm.MethodName)) ∈ lw_tbl := lw_at lw_m7 185 rfl
theorem q1740 : (Jvm.Cond.instanceMethod ({ cls := "GuildCharterModel", name := "turnsNow", desc := "()V" } : Jvm.MethodName)) ∈ lw_all := lw_g (lw_at lw_m7 186 rfl) rfl
theorem q1741 : (Jvm.Cond.code ({ cls := "GuildCharterModel", name := "turnsNow", desc := "()V" } : Jvm.MethodName) prog_9_method_76_code (2 : Nat) (Option.none : Option Jvm.ClassFile.FieldType)) ∈ lw_all := lw_g (lw_at lw_m7 187 rfl) rfl
theorem q1742 : (Jvm.Cond.methodLink "GuildCharterModel" (440 : Nat) ({ cls := "GuildCharterModel", name := "plays", desc := "(I)I" } : Jvm.MethodName)) ∈ lw_all := lw_g (lw_at lw_m7 188 rfl) rfl
theorem q1743 : (Jvm.Cond.privateMethod ({ cls := "GuildCharterModel", name := "plays", desc := "(I)I" } : Jvm.MethodName)) ∈ lw_tbl := lw_at lw_m7 189 rfl
theorem q1744 : (Jvm.Cond.instanceMethod ({ cls := "GuildCharterModel", name := "plays", desc := "(I)I" } : Jvm.MethodName)) ∈ lw_all := lw_g (lw_at lw_m7 190 rfl) rfl
theorem q1745 : (Jvm.Cond.code ({ cls := "GuildCharterModel", name := "plays", desc := "(I)I" } : Jvm.MethodName) prog_9_method_75_code (6 : Nat) (Option.some Jvm.ClassFile.FieldType.int)) ∈ lw_all := lw_g (lw_at lw_m7 191 rfl) rfl
theorem q1746 : (Jvm.Cond.methodLink "GuildCharterModel" (424 : Nat) ({ cls := "GuildCharterModel", name := "areGrouped", desc := "(III)Z" } : Jvm.MethodName)) ∈ lw_all := lw_g (lw_at lw_m7 192 rfl) rfl
theorem q1747 : (Jvm.Cond.privateMethod ({ cls := "GuildCharterModel", name := "areGrouped", desc := "(III)Z" } : Jvm.MethodName)) ∈ lw_tbl := lw_at lw_m7 193 rfl
theorem q1748 : (Jvm.Cond.instanceMethod ({ cls := "GuildCharterModel", name := "areGrouped", desc := "(III)Z" } : Jvm.MethodName)) ∈ lw_all := lw_g (lw_at lw_m7 194 rfl) rfl
theorem q1749 : (Jvm.Cond.code ({ cls := "GuildCharterModel", name := "areGrouped", desc := "(III)Z" } : Jvm.MethodName) prog_9_method_73_code (4 : Nat) (Option.some Jvm.ClassFile.FieldType.boolean)) ∈ lw_all := lw_g (lw_at lw_m7 195 rfl) rfl
theorem q1750 : (Jvm.Cond.methodLink "GuildCharterModel" (427 : Nat) ({ cls := "GuildCharterModel", name := "isBetter", desc := "(IIII)Z" } : Jvm.MethodName)) ∈ lw_all := lw_g (lw_at lw_m7 196 rfl) rfl
theorem q1751 : (Jvm.Cond.privateMethod ({ cls := "GuildCharterModel", name := "isBetter", desc := "(IIII)Z" } : Jvm.MethodName)) ∈ lw_tbl := lw_at lw_m7 197 rfl
theorem q1752 : (Jvm.Cond.instanceMethod ({ cls := "GuildCharterModel", name := "isBetter", desc := "(IIII)Z" } : Jvm.MethodName)) ∈ lw_all := lw_g (lw_at lw_m7 198 rfl) rfl
theorem q1753 : (Jvm.Cond.code ({ cls := "GuildCharterModel", name := "isBetter", desc := "(IIII)Z" } : Jvm.MethodName) prog_9_method_74_code (6 : Nat) (Option.some Jvm.ClassFile.FieldType.boolean)) ∈ lw_all := lw_g (lw_at lw_m7 199 rfl) rfl
theorem q1754 : (Jvm.Cond.methodLink "GuildCharterModel" (418 : Nat) ({ cls := "GuildCharterModel", name := "gain", desc := "(II)I" } : Jvm.MethodName)) ∈ lw_all := lw_g (lw_at lw_m7 200 rfl) rfl
theorem q1755 : (Jvm.Cond.privateMethod ({ cls := "GuildCharterModel", name := "gain", desc := "(II)I" } : Jvm.MethodName)) ∈ lw_tbl := lw_at lw_m7 201 rfl
theorem q1756 : (Jvm.Cond.instanceMethod ({ cls := "GuildCharterModel", name := "gain", desc := "(II)I" } : Jvm.MethodName)) ∈ lw_all := lw_g (lw_at lw_m7 202 rfl) rfl
theorem q1757 : (Jvm.Cond.code ({ cls := "GuildCharterModel", name := "gain", desc := "(II)I" } : Jvm.MethodName) prog_9_method_71_code (3 : Nat) (Option.some Jvm.ClassFile.FieldType.int)) ∈ lw_all := lw_g (lw_at lw_m7 203 rfl) rfl
theorem q1758 : (Jvm.Cond.methodLink "GuildCharterModel" (380 : Nat) ({ cls := "GuildCharterModel", name := "wordIn", desc := "(II)I" } : Jvm.MethodName)) ∈ lw_all := lw_g (lw_at lw_m7 204 rfl) rfl
theorem q1759 : (Jvm.Cond.privateMethod ({ cls := "GuildCharterModel", name := "wordIn", desc := "(II)I" } : Jvm.MethodName)) ∈ lw_tbl := lw_at lw_m7 205 rfl
theorem q1760 : (Jvm.Cond.instanceMethod ({ cls := "GuildCharterModel", name := "wordIn", desc := "(II)I" } : Jvm.MethodName)) ∈ lw_all := lw_g (lw_at lw_m7 206 rfl) rfl
theorem q1761 : (Jvm.Cond.code ({ cls := "GuildCharterModel", name := "wordIn", desc := "(II)I" } : Jvm.MethodName) prog_9_method_64_code (3 : Nat) (Option.some Jvm.ClassFile.FieldType.int)) ∈ lw_all := lw_g (lw_at lw_m7 207 rfl) rfl
theorem q1762 : (Jvm.Cond.methodLink "GuildCharterModel" (421 : Nat) ({ cls := "GuildCharterModel", name := "gainOf", desc := "(II)I" } : Jvm.MethodName)) ∈ lw_all := lw_g (lw_at lw_m7 208 rfl) rfl
theorem q1763 : (Jvm.Cond.privateMethod ({ cls := "GuildCharterModel", name := "gainOf", desc := "(II)I" } : Jvm.MethodName)) ∈ lw_tbl := lw_at lw_m7 209 rfl
theorem q1764 : (Jvm.Cond.instanceMethod ({ cls := "GuildCharterModel", name := "gainOf", desc := "(II)I" } : Jvm.MethodName)) ∈ lw_all := lw_g (lw_at lw_m7 210 rfl) rfl
theorem q1765 : (Jvm.Cond.code ({ cls := "GuildCharterModel", name := "gainOf", desc := "(II)I" } : Jvm.MethodName) prog_9_method_72_code (5 : Nat) (Option.some Jvm.ClassFile.FieldType.int)) ∈ lw_all := lw_g (lw_at lw_m7 211 rfl) rfl
theorem q1766 : (Jvm.Cond.methodLink "GuildCharterModel" (443 : Nat) ({ cls := "GuildCharterModel", name := "lay", desc := "(I)V" } : Jvm.MethodName)) ∈ lw_all := lw_g (lw_at lw_m7 212 rfl) rfl
theorem q1767 : (Jvm.Cond.privateMethod ({ cls := "GuildCharterModel", name := "lay", desc := "(I)V" } : Jvm.MethodName)) ∈ lw_tbl := lw_at lw_m7 213 rfl
theorem q1768 : (Jvm.Cond.instanceMethod ({ cls := "GuildCharterModel", name := "lay", desc := "(I)V" } : Jvm.MethodName)) ∈ lw_all := lw_g (lw_at lw_m7 214 rfl) rfl
theorem q1769 : (Jvm.Cond.code ({ cls := "GuildCharterModel", name := "lay", desc := "(I)V" } : Jvm.MethodName) prog_9_method_79_code (3 : Nat) (Option.none : Option Jvm.ClassFile.FieldType)) ∈ lw_all := lw_g (lw_at lw_m7 215 rfl) rfl
theorem q1771 : (Jvm.Cond.instanceMethod ({ cls := "GuildCharterModel", name := "held", desc := "(I)I" } : Jvm.MethodName)) ∈ lw_all := lw_g (lw_at lw_m7 217 rfl) rfl
theorem q1772 : (Jvm.Cond.selects "GuildCharterModel" ({ cls := "GuildCharterModel", name := "held", desc := "(I)I" } : Jvm.MethodName) ({ cls := "GuildCharterModel", name := "held", desc := "(I)I" } : Jvm.MethodName)) ∈ lw_all := lw_g (lw_at lw_m7 218 rfl) rfl
theorem q1773 : (Jvm.Cond.code ({ cls := "GuildCharterModel", name := "held", desc := "(I)I" } : Jvm.MethodName) prog_9_method_83_code (2 : Nat) (Option.some Jvm.ClassFile.FieldType.int)) ∈ lw_all := lw_g (lw_at lw_m7 219 rfl) rfl
theorem q1774 : (Jvm.Cond.methodLink "GuildCharterModel" (446 : Nat) ({ cls := "GuildCharterModel", name := "heldBy", desc := "(I)I" } : Jvm.MethodName)) ∈ lw_all := lw_g (lw_at lw_m7 220 rfl) rfl
theorem q1775 : (Jvm.Cond.privateMethod ({ cls := "GuildCharterModel", name := "heldBy", desc := "(I)I" } : Jvm.MethodName)) ∈ lw_tbl := lw_at lw_m7 221 rfl
theorem q1776 : (Jvm.Cond.instanceMethod ({ cls := "GuildCharterModel", name := "heldBy", desc := "(I)I" } : Jvm.MethodName)) ∈ lw_all := lw_g (lw_at lw_m7 222 rfl) rfl
theorem q1777 : (Jvm.Cond.code ({ cls := "GuildCharterModel", name := "heldBy", desc := "(I)I" } : Jvm.MethodName) prog_9_method_82_code (3 : Nat) (Option.some Jvm.ClassFile.FieldType.int)) ∈ lw_all := lw_g (lw_at lw_m7 223 rfl) rfl
theorem q1779 : (Jvm.Cond.instanceMethod ({ cls := "GuildCharterModel", name := "share", desc := "(II)I" } : Jvm.MethodName)) ∈ lw_all := lw_g (lw_at lw_m7 225 rfl) rfl
theorem q1780 : (Jvm.Cond.selects "GuildCharterModel" ({ cls := "GuildCharterModel", name := "share", desc := "(II)I" } : Jvm.MethodName) ({ cls := "GuildCharterModel", name := "share", desc := "(II)I" } : Jvm.MethodName)) ∈ lw_all := lw_g (lw_at lw_m7 226 rfl) rfl
theorem q1781 : (Jvm.Cond.code ({ cls := "GuildCharterModel", name := "share", desc := "(II)I" } : Jvm.MethodName) prog_9_method_85_code (7 : Nat) (Option.some Jvm.ClassFile.FieldType.int)) ∈ lw_all := lw_g (lw_at lw_m7 227 rfl) rfl
theorem q1782 : (Jvm.Cond.methodLink "GuildCharterModel" (431 : Nat) ({ cls := "GuildCharterModel", name := "orderTurn", desc := "(II)I" } : Jvm.MethodName)) ∈ lw_all := lw_g (lw_at lw_m7 228 rfl) rfl
theorem q1783 : (Jvm.Cond.static ({ cls := "GuildCharterModel", name := "orderTurn", desc := "(II)I" } : Jvm.MethodName)) ∈ lw_all := lw_g (lw_at lw_m7 229 rfl) rfl
theorem q1784 : (Jvm.Cond.code ({ cls := "GuildCharterModel", name := "orderTurn", desc := "(II)I" } : Jvm.MethodName) prog_9_method_77_code (6 : Nat) (Option.some Jvm.ClassFile.FieldType.int)) ∈ lw_all := lw_g (lw_at lw_m7 230 rfl) rfl
theorem q1785 : (Jvm.Cond.methodLink "GuildCharterModel" (449 : Nat) ({ cls := "GuildCharterModel", name := "common", desc := "(II)I" } : Jvm.MethodName)) ∈ lw_all := lw_g (lw_at lw_m7 231 rfl) rfl
theorem q1786 : (Jvm.Cond.static ({ cls := "GuildCharterModel", name := "common", desc := "(II)I" } : Jvm.MethodName)) ∈ lw_all := lw_g (lw_at lw_m7 232 rfl) rfl
theorem q1787 : (Jvm.Cond.code ({ cls := "GuildCharterModel", name := "common", desc := "(II)I" } : Jvm.MethodName) prog_9_method_84_code (5 : Nat) (Option.some Jvm.ClassFile.FieldType.int)) ∈ lw_all := lw_g (lw_at lw_m7 233 rfl) rfl
theorem q1789 : (Jvm.Cond.instanceMethod ({ cls := "GuildCharterModel", name := "swap", desc := "()I" } : Jvm.MethodName)) ∈ lw_all := lw_g (lw_at lw_m7 235 rfl) rfl
theorem q1790 : (Jvm.Cond.selects "GuildCharterModel" ({ cls := "GuildCharterModel", name := "swap", desc := "()I" } : Jvm.MethodName) ({ cls := "GuildCharterModel", name := "swap", desc := "()I" } : Jvm.MethodName)) ∈ lw_all := lw_g (lw_at lw_m7 236 rfl) rfl
theorem q1791 : (Jvm.Cond.code ({ cls := "GuildCharterModel", name := "swap", desc := "()I" } : Jvm.MethodName) prog_9_method_86_code (7 : Nat) (Option.some Jvm.ClassFile.FieldType.int)) ∈ lw_all := lw_g (lw_at lw_m7 237 rfl) rfl
theorem q1793 : (Jvm.Cond.instanceMethod ({ cls := "GuildCharterModel", name := "bribe", desc := "(II)I" } : Jvm.MethodName)) ∈ lw_all := lw_g (lw_at lw_m7 239 rfl) rfl
theorem q1794 : (Jvm.Cond.selects "GuildCharterModel" ({ cls := "GuildCharterModel", name := "bribe", desc := "(II)I" } : Jvm.MethodName) ({ cls := "GuildCharterModel", name := "bribe", desc := "(II)I" } : Jvm.MethodName)) ∈ lw_all := lw_g (lw_at lw_m8 0 rfl) rfl
theorem q1795 : (Jvm.Cond.code ({ cls := "GuildCharterModel", name := "bribe", desc := "(II)I" } : Jvm.MethodName) prog_9_method_87_code (3 : Nat) (Option.some Jvm.ClassFile.FieldType.int)) ∈ lw_all := lw_g (lw_at lw_m8 1 rfl) rfl
theorem q1797 : (Jvm.Cond.instanceMethod ({ cls := "GuildCharterModel", name := "lots", desc := "(I)I" } : Jvm.MethodName)) ∈ lw_all := lw_g (lw_at lw_m8 3 rfl) rfl
theorem q1798 : (Jvm.Cond.selects "GuildCharterModel" ({ cls := "GuildCharterModel", name := "lots", desc := "(I)I" } : Jvm.MethodName) ({ cls := "GuildCharterModel", name := "lots", desc := "(I)I" } : Jvm.MethodName)) ∈ lw_all := lw_g (lw_at lw_m8 4 rfl) rfl
theorem q1799 : (Jvm.Cond.code ({ cls := "GuildCharterModel", name := "lots", desc := "(I)I" } : Jvm.MethodName) prog_9_method_88_code (4 : Nat) (Option.some Jvm.ClassFile.FieldType.int)) ∈ lw_all := lw_g (lw_at lw_m8 5 rfl) rfl
theorem q1800 : (Jvm.Cond.methodLink "GuildCharterModel" (452 : Nat) ({ cls := "GuildCharterModel", name := "layFromNone", desc := "()Z" } : Jvm.MethodName)) ∈ lw_all := lw_g (lw_at lw_m8 6 rfl) rfl
theorem q1801 : (Jvm.Cond.privateMethod ({ cls := "GuildCharterModel", name := "layFromNone", desc := "()Z" } : Jvm.MethodName)) ∈ lw_tbl := lw_at lw_m8 7 rfl
theorem q1802 : (Jvm.Cond.instanceMethod ({ cls := "GuildCharterModel", name := "layFromNone", desc := "()Z" } : Jvm.MethodName)) ∈ lw_all := lw_g (lw_at lw_m8 8 rfl) rfl
theorem q1803 : (Jvm.Cond.code ({ cls := "GuildCharterModel", name := "layFromNone", desc := "()Z" } : Jvm.MethodName) prog_9_method_70_code (1 : Nat) (Option.some Jvm.ClassFile.FieldType.boolean)) ∈ lw_all := lw_g (lw_at lw_m8 9 rfl) rfl
theorem q1804 : (Jvm.Cond.methodLink "GuildCharterModel" (455 : Nat) ({ cls := "GuildCharterModel", name := "turnsByOrder", desc := "(I)V" } : Jvm.MethodName)) ∈ lw_all := lw_g (lw_at lw_m8 10 rfl) rfl
theorem q1805 : (Jvm.Cond.privateMethod ({ cls := "GuildCharterModel", name := "turnsByOrder", desc := "(I)V" } : Jvm.MethodName)) ∈ lw_tbl := lw_at lw_m8 11 rfl
theorem q1806 : (Jvm.Cond.instanceMethod ({ cls := "GuildCharterModel", name := "turnsByOrder", desc := "(I)V" } : Jvm.MethodName)) ∈ lw_all := lw_g (lw_at lw_m8 12 rfl) rfl
theorem q1807 : (Jvm.Cond.code ({ cls := "GuildCharterModel", name := "turnsByOrder", desc := "(I)V" } : Jvm.MethodName) prog_9_method_78_code (3 : Nat) (Option.none : Option Jvm.ClassFile.FieldType)) ∈ lw_all := lw_g (lw_at lw_m8 13 rfl) rfl
theorem q1809 : (Jvm.Cond.instanceMethod ({ cls := "GuildCharterModel", name := "used", desc := "()I" } : Jvm.MethodName)) ∈ lw_all := lw_g (lw_at lw_m8 15 rfl) rfl
theorem q1810 : (Jvm.Cond.selects "GuildCharterModel" ({ cls := "GuildCharterModel", name := "used", desc := "()I" } : Jvm.MethodName) ({ cls := "GuildCharterModel", name := "used", desc := "()I" } : Jvm.MethodName)) ∈ lw_all := lw_g (lw_at lw_m8 16 rfl) rfl
theorem q1811 : (Jvm.Cond.code ({ cls := "GuildCharterModel", name := "used", desc := "()I" } : Jvm.MethodName) prog_9_method_91_code (5 : Nat) (Option.some Jvm.ClassFile.FieldType.int)) ∈ lw_all := lw_g (lw_at lw_m8 17 rfl) rfl
theorem q1812 : (Jvm.Cond.methodLink "GuildCharterModel" (462 : Nat) ({ cls := "GuildCharterModel", name := "layShortest", desc := "()V" } : Jvm.MethodName)) ∈ lw_all := lw_g (lw_at lw_m8 18 rfl) rfl
theorem q1813 : (Jvm.Cond.privateMethod ({ cls := "GuildCharterModel", name := "layShortest", desc := "()V" } : Jvm.MethodName)) ∈ lw_tbl := lw_at lw_m8 19 rfl
theorem q1814 : (Jvm.Cond.instanceMethod ({ cls := "GuildCharterModel", name := "layShortest", desc := "()V" } : Jvm.MethodName)) ∈ lw_all := lw_g (lw_at lw_m8 20 rfl) rfl
theorem q1815 : (Jvm.Cond.code ({ cls := "GuildCharterModel", name := "layShortest", desc := "()V" } : Jvm.MethodName) prog_9_method_89_code (5 : Nat) (Option.none : Option Jvm.ClassFile.FieldType)) ∈ lw_all := lw_g (lw_at lw_m8 21 rfl) rfl
theorem q1816 : (Jvm.Cond.methodLink "GuildCharterModel" (458 : Nat) ({ cls := "GuildCharterModel", name := "sumOf", desc := "(I)I" } : Jvm.MethodName)) ∈ lw_all := lw_g (lw_at lw_m8 22 rfl) rfl
theorem q1817 : (Jvm.Cond.privateMethod ({ cls := "GuildCharterModel", name := "sumOf", desc := "(I)I" } : Jvm.MethodName)) ∈ lw_tbl := lw_at lw_m8 23 rfl
theorem q1818 : (Jvm.Cond.instanceMethod ({ cls := "GuildCharterModel", name := "sumOf", desc := "(I)I" } : Jvm.MethodName)) ∈ lw_all := lw_g (lw_at lw_m8 24 rfl) rfl
theorem q1819 : (Jvm.Cond.code ({ cls := "GuildCharterModel", name := "sumOf", desc := "(I)I" } : Jvm.MethodName) prog_9_method_90_code (5 : Nat) (Option.some Jvm.ClassFile.FieldType.int)) ∈ lw_all := lw_g (lw_at lw_m8 25 rfl) rfl
theorem q1820 : (Jvm.Cond.constant "GuildCharterModel" (461 : Nat) (1000000 : Int32)) ∈ lw_all := lw_g (lw_at lw_m8 26 rfl) rfl
theorem q1822 : (Jvm.Cond.instanceMethod ({ cls := "GuildCharterModel", name := "shortest", desc := "(I)I" } : Jvm.MethodName)) ∈ lw_all := lw_g (lw_at lw_m8 28 rfl) rfl
theorem q1823 : (Jvm.Cond.selects "GuildCharterModel" ({ cls := "GuildCharterModel", name := "shortest", desc := "(I)I" } : Jvm.MethodName) ({ cls := "GuildCharterModel", name := "shortest", desc := "(I)I" } : Jvm.MethodName)) ∈ lw_all := lw_g (lw_at lw_m8 29 rfl) rfl
theorem q1824 : (Jvm.Cond.code ({ cls := "GuildCharterModel", name := "shortest", desc := "(I)I" } : Jvm.MethodName) prog_9_method_92_code (2 : Nat) (Option.some Jvm.ClassFile.FieldType.int)) ∈ lw_all := lw_g (lw_at lw_m8 30 rfl) rfl
theorem q1826 : (Jvm.Cond.instanceMethod ({ cls := "GuildCharterModel", name := "doubtful", desc := "()I" } : Jvm.MethodName)) ∈ lw_all := lw_g (lw_at lw_m8 32 rfl) rfl
theorem q1827 : (Jvm.Cond.selects "GuildCharterModel" ({ cls := "GuildCharterModel", name := "doubtful", desc := "()I" } : Jvm.MethodName) ({ cls := "GuildCharterModel", name := "doubtful", desc := "()I" } : Jvm.MethodName)) ∈ lw_all := lw_g (lw_at lw_m8 33 rfl) rfl
theorem q1828 : (Jvm.Cond.code ({ cls := "GuildCharterModel", name := "doubtful", desc := "()I" } : Jvm.MethodName) prog_9_method_93_code (4 : Nat) (Option.some Jvm.ClassFile.FieldType.int)) ∈ lw_all := lw_g (lw_at lw_m8 34 rfl) rfl
theorem q1829 : (Jvm.Cond.methodLink "GuildCharterModel" (465 : Nat) ({ cls := "GuildCharterModel", name := "unpack", desc := "(I)V" } : Jvm.MethodName)) ∈ lw_all := lw_g (lw_at lw_m8 35 rfl) rfl
theorem q1830 : (Jvm.Cond.privateMethod ({ cls := "GuildCharterModel", name := "unpack", desc := "(I)V" } : Jvm.MethodName)) ∈ lw_tbl := lw_at lw_m8 36 rfl
theorem q1831 : (Jvm.Cond.instanceMethod ({ cls := "GuildCharterModel", name := "unpack", desc := "(I)V" } : Jvm.MethodName)) ∈ lw_all := lw_g (lw_at lw_m8 37 rfl) rfl
theorem q1832 : (Jvm.Cond.code ({ cls := "GuildCharterModel", name := "unpack", desc := "(I)V" } : Jvm.MethodName) prog_9_method_65_code (3 : Nat) (Option.none : Option Jvm.ClassFile.FieldType)) ∈ lw_all := lw_g (lw_at lw_m8 38 rfl) rfl
theorem q1833 : (Jvm.Cond.constantLong "GuildCharterModel" (468 : Nat) (2 : Int64)) ∈ lw_all := lw_g (lw_at lw_m8 39 rfl) rfl
theorem q1835 : (Jvm.Cond.instanceMethod ({ cls := "GuildCharterModel", name := "hole", desc := "(II)Z" } : Jvm.MethodName)) ∈ lw_all := lw_g (lw_at lw_m8 41 rfl) rfl
theorem q1836 : (Jvm.Cond.selects "GuildCharterModel" ({ cls := "GuildCharterModel", name := "hole", desc := "(II)Z" } : Jvm.MethodName) ({ cls := "GuildCharterModel", name := "hole", desc := "(II)Z" } : Jvm.MethodName)) ∈ lw_all := lw_g (lw_at lw_m8 42 rfl) rfl
theorem q1837 : (Jvm.Cond.code ({ cls := "GuildCharterModel", name := "hole", desc := "(II)Z" } : Jvm.MethodName) prog_9_method_94_code (3 : Nat) (Option.some Jvm.ClassFile.FieldType.boolean)) ∈ lw_all := lw_g (lw_at lw_m8 43 rfl) rfl
theorem q1839 : (Jvm.Cond.instanceMethod ({ cls := "GuildCharterModel", name := "fit", desc := "()I" } : Jvm.MethodName)) ∈ lw_all := lw_g (lw_at lw_m8 45 rfl) rfl
theorem q1840 : (Jvm.Cond.selects "GuildCharterModel" ({ cls := "GuildCharterModel", name := "fit", desc := "()I" } : Jvm.MethodName) ({ cls := "GuildCharterModel", name := "fit", desc := "()I" } : Jvm.MethodName)) ∈ lw_all := lw_g (lw_at lw_m8 46 rfl) rfl
theorem q1841 : (Jvm.Cond.code ({ cls := "GuildCharterModel", name := "fit", desc := "()I" } : Jvm.MethodName) prog_9_method_95_code (1 : Nat) (Option.some Jvm.ClassFile.FieldType.int)) ∈ lw_all := lw_g (lw_at lw_m8 47 rfl) rfl
theorem q1843 : (Jvm.Cond.instanceMethod ({ cls := "GuildCharterModel", name := "best", desc := "(I)I" } : Jvm.MethodName)) ∈ lw_all := lw_g (lw_at lw_m8 49 rfl) rfl
theorem q1844 : (Jvm.Cond.selects "GuildCharterModel" ({ cls := "GuildCharterModel", name := "best", desc := "(I)I" } : Jvm.MethodName) ({ cls := "GuildCharterModel", name := "best", desc := "(I)I" } : Jvm.MethodName)) ∈ lw_all := lw_g (lw_at lw_m8 50 rfl) rfl
theorem q1845 : (Jvm.Cond.code ({ cls := "GuildCharterModel", name := "best", desc := "(I)I" } : Jvm.MethodName) prog_9_method_96_code (4 : Nat) (Option.some Jvm.ClassFile.FieldType.int)) ∈ lw_all := lw_g (lw_at lw_m8 51 rfl) rfl
theorem q1847 : (Jvm.Cond.instanceMethod ({ cls := "GuildCharterModel", name := "struck", desc := "(I)I" } : Jvm.MethodName)) ∈ lw_all := lw_g (lw_at lw_m8 53 rfl) rfl
theorem q1848 : (Jvm.Cond.selects "GuildCharterModel" ({ cls := "GuildCharterModel", name := "struck", desc := "(I)I" } : Jvm.MethodName) ({ cls := "GuildCharterModel", name := "struck", desc := "(I)I" } : Jvm.MethodName)) ∈ lw_all := lw_g (lw_at lw_m8 54 rfl) rfl
theorem q1849 : (Jvm.Cond.code ({ cls := "GuildCharterModel", name := "struck", desc := "(I)I" } : Jvm.MethodName) prog_9_method_98_code (6 : Nat) (Option.some Jvm.ClassFile.FieldType.int)) ∈ lw_all := lw_g (lw_at lw_m8 55 rfl) rfl
theorem q1850 : (Jvm.Cond.methodLink "GuildCharterModel" (470 : Nat) ({ cls := "GuildCharterModel", name := "tryWithout", desc := "(I)V" } : Jvm.MethodName)) ∈ lw_all := lw_g (lw_at lw_m8 56 rfl) rfl
theorem q1851 : (Jvm.Cond.privateMethod ({ cls := "GuildCharterModel", name := "tryWithout", desc := "(I)V" } : Jvm.MethodName)) ∈ lw_tbl := lw_at lw_m8 57 rfl
theorem q1852 : (Jvm.Cond.instanceMethod ({ cls := "GuildCharterModel", name := "tryWithout", desc := "(I)V" } : Jvm.MethodName)) ∈ lw_all := lw_g (lw_at lw_m8 58 rfl) rfl
theorem q1853 : (Jvm.Cond.code ({ cls := "GuildCharterModel", name := "tryWithout", desc := "(I)V" } : Jvm.MethodName) prog_9_method_97_code (4 : Nat) (Option.none : Option Jvm.ClassFile.FieldType)) ∈ lw_all := lw_g (lw_at lw_m8 59 rfl) rfl
theorem q1855 : (Jvm.Cond.instanceMethod ({ cls := "GuildCharterModel", name := "seen", desc := "(IIZ)I" } : Jvm.MethodName)) ∈ lw_all := lw_g (lw_at lw_m8 61 rfl) rfl
theorem q1856 : (Jvm.Cond.selects "GuildCharterModel" ({ cls := "GuildCharterModel", name := "seen", desc := "(IIZ)I" } : Jvm.MethodName) ({ cls := "GuildCharterModel", name := "seen", desc := "(IIZ)I" } : Jvm.MethodName)) ∈ lw_all := lw_g (lw_at lw_m8 62 rfl) rfl
theorem q1857 : (Jvm.Cond.code ({ cls := "GuildCharterModel", name := "seen", desc := "(IIZ)I" } : Jvm.MethodName) prog_9_method_99_code (4 : Nat) (Option.some Jvm.ClassFile.FieldType.int)) ∈ lw_all := lw_g (lw_at lw_m8 63 rfl) rfl
theorem q1859 : (Jvm.Cond.instanceMethod ({ cls := "GuildCharterModel", name := "untell", desc := "(I)Z" } : Jvm.MethodName)) ∈ lw_all := lw_g (lw_at lw_m8 65 rfl) rfl
theorem q1860 : (Jvm.Cond.selects "GuildCharterModel" ({ cls := "GuildCharterModel", name := "untell", desc := "(I)Z" } : Jvm.MethodName) ({ cls := "GuildCharterModel", name := "untell", desc := "(I)Z" } : Jvm.MethodName)) ∈ lw_all := lw_g (lw_at lw_m8 66 rfl) rfl
theorem q1861 : (Jvm.Cond.code ({ cls := "GuildCharterModel", name := "untell", desc := "(I)Z" } : Jvm.MethodName) prog_9_method_100_code (2 : Nat) (Option.some Jvm.ClassFile.FieldType.boolean)) ∈ lw_all := lw_g (lw_at lw_m8 67 rfl) rfl
theorem q1863 : (Jvm.Cond.instanceMethod ({ cls := "GuildCharterModel", name := "later", desc := "(I)I" } : Jvm.MethodName)) ∈ lw_all := lw_g (lw_at lw_m8 69 rfl) rfl
theorem q1864 : (Jvm.Cond.selects "GuildCharterModel" ({ cls := "GuildCharterModel", name := "later", desc := "(I)I" } : Jvm.MethodName) ({ cls := "GuildCharterModel", name := "later", desc := "(I)I" } : Jvm.MethodName)) ∈ lw_all := lw_g (lw_at lw_m8 70 rfl) rfl
theorem q1865 : (Jvm.Cond.code ({ cls := "GuildCharterModel", name := "later", desc := "(I)I" } : Jvm.MethodName) prog_9_method_101_code (2 : Nat) (Option.some Jvm.ClassFile.FieldType.int)) ∈ lw_all := lw_g (lw_at lw_m8 71 rfl) rfl
theorem q1866 : (Jvm.Cond.constant "GuildCharterModel" (476 : Nat) (100000 : Int32)) ∈ lw_all := lw_g (lw_at lw_m8 72 rfl) rfl
theorem q1868 : (Jvm.Cond.instanceMethod ({ cls := "GuildCharterModel", name := "orders", desc := "(I)I" } : Jvm.MethodName)) ∈ lw_all := lw_g (lw_at lw_m8 74 rfl) rfl
theorem q1869 : (Jvm.Cond.selects "GuildCharterModel" ({ cls := "GuildCharterModel", name := "orders", desc := "(I)I" } : Jvm.MethodName) ({ cls := "GuildCharterModel", name := "orders", desc := "(I)I" } : Jvm.MethodName)) ∈ lw_all := lw_g (lw_at lw_m8 75 rfl) rfl
theorem q1870 : (Jvm.Cond.code ({ cls := "GuildCharterModel", name := "orders", desc := "(I)I" } : Jvm.MethodName) prog_9_method_103_code (4 : Nat) (Option.some Jvm.ClassFile.FieldType.int)) ∈ lw_all := lw_g (lw_at lw_m8 76 rfl) rfl
theorem q1871 : (Jvm.Cond.methodLink "GuildCharterModel" (477 : Nat) ({ cls := "GuildCharterModel", name := "isSo", desc := "(II)Z" } : Jvm.MethodName)) ∈ lw_all := lw_g (lw_at lw_m8 77 rfl) rfl
theorem q1872 : (Jvm.Cond.privateMethod ({ cls := "GuildCharterModel", name := "isSo", desc := "(II)Z" } : Jvm.MethodName)) ∈ lw_tbl := lw_at lw_m8 78 rfl
theorem q1873 : (Jvm.Cond.instanceMethod ({ cls := "GuildCharterModel", name := "isSo", desc := "(II)Z" } : Jvm.MethodName)) ∈ lw_all := lw_g (lw_at lw_m8 79 rfl) rfl
theorem q1874 : (Jvm.Cond.code ({ cls := "GuildCharterModel", name := "isSo", desc := "(II)Z" } : Jvm.MethodName) prog_9_method_102_code (4 : Nat) (Option.some Jvm.ClassFile.FieldType.boolean)) ∈ lw_all := lw_g (lw_at lw_m8 80 rfl) rfl
theorem q1876 : (Jvm.Cond.instanceMethod ({ cls := "GuildCharterModel", name := "image", desc := "(I)I" } : Jvm.MethodName)) ∈ lw_all := lw_g (lw_at lw_m8 82 rfl) rfl
theorem q1877 : (Jvm.Cond.selects "GuildCharterModel" ({ cls := "GuildCharterModel", name := "image", desc := "(I)I" } : Jvm.MethodName) ({ cls := "GuildCharterModel", name := "image", desc := "(I)I" } : Jvm.MethodName)) ∈ lw_all := lw_g (lw_at lw_m8 83 rfl) rfl
theorem q1878 : (Jvm.Cond.code ({ cls := "GuildCharterModel", name := "image", desc := "(I)I" } : Jvm.MethodName) prog_9_method_104_code (3 : Nat) (Option.some Jvm.ClassFile.FieldType.int)) ∈ lw_all := lw_g (lw_at lw_m8 84 rfl) rfl
theorem q1880 : (Jvm.Cond.instanceMethod ({ cls := "GuildCharterModel", name := "back", desc := "(I)I" } : Jvm.MethodName)) ∈ lw_all := lw_g (lw_at lw_m8 86 rfl) rfl
theorem q1881 : (Jvm.Cond.selects "GuildCharterModel" ({ cls := "GuildCharterModel", name := "back", desc := "(I)I" } : Jvm.MethodName) ({ cls := "GuildCharterModel", name := "back", desc := "(I)I" } : Jvm.MethodName)) ∈ lw_all := lw_g (lw_at lw_m8 87 rfl) rfl
theorem q1882 : (Jvm.Cond.code ({ cls := "GuildCharterModel", name := "back", desc := "(I)I" } : Jvm.MethodName) prog_9_method_105_code (3 : Nat) (Option.some Jvm.ClassFile.FieldType.int)) ∈ lw_all := lw_g (lw_at lw_m8 88 rfl) rfl
theorem q1884 : (Jvm.Cond.instanceMethod ({ cls := "GuildCharterModel", name := "about", desc := "(I)I" } : Jvm.MethodName)) ∈ lw_all := lw_g (lw_at lw_m8 90 rfl) rfl
theorem q1885 : (Jvm.Cond.selects "GuildCharterModel" ({ cls := "GuildCharterModel", name := "about", desc := "(I)I" } : Jvm.MethodName) ({ cls := "GuildCharterModel", name := "about", desc := "(I)I" } : Jvm.MethodName)) ∈ lw_all := lw_g (lw_at lw_m8 91 rfl) rfl
theorem q1886 : (Jvm.Cond.code ({ cls := "GuildCharterModel", name := "about", desc := "(I)I" } : Jvm.MethodName) prog_9_method_106_code (2 : Nat) (Option.some Jvm.ClassFile.FieldType.int)) ∈ lw_all := lw_g (lw_at lw_m8 92 rfl) rfl
theorem q1888 : (Jvm.Cond.instanceMethod ({ cls := "GuildCharterModel", name := "feed", desc := "(IIIII)I" } : Jvm.MethodName)) ∈ lw_all := lw_g (lw_at lw_m8 94 rfl) rfl
theorem q1889 : (Jvm.Cond.selects "GuildCharterModel" ({ cls := "GuildCharterModel", name := "feed", desc := "(IIIII)I" } : Jvm.MethodName) ({ cls := "GuildCharterModel", name := "feed", desc := "(IIIII)I" } : Jvm.MethodName)) ∈ lw_all := lw_g (lw_at lw_m8 95 rfl) rfl
theorem q1890 : (Jvm.Cond.code ({ cls := "GuildCharterModel", name := "feed", desc := "(IIIII)I" } : Jvm.MethodName) prog_9_method_107_code (8 : Nat) (Option.some Jvm.ClassFile.FieldType.int)) ∈ lw_all := lw_g (lw_at lw_m8 96 rfl) rfl
theorem q1892 : (Jvm.Cond.instanceMethod ({ cls := "GuildCharterModel", name := "end", desc := "(I)I" } : Jvm.MethodName)) ∈ lw_all := lw_g (lw_at lw_m8 98 rfl) rfl
theorem q1893 : (Jvm.Cond.selects "GuildCharterModel" ({ cls := "GuildCharterModel", name := "end", desc := "(I)I" } : Jvm.MethodName) ({ cls := "GuildCharterModel", name := "end", desc := "(I)I" } : Jvm.MethodName)) ∈ lw_all := lw_g (lw_at lw_m8 99 rfl) rfl
theorem q1894 : (Jvm.Cond.code ({ cls := "GuildCharterModel", name := "end", desc := "(I)I" } : Jvm.MethodName) prog_9_method_108_code (2 : Nat) (Option.some Jvm.ClassFile.FieldType.int)) ∈ lw_all := lw_g (lw_at lw_m8 100 rfl) rfl
theorem q1904 : (Jvm.Cond.castable "GuildCharterModel" "java/lang/Object") ∈ lw_tbl := lw_at lw_m8 110 rfl
theorem in_X2 : ∀ w ∈ wsX20, w ∈ lw_all := lw_in wsX20 [1331, 1333, 1335, 1337, 1339, 1341, 1343, 1345, 1347, 1349, 1351, 1353, 1355, 1357, 1359, 1361, 1363, 1365, 1367, 1369, 1371, 1373, 1375, 1377, 1379, 1381, 1383, 1385, 1387, 1389, 1391, 1393, 1395, 1397, 1399, 1401, 1403, 1405, 1407, 1409, 1411, 1413, 1415, 1417, 1419, 1421, 1423, 1425, 1427, 1429, 1431, 1433, 1435, 1437, 1439, 1441, 1443, 1445, 1447, 1449, 1451, 1453, 1455, 1457, 1459, 1461, 1463, 1465, 1467, 1469, 1471] (by decide +kernel) (by decide +kernel)
