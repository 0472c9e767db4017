/-! GuildCharter$Port -/
set_option maxRecDepth 100000
def RX1 : String := "GuildCharter$Port"
def TX1 : u_T := fun k => match k with
  | 0 => ("GuildCharter$Port", "words", "Ljava/util/ArrayList;", true)
  | 1 => ("GuildCharter$Port", "rules", "Ljava/util/ArrayList;", true)
  | 2 => ("GuildCharter$Port", "worth", "[I", true)
  | 3 => ("GuildCharter$Port", "behind", "[I", true)
  | 4 => ("GuildCharter$Port", "turns", "[I", true)
  | 5 => ("GuildCharter$Port", "isPair", "[Z", true)
  | 6 => ("GuildCharter$Port", "pairs", "I", false)
  | 7 => ("GuildCharter$Port", "alts", "I", false)
  | 8 => ("GuildCharter$Port", "length", "I", false)
  | _ => ("GuildCharter$Port", "told", "I", false)
def tyX1 : Nat → FieldType := fun k => match k with
  | 0 => .object "java/util/ArrayList"
  | 1 => .object "java/util/ArrayList"
  | 2 => .array .int
  | 3 => .array .int
  | 4 => .array .int
  | 5 => .array .boolean
  | 6 => .int
  | 7 => .int
  | 8 => .int
  | _ => .int
abbrev wsX10 : List Cond := u_ws RX1 TX1 10
theorem nmX1 : ∀ a, a < 10 → ∀ b, b < 10 → a ≠ b → (TX1 a).2.1 ≠ (TX1 b).2.1 := by decide +kernel
theorem tyX1_ok : ∀ k, k < 10 → parseFieldDescriptor (TX1 k).2.2.1 = some (tyX1 k) := by decide +kernel
abbrev cX1_init : ByteArray := prog_3_method_1_code
def yX1_init : MethodName := ⟨RX1, "<init>", "()V"⟩
def dkwX1_init_2 : List UInt8 := [16, 6, 188, 10, 181, 0, 30, 42, 16, 64, 188, 4, 181, 0, 33, 177]
abbrev dktX1_init_2 : List UInt8 := dkwX1_init_2 ++ []
def dkwX1_init_1 : List UInt8 := [183, 0, 11, 181, 0, 20, 42, 16, 24, 188, 10, 181, 0, 23, 42, 17, 0, 192, 188, 10, 181, 0, 27, 42]
abbrev dktX1_init_1 : List UInt8 := dkwX1_init_1 ++ dktX1_init_2
def dkwX1_init_0 : List UInt8 := [42, 183, 0, 3, 42, 187, 0, 9, 89, 5, 183, 0, 11, 181, 0, 14, 42, 187, 0, 9, 89, 5]
abbrev dktX1_init_0 : List UInt8 := dkwX1_init_0 ++ dktX1_init_1
theorem dksX1_init_0 : cX1_init.data.toList.drop 0 = dktX1_init_0 := by decide +kernel
theorem dksX1_init_1 : cX1_init.data.toList.drop 22 = dktX1_init_1 := dk_seg dksX1_init_0 22 rfl rfl
theorem dksX1_init_2 : cX1_init.data.toList.drop 46 = dktX1_init_2 := dk_seg dksX1_init_1 24 rfl rfl
theorem dX1_init_0 : decode cX1_init 0 = .ok (.aload_n 0, 1) := dk_42 (dk_at dksX1_init_0 0 rfl rfl)
theorem dX1_init_1 : decode cX1_init 1 = .ok (.invokespecial 3, 3) := dk_183 0 3 (dk_at dksX1_init_0 1 rfl rfl)
theorem dX1_init_4 : decode cX1_init 4 = .ok (.aload_n 0, 1) := dk_42 (dk_at dksX1_init_0 4 rfl rfl)
theorem dX1_init_5 : decode cX1_init 5 = .ok (.new 9, 3) := dk_187 0 9 (dk_at dksX1_init_0 5 rfl rfl)
theorem dX1_init_8 : decode cX1_init 8 = .ok (.dup, 1) := dk_89 (dk_at dksX1_init_0 8 rfl rfl)
theorem dX1_init_9 : decode cX1_init 9 = .ok (.iconst 2, 1) := dk_5 (dk_at dksX1_init_0 9 rfl rfl)
theorem dX1_init_10 : decode cX1_init 10 = .ok (.invokespecial 11, 3) := dk_183 0 11 (dk_at dksX1_init_0 10 rfl rfl)
theorem dX1_init_13 : decode cX1_init 13 = .ok (.putfield 14, 3) := dk_181 0 14 (dk_at dksX1_init_0 13 rfl rfl)
theorem dX1_init_16 : decode cX1_init 16 = .ok (.aload_n 0, 1) := dk_42 (dk_at dksX1_init_0 16 rfl rfl)
theorem dX1_init_17 : decode cX1_init 17 = .ok (.new 9, 3) := dk_187 0 9 (dk_at dksX1_init_0 17 rfl rfl)
theorem dX1_init_20 : decode cX1_init 20 = .ok (.dup, 1) := dk_89 (dk_at dksX1_init_0 20 rfl rfl)
theorem dX1_init_21 : decode cX1_init 21 = .ok (.iconst 2, 1) := dk_5 (dk_at dksX1_init_0 21 rfl rfl)
theorem dX1_init_22 : decode cX1_init 22 = .ok (.invokespecial 11, 3) := dk_183 0 11 (dk_at dksX1_init_1 0 rfl rfl)
theorem dX1_init_25 : decode cX1_init 25 = .ok (.putfield 20, 3) := dk_181 0 20 (dk_at dksX1_init_1 3 rfl rfl)
theorem dX1_init_28 : decode cX1_init 28 = .ok (.aload_n 0, 1) := dk_42 (dk_at dksX1_init_1 6 rfl rfl)
theorem dX1_init_29 : decode cX1_init 29 = .ok (.bipush 24, 2) := dk_16 24 (dk_at dksX1_init_1 7 rfl rfl)
theorem dX1_init_31 : decode cX1_init 31 = .ok (.newarray .int, 2) := dk_188_10 (dk_at dksX1_init_1 9 rfl rfl)
theorem dX1_init_33 : decode cX1_init 33 = .ok (.putfield 23, 3) := dk_181 0 23 (dk_at dksX1_init_1 11 rfl rfl)
theorem dX1_init_36 : decode cX1_init 36 = .ok (.aload_n 0, 1) := dk_42 (dk_at dksX1_init_1 14 rfl rfl)
theorem dX1_init_37 : decode cX1_init 37 = .ok (.sipush 192, 3) := dk_17 0 192 (dk_at dksX1_init_1 15 rfl rfl)
theorem dX1_init_40 : decode cX1_init 40 = .ok (.newarray .int, 2) := dk_188_10 (dk_at dksX1_init_1 18 rfl rfl)
theorem dX1_init_42 : decode cX1_init 42 = .ok (.putfield 27, 3) := dk_181 0 27 (dk_at dksX1_init_1 20 rfl rfl)
theorem dX1_init_45 : decode cX1_init 45 = .ok (.aload_n 0, 1) := dk_42 (dk_at dksX1_init_1 23 rfl rfl)
theorem dX1_init_46 : decode cX1_init 46 = .ok (.bipush 6, 2) := dk_16 6 (dk_at dksX1_init_2 0 rfl rfl)
theorem dX1_init_48 : decode cX1_init 48 = .ok (.newarray .int, 2) := dk_188_10 (dk_at dksX1_init_2 2 rfl rfl)
theorem dX1_init_50 : decode cX1_init 50 = .ok (.putfield 30, 3) := dk_181 0 30 (dk_at dksX1_init_2 4 rfl rfl)
theorem dX1_init_53 : decode cX1_init 53 = .ok (.aload_n 0, 1) := dk_42 (dk_at dksX1_init_2 7 rfl rfl)
theorem dX1_init_54 : decode cX1_init 54 = .ok (.bipush 64, 2) := dk_16 64 (dk_at dksX1_init_2 8 rfl rfl)
theorem dX1_init_56 : decode cX1_init 56 = .ok (.newarray .boolean, 2) := dk_188_4 (dk_at dksX1_init_2 10 rfl rfl)
theorem dX1_init_58 : decode cX1_init 58 = .ok (.putfield 33, 3) := dk_181 0 33 (dk_at dksX1_init_2 12 rfl rfl)
theorem dX1_init_61 : decode cX1_init 61 = .ok (.return_, 1) := dk_177 (dk_at dksX1_init_2 15 rfl rfl)
abbrev cX1_turn : ByteArray := prog_3_method_5_code
def yX1_turn : MethodName := ⟨RX1, "turn", "(I)I"⟩
def dkwX1_turn_1 : List UInt8 := [172]
abbrev dktX1_turn_1 : List UInt8 := dkwX1_turn_1 ++ []
def dkwX1_turn_0 : List UInt8 := [42, 180, 0, 61, 154, 0, 9, 27, 6, 112, 167, 0, 14, 42, 180, 0, 30, 27, 42, 180, 0, 61, 112, 46]
abbrev dktX1_turn_0 : List UInt8 := dkwX1_turn_0 ++ dktX1_turn_1
theorem dksX1_turn_0 : cX1_turn.data.toList.drop 0 = dktX1_turn_0 := by decide +kernel
theorem dksX1_turn_1 : cX1_turn.data.toList.drop 24 = dktX1_turn_1 := dk_seg dksX1_turn_0 24 rfl rfl
theorem dX1_turn_0 : decode cX1_turn 0 = .ok (.aload_n 0, 1) := dk_42 (dk_at dksX1_turn_0 0 rfl rfl)
theorem dX1_turn_1 : decode cX1_turn 1 = .ok (.getfield 61, 3) := dk_180 0 61 (dk_at dksX1_turn_0 1 rfl rfl)
theorem dX1_turn_4 : decode cX1_turn 4 = .ok (.ifCond .ne 9, 3) := dk_154 0 9 (dk_at dksX1_turn_0 4 rfl rfl)
theorem dX1_turn_7 : decode cX1_turn 7 = .ok (.iload_n 1, 1) := dk_27 (dk_at dksX1_turn_0 7 rfl rfl)
theorem dX1_turn_8 : decode cX1_turn 8 = .ok (.iconst 3, 1) := dk_6 (dk_at dksX1_turn_0 8 rfl rfl)
theorem dX1_turn_9 : decode cX1_turn 9 = .ok (.irem, 1) := dk_112 (dk_at dksX1_turn_0 9 rfl rfl)
theorem dX1_turn_10 : decode cX1_turn 10 = .ok (.goto 14, 3) := dk_167 0 14 (dk_at dksX1_turn_0 10 rfl rfl)
theorem dX1_turn_13 : decode cX1_turn 13 = .ok (.aload_n 0, 1) := dk_42 (dk_at dksX1_turn_0 13 rfl rfl)
theorem dX1_turn_14 : decode cX1_turn 14 = .ok (.getfield 30, 3) := dk_180 0 30 (dk_at dksX1_turn_0 14 rfl rfl)
theorem dX1_turn_17 : decode cX1_turn 17 = .ok (.iload_n 1, 1) := dk_27 (dk_at dksX1_turn_0 17 rfl rfl)
theorem dX1_turn_18 : decode cX1_turn 18 = .ok (.aload_n 0, 1) := dk_42 (dk_at dksX1_turn_0 18 rfl rfl)
theorem dX1_turn_19 : decode cX1_turn 19 = .ok (.getfield 61, 3) := dk_180 0 61 (dk_at dksX1_turn_0 19 rfl rfl)
theorem dX1_turn_22 : decode cX1_turn 22 = .ok (.irem, 1) := dk_112 (dk_at dksX1_turn_0 22 rfl rfl)
theorem dX1_turn_23 : decode cX1_turn 23 = .ok (.iaload, 1) := dk_46 (dk_at dksX1_turn_0 23 rfl rfl)
theorem dX1_turn_24 : decode cX1_turn 24 = .ok (.ireturn, 1) := dk_172 (dk_at dksX1_turn_1 0 rfl rfl)
abbrev cX1_word : ByteArray := prog_3_method_2_code
def yX1_word : MethodName := ⟨RX1, "word", "(Ljava/lang/String;)I"⟩
def dkwX1_word_1 : List UInt8 := [192, 0, 45, 43, 182, 0, 47, 153, 0, 7, 29, 167, 0, 4, 28, 61, 132, 3, 1, 167, 255, 218, 28, 172]
abbrev dktX1_word_1 : List UInt8 := dkwX1_word_1 ++ []
def dkwX1_word_0 : List UInt8 := [2, 61, 3, 62, 29, 42, 180, 0, 14, 182, 0, 37, 162, 0, 33, 42, 180, 0, 14, 29, 182, 0, 41]
abbrev dktX1_word_0 : List UInt8 := dkwX1_word_0 ++ dktX1_word_1
theorem dksX1_word_0 : cX1_word.data.toList.drop 0 = dktX1_word_0 := by decide +kernel
theorem dksX1_word_1 : cX1_word.data.toList.drop 23 = dktX1_word_1 := dk_seg dksX1_word_0 23 rfl rfl
theorem dX1_word_0 : decode cX1_word 0 = .ok (.iconst (-1), 1) := dk_2 (dk_at dksX1_word_0 0 rfl rfl)
theorem dX1_word_1 : decode cX1_word 1 = .ok (.istore_n 2, 1) := dk_61 (dk_at dksX1_word_0 1 rfl rfl)
theorem dX1_word_2 : decode cX1_word 2 = .ok (.iconst 0, 1) := dk_3 (dk_at dksX1_word_0 2 rfl rfl)
theorem dX1_word_3 : decode cX1_word 3 = .ok (.istore_n 3, 1) := dk_62 (dk_at dksX1_word_0 3 rfl rfl)
theorem dX1_word_4 : decode cX1_word 4 = .ok (.iload_n 3, 1) := dk_29 (dk_at dksX1_word_0 4 rfl rfl)
theorem dX1_word_5 : decode cX1_word 5 = .ok (.aload_n 0, 1) := dk_42 (dk_at dksX1_word_0 5 rfl rfl)
theorem dX1_word_6 : decode cX1_word 6 = .ok (.getfield 14, 3) := dk_180 0 14 (dk_at dksX1_word_0 6 rfl rfl)
theorem dX1_word_9 : decode cX1_word 9 = .ok (.invokevirtual 37, 3) := dk_182 0 37 (dk_at dksX1_word_0 9 rfl rfl)
theorem dX1_word_12 : decode cX1_word 12 = .ok (.if_icmp .ge 33, 3) := dk_162 0 33 (dk_at dksX1_word_0 12 rfl rfl)
theorem dX1_word_15 : decode cX1_word 15 = .ok (.aload_n 0, 1) := dk_42 (dk_at dksX1_word_0 15 rfl rfl)
theorem dX1_word_16 : decode cX1_word 16 = .ok (.getfield 14, 3) := dk_180 0 14 (dk_at dksX1_word_0 16 rfl rfl)
theorem dX1_word_19 : decode cX1_word 19 = .ok (.iload_n 3, 1) := dk_29 (dk_at dksX1_word_0 19 rfl rfl)
theorem dX1_word_20 : decode cX1_word 20 = .ok (.invokevirtual 41, 3) := dk_182 0 41 (dk_at dksX1_word_0 20 rfl rfl)
theorem dX1_word_23 : decode cX1_word 23 = .ok (.checkcast 45, 3) := dk_192 0 45 (dk_at dksX1_word_1 0 rfl rfl)
theorem dX1_word_26 : decode cX1_word 26 = .ok (.aload_n 1, 1) := dk_43 (dk_at dksX1_word_1 3 rfl rfl)
theorem dX1_word_27 : decode cX1_word 27 = .ok (.invokevirtual 47, 3) := dk_182 0 47 (dk_at dksX1_word_1 4 rfl rfl)
theorem dX1_word_30 : decode cX1_word 30 = .ok (.ifCond .eq 7, 3) := dk_153 0 7 (dk_at dksX1_word_1 7 rfl rfl)
theorem dX1_word_33 : decode cX1_word 33 = .ok (.iload_n 3, 1) := dk_29 (dk_at dksX1_word_1 10 rfl rfl)
theorem dX1_word_34 : decode cX1_word 34 = .ok (.goto 4, 3) := dk_167 0 4 (dk_at dksX1_word_1 11 rfl rfl)
theorem dX1_word_37 : decode cX1_word 37 = .ok (.iload_n 2, 1) := dk_28 (dk_at dksX1_word_1 14 rfl rfl)
theorem dX1_word_38 : decode cX1_word 38 = .ok (.istore_n 2, 1) := dk_61 (dk_at dksX1_word_1 15 rfl rfl)
theorem dX1_word_39 : decode cX1_word 39 = .ok (.iinc 3 1, 3) := dk_132 3 1 (dk_at dksX1_word_1 16 rfl rfl)
theorem dX1_word_42 : decode cX1_word 42 = .ok (.goto (-38), 3) := dk_167 255 218 (dk_at dksX1_word_1 19 rfl rfl)
theorem dX1_word_45 : decode cX1_word 45 = .ok (.iload_n 2, 1) := dk_28 (dk_at dksX1_word_1 22 rfl rfl)
theorem dX1_word_46 : decode cX1_word 46 = .ok (.ireturn, 1) := dk_172 (dk_at dksX1_word_1 23 rfl rfl)
abbrev cX1_rule : ByteArray := prog_3_method_3_code
def yX1_rule : MethodName := ⟨RX1, "rule", "(Ljava/lang/String;)I"⟩
def dkwX1_rule_2 : List UInt8 := [167, 255, 215, 28, 172]
abbrev dktX1_rule_2 : List UInt8 := dkwX1_rule_2 ++ []
def dkwX1_rule_1 : List UInt8 := [192, 0, 51, 180, 0, 53, 43, 182, 0, 47, 153, 0, 7, 29, 167, 0, 4, 28, 61, 132, 3, 1]
abbrev dktX1_rule_1 : List UInt8 := dkwX1_rule_1 ++ dktX1_rule_2
def dkwX1_rule_0 : List UInt8 := [2, 61, 3, 62, 29, 42, 180, 0, 20, 182, 0, 37, 162, 0, 36, 42, 180, 0, 20, 29, 182, 0, 41]
abbrev dktX1_rule_0 : List UInt8 := dkwX1_rule_0 ++ dktX1_rule_1
theorem dksX1_rule_0 : cX1_rule.data.toList.drop 0 = dktX1_rule_0 := by decide +kernel
theorem dksX1_rule_1 : cX1_rule.data.toList.drop 23 = dktX1_rule_1 := dk_seg dksX1_rule_0 23 rfl rfl
theorem dksX1_rule_2 : cX1_rule.data.toList.drop 45 = dktX1_rule_2 := dk_seg dksX1_rule_1 22 rfl rfl
theorem dX1_rule_0 : decode cX1_rule 0 = .ok (.iconst (-1), 1) := dk_2 (dk_at dksX1_rule_0 0 rfl rfl)
theorem dX1_rule_1 : decode cX1_rule 1 = .ok (.istore_n 2, 1) := dk_61 (dk_at dksX1_rule_0 1 rfl rfl)
theorem dX1_rule_2 : decode cX1_rule 2 = .ok (.iconst 0, 1) := dk_3 (dk_at dksX1_rule_0 2 rfl rfl)
theorem dX1_rule_3 : decode cX1_rule 3 = .ok (.istore_n 3, 1) := dk_62 (dk_at dksX1_rule_0 3 rfl rfl)
theorem dX1_rule_4 : decode cX1_rule 4 = .ok (.iload_n 3, 1) := dk_29 (dk_at dksX1_rule_0 4 rfl rfl)
theorem dX1_rule_5 : decode cX1_rule 5 = .ok (.aload_n 0, 1) := dk_42 (dk_at dksX1_rule_0 5 rfl rfl)
theorem dX1_rule_6 : decode cX1_rule 6 = .ok (.getfield 20, 3) := dk_180 0 20 (dk_at dksX1_rule_0 6 rfl rfl)
theorem dX1_rule_9 : decode cX1_rule 9 = .ok (.invokevirtual 37, 3) := dk_182 0 37 (dk_at dksX1_rule_0 9 rfl rfl)
theorem dX1_rule_12 : decode cX1_rule 12 = .ok (.if_icmp .ge 36, 3) := dk_162 0 36 (dk_at dksX1_rule_0 12 rfl rfl)
theorem dX1_rule_15 : decode cX1_rule 15 = .ok (.aload_n 0, 1) := dk_42 (dk_at dksX1_rule_0 15 rfl rfl)
theorem dX1_rule_16 : decode cX1_rule 16 = .ok (.getfield 20, 3) := dk_180 0 20 (dk_at dksX1_rule_0 16 rfl rfl)
theorem dX1_rule_19 : decode cX1_rule 19 = .ok (.iload_n 3, 1) := dk_29 (dk_at dksX1_rule_0 19 rfl rfl)
theorem dX1_rule_20 : decode cX1_rule 20 = .ok (.invokevirtual 41, 3) := dk_182 0 41 (dk_at dksX1_rule_0 20 rfl rfl)
theorem dX1_rule_23 : decode cX1_rule 23 = .ok (.checkcast 51, 3) := dk_192 0 51 (dk_at dksX1_rule_1 0 rfl rfl)
theorem dX1_rule_26 : decode cX1_rule 26 = .ok (.getfield 53, 3) := dk_180 0 53 (dk_at dksX1_rule_1 3 rfl rfl)
theorem dX1_rule_29 : decode cX1_rule 29 = .ok (.aload_n 1, 1) := dk_43 (dk_at dksX1_rule_1 6 rfl rfl)
theorem dX1_rule_30 : decode cX1_rule 30 = .ok (.invokevirtual 47, 3) := dk_182 0 47 (dk_at dksX1_rule_1 7 rfl rfl)
theorem dX1_rule_33 : decode cX1_rule 33 = .ok (.ifCond .eq 7, 3) := dk_153 0 7 (dk_at dksX1_rule_1 10 rfl rfl)
theorem dX1_rule_36 : decode cX1_rule 36 = .ok (.iload_n 3, 1) := dk_29 (dk_at dksX1_rule_1 13 rfl rfl)
theorem dX1_rule_37 : decode cX1_rule 37 = .ok (.goto 4, 3) := dk_167 0 4 (dk_at dksX1_rule_1 14 rfl rfl)
theorem dX1_rule_40 : decode cX1_rule 40 = .ok (.iload_n 2, 1) := dk_28 (dk_at dksX1_rule_1 17 rfl rfl)
theorem dX1_rule_41 : decode cX1_rule 41 = .ok (.istore_n 2, 1) := dk_61 (dk_at dksX1_rule_1 18 rfl rfl)
theorem dX1_rule_42 : decode cX1_rule 42 = .ok (.iinc 3 1, 3) := dk_132 3 1 (dk_at dksX1_rule_1 19 rfl rfl)
theorem dX1_rule_45 : decode cX1_rule 45 = .ok (.goto (-41), 3) := dk_167 255 215 (dk_at dksX1_rule_2 0 rfl rfl)
theorem dX1_rule_48 : decode cX1_rule 48 = .ok (.iload_n 2, 1) := dk_28 (dk_at dksX1_rule_2 3 rfl rfl)
theorem dX1_rule_49 : decode cX1_rule 49 = .ok (.ireturn, 1) := dk_172 (dk_at dksX1_rule_2 4 rfl rfl)
abbrev cX1_most : ByteArray := prog_3_method_4_code
def yX1_most : MethodName := ⟨RX1, "most", "()I"⟩
def dkwX1_most_0 : List UInt8 := [42, 180, 0, 57, 154, 0, 7, 6, 167, 0, 7, 42, 180, 0, 57, 172]
abbrev dktX1_most_0 : List UInt8 := dkwX1_most_0 ++ []
theorem dksX1_most_0 : cX1_most.data.toList.drop 0 = dktX1_most_0 := by decide +kernel
theorem dX1_most_0 : decode cX1_most 0 = .ok (.aload_n 0, 1) := dk_42 (dk_at dksX1_most_0 0 rfl rfl)
theorem dX1_most_1 : decode cX1_most 1 = .ok (.getfield 57, 3) := dk_180 0 57 (dk_at dksX1_most_0 1 rfl rfl)
theorem dX1_most_4 : decode cX1_most 4 = .ok (.ifCond .ne 7, 3) := dk_154 0 7 (dk_at dksX1_most_0 4 rfl rfl)
theorem dX1_most_7 : decode cX1_most 7 = .ok (.iconst 3, 1) := dk_6 (dk_at dksX1_most_0 7 rfl rfl)
theorem dX1_most_8 : decode cX1_most 8 = .ok (.goto 7, 3) := dk_167 0 7 (dk_at dksX1_most_0 8 rfl rfl)
theorem dX1_most_11 : decode cX1_most 11 = .ok (.aload_n 0, 1) := dk_42 (dk_at dksX1_most_0 11 rfl rfl)
theorem dX1_most_12 : decode cX1_most 12 = .ok (.getfield 57, 3) := dk_180 0 57 (dk_at dksX1_most_0 12 rfl rfl)
theorem dX1_most_15 : decode cX1_most 15 = .ok (.ireturn, 1) := dk_172 (dk_at dksX1_most_0 15 rfl rfl)
theorem q116 : (Jvm.Cond.initialized "GuildCharter$Port") ∈ lw_all := lw_g (lw_at lw_m1 2 rfl) rfl
theorem q148 : (Jvm.Cond.instantiable "GuildCharter$Port" (10 : Nat)) ∈ lw_all := lw_g (lw_at lw_m1 34 rfl) rfl
theorem q150 : (Jvm.Cond.instanceMethod ({ cls := "GuildCharter$Port", name := "<init>", desc := "()V" } : Jvm.MethodName)) ∈ lw_all := lw_g (lw_at lw_m1 36 rfl) rfl
theorem q151 : (Jvm.Cond.code ({ cls := "GuildCharter$Port", name := "<init>", desc := "()V" } : Jvm.MethodName) prog_3_method_1_code (1 : Nat) (Option.none : Option Jvm.ClassFile.FieldType)) ∈ lw_all := lw_g (lw_at lw_m1 37 rfl) rfl
theorem q152 : (Jvm.Cond.methodLink "GuildCharter$Port" (3 : Nat) ({ cls := "java/lang/Object", name := "<init>", desc := "()V" } : Jvm.MethodName)) ∈ lw_all := lw_g (lw_at lw_m1 38 rfl) rfl
theorem q153 : (Jvm.Cond.classLink "GuildCharter$Port" (9 : Nat) "java/util/ArrayList") ∈ lw_all := lw_g (lw_at lw_m1 39 rfl) rfl
theorem q155 : (Jvm.Cond.methodLink "GuildCharter$Port" (11 : Nat) ({ cls := "java/util/ArrayList", name := "<init>", desc := "(I)V" } : Jvm.MethodName)) ∈ lw_all := lw_g (lw_at lw_m1 41 rfl) rfl
theorem q184 : (Jvm.Cond.fieldLink "GuildCharter$Port" (14 : Nat) "GuildCharter$Port" "words" "Ljava/util/ArrayList;") ∈ lw_all := lw_g (lw_at lw_m1 70 rfl) rfl
theorem q187 : (Jvm.Cond.fieldLink "GuildCharter$Port" (20 : Nat) "GuildCharter$Port" "rules" "Ljava/util/ArrayList;") ∈ lw_all := lw_g (lw_at lw_m1 73 rfl) rfl
theorem q190 : (Jvm.Cond.fieldLink "GuildCharter$Port" (23 : Nat) "GuildCharter$Port" "worth" "[I") ∈ lw_all := lw_g (lw_at lw_m1 76 rfl) rfl
theorem q193 : (Jvm.Cond.fieldLink "GuildCharter$Port" (27 : Nat) "GuildCharter$Port" "behind" "[I") ∈ lw_all := lw_g (lw_at lw_m1 79 rfl) rfl
theorem q196 : (Jvm.Cond.fieldLink "GuildCharter$Port" (30 : Nat) "GuildCharter$Port" "turns" "[I") ∈ lw_all := lw_g (lw_at lw_m1 82 rfl) rfl
theorem q198 : (Jvm.Cond.fieldLink "GuildCharter$Port" (33 : Nat) "GuildCharter$Port" "isPair" "[Z") ∈ lw_all := lw_g (lw_at lw_m1 84 rfl) rfl
theorem q204 : (Jvm.Cond.fieldLink "GuildCharter$Port" (57 : Nat) "GuildCharter$Port" "length" "I") ∈ lw_all := lw_g (lw_at lw_m1 90 rfl) rfl
theorem q206 : (Jvm.Cond.fieldLink "GuildCharter$Port" (61 : Nat) "GuildCharter$Port" "told" "I") ∈ lw_all := lw_g (lw_at lw_m1 92 rfl) rfl
theorem q208 : (Jvm.Cond.laysFinal "GuildCharter$Port" "GuildCharter$Port" "words" "Ljava/util/ArrayList;") ∈ lw_all := lw_g (lw_at lw_m1 94 rfl) rfl
theorem q209 : (Jvm.Cond.soleField "GuildCharter$Port" "words") ∈ lw_all := lw_g (lw_at lw_m1 95 rfl) rfl
theorem q210 : (Jvm.Cond.laysFinal "GuildCharter$Port" "GuildCharter$Port" "rules" "Ljava/util/ArrayList;") ∈ lw_all := lw_g (lw_at lw_m1 96 rfl) rfl
theorem q211 : (Jvm.Cond.soleField "GuildCharter$Port" "rules") ∈ lw_all := lw_g (lw_at lw_m1 97 rfl) rfl
theorem q212 : (Jvm.Cond.laysFinal "GuildCharter$Port" "GuildCharter$Port" "worth" "[I") ∈ lw_all := lw_g (lw_at lw_m1 98 rfl) rfl
theorem q213 : (Jvm.Cond.soleField "GuildCharter$Port" "worth") ∈ lw_all := lw_g (lw_at lw_m1 99 rfl) rfl
theorem q214 : (Jvm.Cond.laysFinal "GuildCharter$Port" "GuildCharter$Port" "behind" "[I") ∈ lw_all := lw_g (lw_at lw_m1 100 rfl) rfl
theorem q215 : (Jvm.Cond.soleField "GuildCharter$Port" "behind") ∈ lw_all := lw_g (lw_at lw_m1 101 rfl) rfl
theorem q216 : (Jvm.Cond.laysFinal "GuildCharter$Port" "GuildCharter$Port" "turns" "[I") ∈ lw_all := lw_g (lw_at lw_m1 102 rfl) rfl
theorem q217 : (Jvm.Cond.soleField "GuildCharter$Port" "turns") ∈ lw_all := lw_g (lw_at lw_m1 103 rfl) rfl
theorem q218 : (Jvm.Cond.laysFinal "GuildCharter$Port" "GuildCharter$Port" "isPair" "[Z") ∈ lw_all := lw_g (lw_at lw_m1 104 rfl) rfl
theorem q219 : (Jvm.Cond.soleField "GuildCharter$Port" "isPair") ∈ lw_all := lw_g (lw_at lw_m1 105 rfl) rfl
theorem q220 : (Jvm.Cond.lays "GuildCharter$Port" "GuildCharter$Port" "pairs" "I") ∈ lw_all := lw_g (lw_at lw_m1 106 rfl) rfl
theorem q221 : (Jvm.Cond.soleField "GuildCharter$Port" "pairs") ∈ lw_all := lw_g (lw_at lw_m1 107 rfl) rfl
theorem q222 : (Jvm.Cond.lays "GuildCharter$Port" "GuildCharter$Port" "alts" "I") ∈ lw_all := lw_g (lw_at lw_m1 108 rfl) rfl
theorem q223 : (Jvm.Cond.soleField "GuildCharter$Port" "alts") ∈ lw_all := lw_g (lw_at lw_m1 109 rfl) rfl
theorem q224 : (Jvm.Cond.lays "GuildCharter$Port" "GuildCharter$Port" "length" "I") ∈ lw_all := lw_g (lw_at lw_m1 110 rfl) rfl
theorem q225 : (Jvm.Cond.soleField "GuildCharter$Port" "length") ∈ lw_all := lw_g (lw_at lw_m1 111 rfl) rfl
theorem q226 : (Jvm.Cond.lays "GuildCharter$Port" "GuildCharter$Port" "told" "I") ∈ lw_all := lw_g (lw_at lw_m1 112 rfl) rfl
theorem q227 : (Jvm.Cond.soleField "GuildCharter$Port" "told") ∈ lw_all := lw_g (lw_at lw_m1 113 rfl) rfl
theorem q228 : (Jvm.Cond.superclass "GuildCharter$Port" "java/lang/Object") ∈ lw_all := lw_g (lw_at lw_m1 114 rfl) rfl
theorem q239 : (Jvm.Cond.instanceMethod ({ cls := "GuildCharter$Port", name := "turn", desc := "(I)I" } : Jvm.MethodName)) ∈ lw_all := lw_g (lw_at lw_m1 125 rfl) rfl
theorem q240 : (Jvm.Cond.selects "GuildCharter$Port" ({ cls := "GuildCharter$Port", name := "turn", desc := "(I)I" } : Jvm.MethodName) ({ cls := "GuildCharter$Port", name := "turn", desc := "(I)I" } : Jvm.MethodName)) ∈ lw_all := lw_g (lw_at lw_m1 126 rfl) rfl
theorem q241 : (Jvm.Cond.code ({ cls := "GuildCharter$Port", name := "turn", desc := "(I)I" } : Jvm.MethodName) prog_3_method_5_code (2 : Nat) (Option.some Jvm.ClassFile.FieldType.int)) ∈ lw_all := lw_g (lw_at lw_m1 127 rfl) rfl
theorem q759 : (Jvm.Cond.instanceMethod ({ cls := "GuildCharter$Port", name := "word", desc := "(Ljava/lang/String;)I" } : Jvm.MethodName)) ∈ lw_all := lw_g (lw_at lw_m3 165 rfl) rfl
theorem q760 : (Jvm.Cond.selects "GuildCharter$Port" ({ cls := "GuildCharter$Port", name := "word", desc := "(Ljava/lang/String;)I" } : Jvm.MethodName) ({ cls := "GuildCharter$Port", name := "word", desc := "(Ljava/lang/String;)I" } : Jvm.MethodName)) ∈ lw_all := lw_g (lw_at lw_m3 166 rfl) rfl
theorem q761 : (Jvm.Cond.code ({ cls := "GuildCharter$Port", name := "word", desc := "(Ljava/lang/String;)I" } : Jvm.MethodName) prog_3_method_2_code (4 : Nat) (Option.some Jvm.ClassFile.FieldType.int)) ∈ lw_all := lw_g (lw_at lw_m3 167 rfl) rfl
theorem q762 : (Jvm.Cond.methodLink "GuildCharter$Port" (37 : Nat) ({ cls := "java/util/ArrayList", name := "size", desc := "()I" } : Jvm.MethodName)) ∈ lw_all := lw_g (lw_at lw_m3 168 rfl) rfl
theorem q763 : (Jvm.Cond.methodLink "GuildCharter$Port" (41 : Nat) ({ cls := "java/util/ArrayList", name := "get", desc := "(I)Ljava/lang/Object;" } : Jvm.MethodName)) ∈ lw_all := lw_g (lw_at lw_m3 169 rfl) rfl
theorem q775 : (Jvm.Cond.classLink "GuildCharter$Port" (45 : Nat) "java/lang/String") ∈ lw_all := lw_g (lw_at lw_m3 181 rfl) rfl
theorem q776 : (Jvm.Cond.methodLink "GuildCharter$Port" (47 : Nat) ({ cls := "java/lang/String", name := "equals", desc := "(Ljava/lang/Object;)Z" } : Jvm.MethodName)) ∈ lw_all := lw_g (lw_at lw_m3 182 rfl) rfl
theorem q778 : (Jvm.Cond.instanceMethod ({ cls := "GuildCharter$Port", name := "rule", desc := "(Ljava/lang/String;)I" } : Jvm.MethodName)) ∈ lw_all := lw_g (lw_at lw_m3 184 rfl) rfl
theorem q779 : (Jvm.Cond.selects "GuildCharter$Port" ({ cls := "GuildCharter$Port", name := "rule", desc := "(Ljava/lang/String;)I" } : Jvm.MethodName) ({ cls := "GuildCharter$Port", name := "rule", desc := "(Ljava/lang/String;)I" } : Jvm.MethodName)) ∈ lw_all := lw_g (lw_at lw_m3 185 rfl) rfl
theorem q780 : (Jvm.Cond.code ({ cls := "GuildCharter$Port", name := "rule", desc := "(Ljava/lang/String;)I" } : Jvm.MethodName) prog_3_method_3_code (4 : Nat) (Option.some Jvm.ClassFile.FieldType.int)) ∈ lw_all := lw_g (lw_at lw_m3 186 rfl) rfl
theorem q781 : (Jvm.Cond.classLink "GuildCharter$Port" (51 : Nat) "GuildCharter$Rule") ∈ lw_all := lw_g (lw_at lw_m3 187 rfl) rfl
theorem q817 : (Jvm.Cond.selects "GuildCharter$Port" ({ cls := "java/lang/Object", name := "getClass", desc := "()Ljava/lang/Class;" } : Jvm.MethodName) ({ cls := "java/lang/Object", name := "getClass", desc := "()Ljava/lang/Class;" } : Jvm.MethodName)) ∈ lw_all := lw_g (lw_at lw_m3 223 rfl) rfl
theorem q855 : (Jvm.Cond.fieldLink "GuildCharter$Port" (53 : Nat) "GuildCharter$Rule" "name" "Ljava/lang/String;") ∈ lw_all := lw_g (lw_at lw_m4 21 rfl) rfl
theorem q957 : (Jvm.Cond.instanceMethod ({ cls := "GuildCharter$Port", name := "most", desc := "()I" } : Jvm.MethodName)) ∈ lw_all := lw_g (lw_at lw_m4 123 rfl) rfl
theorem q958 : (Jvm.Cond.selects "GuildCharter$Port" ({ cls := "GuildCharter$Port", name := "most", desc := "()I" } : Jvm.MethodName) ({ cls := "GuildCharter$Port", name := "most", desc := "()I" } : Jvm.MethodName)) ∈ lw_all := lw_g (lw_at lw_m4 124 rfl) rfl
theorem q959 : (Jvm.Cond.code ({ cls := "GuildCharter$Port", name := "most", desc := "()I" } : Jvm.MethodName) prog_3_method_4_code (1 : Nat) (Option.some Jvm.ClassFile.FieldType.int)) ∈ lw_all := lw_g (lw_at lw_m4 125 rfl) rfl
theorem q1902 : (Jvm.Cond.castable "GuildCharter$Port" "java/lang/Object") ∈ lw_tbl := lw_at lw_m8 108 rfl
theorem in_X1 : ∀ w ∈ wsX10, w ∈ lw_all := lw_in wsX10 [208, 210, 212, 214, 216, 218, 220, 222, 224, 226] (by decide +kernel) (by decide +kernel)
/-! GuildCharter$Reader -/
set_option maxRecDepth 100000
def RX3 : String := "GuildCharter$Reader"
def TX3 : u_T := fun k => match k with
  | 0 => ("GuildCharter$Reader", "at", "I", false)
  | 1 => ("GuildCharter$Reader", "sort", "I", false)
  | 2 => ("GuildCharter$Reader", "place", "I", false)
  | 3 => ("GuildCharter$Reader", "number", "I", false)
  | 4 => ("GuildCharter$Reader", "word", "Ljava/lang/String;", false)
  | 5 => ("GuildCharter$Reader", "made", "LGuildCharter$Port;", true)
  | _ => ("GuildCharter$Reader", "this$0", "LGuildCharter;", true)
def tyX3 : Nat → FieldType := fun k => match k with
  | 0 => .int
  | 1 => .int
  | 2 => .int
  | 3 => .int
  | 4 => .object "java/lang/String"
  | 5 => .object "GuildCharter$Port"
  | _ => .object "GuildCharter"
abbrev wsX30 : List Cond := u_ws RX3 TX3 7
theorem nmX3 : ∀ a, a < 7 → ∀ b, b < 7 → a ≠ b → (TX3 a).2.1 ≠ (TX3 b).2.1 := by decide +kernel
theorem tyX3_ok : ∀ k, k < 7 → parseFieldDescriptor (TX3 k).2.2.1 = some (tyX3 k) := by decide +kernel
abbrev cX3_init : ByteArray := prog_4_method_1_code
def yX3_init : MethodName := ⟨RX3, "<init>", "(LGuildCharter;)V"⟩
def dkwX3_init_1 : List UInt8 := [181, 0, 24, 177]
abbrev dktX3_init_1 : List UInt8 := dkwX3_init_1 ++ []
def dkwX3_init_0 : List UInt8 := [42, 43, 181, 0, 3, 42, 183, 0, 9, 42, 18, 15, 181, 0, 17, 42, 187, 0, 21, 89, 183, 0, 23]
abbrev dktX3_init_0 : List UInt8 := dkwX3_init_0 ++ dktX3_init_1
theorem dksX3_init_0 : cX3_init.data.toList.drop 0 = dktX3_init_0 := by decide +kernel
theorem dksX3_init_1 : cX3_init.data.toList.drop 23 = dktX3_init_1 := dk_seg dksX3_init_0 23 rfl rfl
theorem dX3_init_0 : decode cX3_init 0 = .ok (.aload_n 0, 1) := dk_42 (dk_at dksX3_init_0 0 rfl rfl)
theorem dX3_init_1 : decode cX3_init 1 = .ok (.aload_n 1, 1) := dk_43 (dk_at dksX3_init_0 1 rfl rfl)
theorem dX3_init_2 : decode cX3_init 2 = .ok (.putfield 3, 3) := dk_181 0 3 (dk_at dksX3_init_0 2 rfl rfl)
theorem dX3_init_5 : decode cX3_init 5 = .ok (.aload_n 0, 1) := dk_42 (dk_at dksX3_init_0 5 rfl rfl)
theorem dX3_init_6 : decode cX3_init 6 = .ok (.invokespecial 9, 3) := dk_183 0 9 (dk_at dksX3_init_0 6 rfl rfl)
theorem dX3_init_9 : decode cX3_init 9 = .ok (.aload_n 0, 1) := dk_42 (dk_at dksX3_init_0 9 rfl rfl)
theorem dX3_init_10 : decode cX3_init 10 = .ok (.ldc 15, 2) := dk_18 15 (dk_at dksX3_init_0 10 rfl rfl)
theorem dX3_init_12 : decode cX3_init 12 = .ok (.putfield 17, 3) := dk_181 0 17 (dk_at dksX3_init_0 12 rfl rfl)
theorem dX3_init_15 : decode cX3_init 15 = .ok (.aload_n 0, 1) := dk_42 (dk_at dksX3_init_0 15 rfl rfl)
theorem dX3_init_16 : decode cX3_init 16 = .ok (.new 21, 3) := dk_187 0 21 (dk_at dksX3_init_0 16 rfl rfl)
theorem dX3_init_19 : decode cX3_init 19 = .ok (.dup, 1) := dk_89 (dk_at dksX3_init_0 19 rfl rfl)
theorem dX3_init_20 : decode cX3_init 20 = .ok (.invokespecial 23, 3) := dk_183 0 23 (dk_at dksX3_init_0 20 rfl rfl)
theorem dX3_init_23 : decode cX3_init 23 = .ok (.putfield 24, 3) := dk_181 0 24 (dk_at dksX3_init_1 0 rfl rfl)
theorem dX3_init_26 : decode cX3_init 26 = .ok (.return_, 1) := dk_177 (dk_at dksX3_init_1 3 rfl rfl)
abbrev cX3_text : ByteArray := prog_4_method_11_code
def yX3_text : MethodName := ⟨RX3, "text", "()LGuildCharter$Port;"⟩
def dkwX3_text_9 : List UInt8 := [176]
abbrev dktX3_text_9 : List UInt8 := dkwX3_text_9 ++ []
def dkwX3_text_8 : List UInt8 := [180, 0, 134, 182, 0, 122, 162, 0, 14, 42, 27, 182, 0, 148, 132, 1, 1, 167, 255, 234, 42, 180, 0, 24]
abbrev dktX3_text_8 : List UInt8 := dkwX3_text_8 ++ dktX3_text_9
def dkwX3_text_7 : List UInt8 := [159, 0, 8, 42, 182, 0, 83, 191, 42, 182, 0, 87, 167, 255, 84, 3, 60, 27, 42, 180, 0, 24]
abbrev dktX3_text_7 : List UInt8 := dkwX3_text_7 ++ dktX3_text_8
def dkwX3_text_6 : List UInt8 := [180, 0, 143, 154, 0, 10, 42, 182, 0, 146, 167, 0, 8, 42, 182, 0, 83, 191, 42, 180, 0, 46, 16, 59]
abbrev dktX3_text_6 : List UInt8 := dkwX3_text_6 ++ dktX3_text_7
def dkwX3_text_5 : List UInt8 := [154, 0, 10, 42, 182, 0, 141, 167, 0, 34, 42, 18, 103, 182, 0, 114, 153, 0, 20, 42, 180, 0, 24]
abbrev dktX3_text_5 : List UInt8 := dkwX3_text_5 ++ dktX3_text_6
def dkwX3_text_4 : List UInt8 := [182, 0, 137, 167, 0, 60, 42, 18, 101, 182, 0, 114, 153, 0, 20, 42, 180, 0, 24, 180, 0, 139]
abbrev dktX3_text_4 : List UInt8 := dkwX3_text_4 ++ dktX3_text_5
def dkwX3_text_3 : List UInt8 := [18, 97, 182, 0, 114, 153, 0, 25, 42, 180, 0, 24, 180, 0, 134, 182, 0, 122, 16, 8, 162, 0, 10, 42]
abbrev dktX3_text_3 : List UInt8 := dkwX3_text_3 ++ dktX3_text_4
def dkwX3_text_2 : List UInt8 := [153, 0, 22, 42, 180, 0, 24, 180, 0, 129, 16, 12, 162, 0, 10, 42, 182, 0, 132, 167, 0, 91, 42]
abbrev dktX3_text_2 : List UInt8 := dkwX3_text_2 ++ dktX3_text_3
def dkwX3_text_1 : List UInt8 := [180, 0, 118, 182, 0, 122, 16, 8, 162, 0, 10, 42, 182, 0, 127, 167, 0, 119, 42, 18, 95, 182, 0, 114]
abbrev dktX3_text_1 : List UInt8 := dkwX3_text_1 ++ dktX3_text_2
def dkwX3_text_0 : List UInt8 := [42, 182, 0, 87, 42, 180, 0, 46, 153, 0, 171, 42, 18, 94, 182, 0, 114, 153, 0, 25, 42, 180, 0, 24]
abbrev dktX3_text_0 : List UInt8 := dkwX3_text_0 ++ dktX3_text_1
theorem dksX3_text_0 : cX3_text.data.toList.drop 0 = dktX3_text_0 := by decide +kernel
theorem dksX3_text_1 : cX3_text.data.toList.drop 24 = dktX3_text_1 := dk_seg dksX3_text_0 24 rfl rfl
theorem dksX3_text_2 : cX3_text.data.toList.drop 48 = dktX3_text_2 := dk_seg dksX3_text_1 24 rfl rfl
theorem dksX3_text_3 : cX3_text.data.toList.drop 71 = dktX3_text_3 := dk_seg dksX3_text_2 23 rfl rfl
theorem dksX3_text_4 : cX3_text.data.toList.drop 95 = dktX3_text_4 := dk_seg dksX3_text_3 24 rfl rfl
theorem dksX3_text_5 : cX3_text.data.toList.drop 117 = dktX3_text_5 := dk_seg dksX3_text_4 22 rfl rfl
theorem dksX3_text_6 : cX3_text.data.toList.drop 140 = dktX3_text_6 := dk_seg dksX3_text_5 23 rfl rfl
theorem dksX3_text_7 : cX3_text.data.toList.drop 164 = dktX3_text_7 := dk_seg dksX3_text_6 24 rfl rfl
theorem dksX3_text_8 : cX3_text.data.toList.drop 186 = dktX3_text_8 := dk_seg dksX3_text_7 22 rfl rfl
theorem dksX3_text_9 : cX3_text.data.toList.drop 210 = dktX3_text_9 := dk_seg dksX3_text_8 24 rfl rfl
theorem dX3_text_0 : decode cX3_text 0 = .ok (.aload_n 0, 1) := dk_42 (dk_at dksX3_text_0 0 rfl rfl)
theorem dX3_text_1 : decode cX3_text 1 = .ok (.invokevirtual 87, 3) := dk_182 0 87 (dk_at dksX3_text_0 1 rfl rfl)
theorem dX3_text_4 : decode cX3_text 4 = .ok (.aload_n 0, 1) := dk_42 (dk_at dksX3_text_0 4 rfl rfl)
theorem dX3_text_5 : decode cX3_text 5 = .ok (.getfield 46, 3) := dk_180 0 46 (dk_at dksX3_text_0 5 rfl rfl)
theorem dX3_text_8 : decode cX3_text 8 = .ok (.ifCond .eq 171, 3) := dk_153 0 171 (dk_at dksX3_text_0 8 rfl rfl)
theorem dX3_text_11 : decode cX3_text 11 = .ok (.aload_n 0, 1) := dk_42 (dk_at dksX3_text_0 11 rfl rfl)
theorem dX3_text_12 : decode cX3_text 12 = .ok (.ldc 94, 2) := dk_18 94 (dk_at dksX3_text_0 12 rfl rfl)
theorem dX3_text_14 : decode cX3_text 14 = .ok (.invokevirtual 114, 3) := dk_182 0 114 (dk_at dksX3_text_0 14 rfl rfl)
theorem dX3_text_17 : decode cX3_text 17 = .ok (.ifCond .eq 25, 3) := dk_153 0 25 (dk_at dksX3_text_0 17 rfl rfl)
theorem dX3_text_20 : decode cX3_text 20 = .ok (.aload_n 0, 1) := dk_42 (dk_at dksX3_text_0 20 rfl rfl)
theorem dX3_text_21 : decode cX3_text 21 = .ok (.getfield 24, 3) := dk_180 0 24 (dk_at dksX3_text_0 21 rfl rfl)
theorem dX3_text_24 : decode cX3_text 24 = .ok (.getfield 118, 3) := dk_180 0 118 (dk_at dksX3_text_1 0 rfl rfl)
theorem dX3_text_27 : decode cX3_text 27 = .ok (.invokevirtual 122, 3) := dk_182 0 122 (dk_at dksX3_text_1 3 rfl rfl)
theorem dX3_text_30 : decode cX3_text 30 = .ok (.bipush 8, 2) := dk_16 8 (dk_at dksX3_text_1 6 rfl rfl)
theorem dX3_text_32 : decode cX3_text 32 = .ok (.if_icmp .ge 10, 3) := dk_162 0 10 (dk_at dksX3_text_1 8 rfl rfl)
theorem dX3_text_35 : decode cX3_text 35 = .ok (.aload_n 0, 1) := dk_42 (dk_at dksX3_text_1 11 rfl rfl)
theorem dX3_text_36 : decode cX3_text 36 = .ok (.invokevirtual 127, 3) := dk_182 0 127 (dk_at dksX3_text_1 12 rfl rfl)
theorem dX3_text_39 : decode cX3_text 39 = .ok (.goto 119, 3) := dk_167 0 119 (dk_at dksX3_text_1 15 rfl rfl)
theorem dX3_text_42 : decode cX3_text 42 = .ok (.aload_n 0, 1) := dk_42 (dk_at dksX3_text_1 18 rfl rfl)
theorem dX3_text_43 : decode cX3_text 43 = .ok (.ldc 95, 2) := dk_18 95 (dk_at dksX3_text_1 19 rfl rfl)
theorem dX3_text_45 : decode cX3_text 45 = .ok (.invokevirtual 114, 3) := dk_182 0 114 (dk_at dksX3_text_1 21 rfl rfl)
theorem dX3_text_48 : decode cX3_text 48 = .ok (.ifCond .eq 22, 3) := dk_153 0 22 (dk_at dksX3_text_2 0 rfl rfl)
theorem dX3_text_51 : decode cX3_text 51 = .ok (.aload_n 0, 1) := dk_42 (dk_at dksX3_text_2 3 rfl rfl)
theorem dX3_text_52 : decode cX3_text 52 = .ok (.getfield 24, 3) := dk_180 0 24 (dk_at dksX3_text_2 4 rfl rfl)
theorem dX3_text_55 : decode cX3_text 55 = .ok (.getfield 129, 3) := dk_180 0 129 (dk_at dksX3_text_2 7 rfl rfl)
theorem dX3_text_58 : decode cX3_text 58 = .ok (.bipush 12, 2) := dk_16 12 (dk_at dksX3_text_2 10 rfl rfl)
theorem dX3_text_60 : decode cX3_text 60 = .ok (.if_icmp .ge 10, 3) := dk_162 0 10 (dk_at dksX3_text_2 12 rfl rfl)
theorem dX3_text_63 : decode cX3_text 63 = .ok (.aload_n 0, 1) := dk_42 (dk_at dksX3_text_2 15 rfl rfl)
theorem dX3_text_64 : decode cX3_text 64 = .ok (.invokevirtual 132, 3) := dk_182 0 132 (dk_at dksX3_text_2 16 rfl rfl)
theorem dX3_text_67 : decode cX3_text 67 = .ok (.goto 91, 3) := dk_167 0 91 (dk_at dksX3_text_2 19 rfl rfl)
theorem dX3_text_70 : decode cX3_text 70 = .ok (.aload_n 0, 1) := dk_42 (dk_at dksX3_text_2 22 rfl rfl)
theorem dX3_text_71 : decode cX3_text 71 = .ok (.ldc 97, 2) := dk_18 97 (dk_at dksX3_text_3 0 rfl rfl)
theorem dX3_text_73 : decode cX3_text 73 = .ok (.invokevirtual 114, 3) := dk_182 0 114 (dk_at dksX3_text_3 2 rfl rfl)
theorem dX3_text_76 : decode cX3_text 76 = .ok (.ifCond .eq 25, 3) := dk_153 0 25 (dk_at dksX3_text_3 5 rfl rfl)
theorem dX3_text_79 : decode cX3_text 79 = .ok (.aload_n 0, 1) := dk_42 (dk_at dksX3_text_3 8 rfl rfl)
theorem dX3_text_80 : decode cX3_text 80 = .ok (.getfield 24, 3) := dk_180 0 24 (dk_at dksX3_text_3 9 rfl rfl)
theorem dX3_text_83 : decode cX3_text 83 = .ok (.getfield 134, 3) := dk_180 0 134 (dk_at dksX3_text_3 12 rfl rfl)
theorem dX3_text_86 : decode cX3_text 86 = .ok (.invokevirtual 122, 3) := dk_182 0 122 (dk_at dksX3_text_3 15 rfl rfl)
theorem dX3_text_89 : decode cX3_text 89 = .ok (.bipush 8, 2) := dk_16 8 (dk_at dksX3_text_3 18 rfl rfl)
theorem dX3_text_91 : decode cX3_text 91 = .ok (.if_icmp .ge 10, 3) := dk_162 0 10 (dk_at dksX3_text_3 20 rfl rfl)
theorem dX3_text_94 : decode cX3_text 94 = .ok (.aload_n 0, 1) := dk_42 (dk_at dksX3_text_3 23 rfl rfl)
theorem dX3_text_95 : decode cX3_text 95 = .ok (.invokevirtual 137, 3) := dk_182 0 137 (dk_at dksX3_text_4 0 rfl rfl)
theorem dX3_text_98 : decode cX3_text 98 = .ok (.goto 60, 3) := dk_167 0 60 (dk_at dksX3_text_4 3 rfl rfl)
theorem dX3_text_101 : decode cX3_text 101 = .ok (.aload_n 0, 1) := dk_42 (dk_at dksX3_text_4 6 rfl rfl)
theorem dX3_text_102 : decode cX3_text 102 = .ok (.ldc 101, 2) := dk_18 101 (dk_at dksX3_text_4 7 rfl rfl)
theorem dX3_text_104 : decode cX3_text 104 = .ok (.invokevirtual 114, 3) := dk_182 0 114 (dk_at dksX3_text_4 9 rfl rfl)
theorem dX3_text_107 : decode cX3_text 107 = .ok (.ifCond .eq 20, 3) := dk_153 0 20 (dk_at dksX3_text_4 12 rfl rfl)
theorem dX3_text_110 : decode cX3_text 110 = .ok (.aload_n 0, 1) := dk_42 (dk_at dksX3_text_4 15 rfl rfl)
theorem dX3_text_111 : decode cX3_text 111 = .ok (.getfield 24, 3) := dk_180 0 24 (dk_at dksX3_text_4 16 rfl rfl)
theorem dX3_text_114 : decode cX3_text 114 = .ok (.getfield 139, 3) := dk_180 0 139 (dk_at dksX3_text_4 19 rfl rfl)
theorem dX3_text_117 : decode cX3_text 117 = .ok (.ifCond .ne 10, 3) := dk_154 0 10 (dk_at dksX3_text_5 0 rfl rfl)
theorem dX3_text_120 : decode cX3_text 120 = .ok (.aload_n 0, 1) := dk_42 (dk_at dksX3_text_5 3 rfl rfl)
theorem dX3_text_121 : decode cX3_text 121 = .ok (.invokevirtual 141, 3) := dk_182 0 141 (dk_at dksX3_text_5 4 rfl rfl)
theorem dX3_text_124 : decode cX3_text 124 = .ok (.goto 34, 3) := dk_167 0 34 (dk_at dksX3_text_5 7 rfl rfl)
theorem dX3_text_127 : decode cX3_text 127 = .ok (.aload_n 0, 1) := dk_42 (dk_at dksX3_text_5 10 rfl rfl)
theorem dX3_text_128 : decode cX3_text 128 = .ok (.ldc 103, 2) := dk_18 103 (dk_at dksX3_text_5 11 rfl rfl)
theorem dX3_text_130 : decode cX3_text 130 = .ok (.invokevirtual 114, 3) := dk_182 0 114 (dk_at dksX3_text_5 13 rfl rfl)
theorem dX3_text_133 : decode cX3_text 133 = .ok (.ifCond .eq 20, 3) := dk_153 0 20 (dk_at dksX3_text_5 16 rfl rfl)
theorem dX3_text_136 : decode cX3_text 136 = .ok (.aload_n 0, 1) := dk_42 (dk_at dksX3_text_5 19 rfl rfl)
theorem dX3_text_137 : decode cX3_text 137 = .ok (.getfield 24, 3) := dk_180 0 24 (dk_at dksX3_text_5 20 rfl rfl)
theorem dX3_text_140 : decode cX3_text 140 = .ok (.getfield 143, 3) := dk_180 0 143 (dk_at dksX3_text_6 0 rfl rfl)
theorem dX3_text_143 : decode cX3_text 143 = .ok (.ifCond .ne 10, 3) := dk_154 0 10 (dk_at dksX3_text_6 3 rfl rfl)
theorem dX3_text_146 : decode cX3_text 146 = .ok (.aload_n 0, 1) := dk_42 (dk_at dksX3_text_6 6 rfl rfl)
theorem dX3_text_147 : decode cX3_text 147 = .ok (.invokevirtual 146, 3) := dk_182 0 146 (dk_at dksX3_text_6 7 rfl rfl)
theorem dX3_text_150 : decode cX3_text 150 = .ok (.goto 8, 3) := dk_167 0 8 (dk_at dksX3_text_6 10 rfl rfl)
theorem dX3_text_153 : decode cX3_text 153 = .ok (.aload_n 0, 1) := dk_42 (dk_at dksX3_text_6 13 rfl rfl)
theorem dX3_text_154 : decode cX3_text 154 = .ok (.invokevirtual 83, 3) := dk_182 0 83 (dk_at dksX3_text_6 14 rfl rfl)
theorem dX3_text_157 : decode cX3_text 157 = .ok (.athrow, 1) := dk_191 (dk_at dksX3_text_6 17 rfl rfl)
theorem dX3_text_158 : decode cX3_text 158 = .ok (.aload_n 0, 1) := dk_42 (dk_at dksX3_text_6 18 rfl rfl)
theorem dX3_text_159 : decode cX3_text 159 = .ok (.getfield 46, 3) := dk_180 0 46 (dk_at dksX3_text_6 19 rfl rfl)
theorem dX3_text_162 : decode cX3_text 162 = .ok (.bipush 59, 2) := dk_16 59 (dk_at dksX3_text_6 22 rfl rfl)
theorem dX3_text_164 : decode cX3_text 164 = .ok (.if_icmp .eq 8, 3) := dk_159 0 8 (dk_at dksX3_text_7 0 rfl rfl)
theorem dX3_text_167 : decode cX3_text 167 = .ok (.aload_n 0, 1) := dk_42 (dk_at dksX3_text_7 3 rfl rfl)
theorem dX3_text_168 : decode cX3_text 168 = .ok (.invokevirtual 83, 3) := dk_182 0 83 (dk_at dksX3_text_7 4 rfl rfl)
theorem dX3_text_171 : decode cX3_text 171 = .ok (.athrow, 1) := dk_191 (dk_at dksX3_text_7 7 rfl rfl)
theorem dX3_text_172 : decode cX3_text 172 = .ok (.aload_n 0, 1) := dk_42 (dk_at dksX3_text_7 8 rfl rfl)
theorem dX3_text_173 : decode cX3_text 173 = .ok (.invokevirtual 87, 3) := dk_182 0 87 (dk_at dksX3_text_7 9 rfl rfl)
theorem dX3_text_176 : decode cX3_text 176 = .ok (.goto (-172), 3) := dk_167 255 84 (dk_at dksX3_text_7 12 rfl rfl)
theorem dX3_text_179 : decode cX3_text 179 = .ok (.iconst 0, 1) := dk_3 (dk_at dksX3_text_7 15 rfl rfl)
theorem dX3_text_180 : decode cX3_text 180 = .ok (.istore_n 1, 1) := dk_60 (dk_at dksX3_text_7 16 rfl rfl)
theorem dX3_text_181 : decode cX3_text 181 = .ok (.iload_n 1, 1) := dk_27 (dk_at dksX3_text_7 17 rfl rfl)
theorem dX3_text_182 : decode cX3_text 182 = .ok (.aload_n 0, 1) := dk_42 (dk_at dksX3_text_7 18 rfl rfl)
theorem dX3_text_183 : decode cX3_text 183 = .ok (.getfield 24, 3) := dk_180 0 24 (dk_at dksX3_text_7 19 rfl rfl)
theorem dX3_text_186 : decode cX3_text 186 = .ok (.getfield 134, 3) := dk_180 0 134 (dk_at dksX3_text_8 0 rfl rfl)
theorem dX3_text_189 : decode cX3_text 189 = .ok (.invokevirtual 122, 3) := dk_182 0 122 (dk_at dksX3_text_8 3 rfl rfl)
theorem dX3_text_192 : decode cX3_text 192 = .ok (.if_icmp .ge 14, 3) := dk_162 0 14 (dk_at dksX3_text_8 6 rfl rfl)
theorem dX3_text_195 : decode cX3_text 195 = .ok (.aload_n 0, 1) := dk_42 (dk_at dksX3_text_8 9 rfl rfl)
theorem dX3_text_196 : decode cX3_text 196 = .ok (.iload_n 1, 1) := dk_27 (dk_at dksX3_text_8 10 rfl rfl)
theorem dX3_text_197 : decode cX3_text 197 = .ok (.invokevirtual 148, 3) := dk_182 0 148 (dk_at dksX3_text_8 11 rfl rfl)
theorem dX3_text_200 : decode cX3_text 200 = .ok (.iinc 1 1, 3) := dk_132 1 1 (dk_at dksX3_text_8 14 rfl rfl)
theorem dX3_text_203 : decode cX3_text 203 = .ok (.goto (-22), 3) := dk_167 255 234 (dk_at dksX3_text_8 17 rfl rfl)
theorem dX3_text_206 : decode cX3_text 206 = .ok (.aload_n 0, 1) := dk_42 (dk_at dksX3_text_8 20 rfl rfl)
theorem dX3_text_207 : decode cX3_text 207 = .ok (.getfield 24, 3) := dk_180 0 24 (dk_at dksX3_text_8 21 rfl rfl)
theorem dX3_text_210 : decode cX3_text 210 = .ok (.areturn, 1) := dk_176 (dk_at dksX3_text_9 0 rfl rfl)
abbrev cX3_go : ByteArray := prog_4_method_5_code
def yX3_go : MethodName := ⟨RX3, "go", "()V"⟩
def dkwX3_go_10 : List UInt8 := [180, 0, 28, 28, 96, 181, 0, 28, 177]
abbrev dktX3_go_10 : List UInt8 := dkwX3_go_10 ++ []
def dkwX3_go_9 : List UInt8 := [167, 0, 22, 27, 16, 59, 159, 0, 9, 27, 16, 61, 160, 0, 10, 42, 27, 181, 0, 46, 4, 61, 42, 89]
abbrev dktX3_go_9 : List UInt8 := dkwX3_go_9 ++ dktX3_go_10
def dkwX3_go_8 : List UInt8 := [167, 255, 220, 28, 7, 163, 0, 11, 42, 28, 182, 0, 49, 153, 0, 4, 177, 42, 5, 181, 0, 46]
abbrev dktX3_go_8 : List UInt8 := dkwX3_go_8 ++ dktX3_go_9
def dkwX3_go_7 : List UInt8 := [42, 16, 10, 42, 180, 0, 69, 104, 42, 28, 182, 0, 39, 96, 16, 48, 100, 181, 0, 69, 132, 2, 1]
abbrev dktX3_go_7 : List UInt8 := dkwX3_go_7 ++ dktX3_go_8
def dkwX3_go_6 : List UInt8 := [182, 0, 66, 153, 0, 69, 42, 3, 181, 0, 69, 42, 28, 182, 0, 66, 153, 0, 34, 28, 7, 162, 0, 23]
abbrev dktX3_go_6 : List UInt8 := dkwX3_go_6 ++ dktX3_go_7
def dkwX3_go_5 : List UInt8 := [16, 8, 164, 0, 4, 177, 42, 45, 182, 0, 62, 181, 0, 17, 42, 4, 181, 0, 46, 167, 0, 96, 42, 3]
abbrev dktX3_go_5 : List UInt8 := dkwX3_go_5 ++ dktX3_go_6
def dkwX3_go_4 : List UInt8 := [28, 16, 8, 162, 0, 14, 45, 42, 28, 182, 0, 39, 146, 182, 0, 58, 87, 132, 2, 1, 167, 255, 228, 28]
abbrev dktX3_go_4 : List UInt8 := dkwX3_go_4 ++ dktX3_go_5
def dkwX3_go_3 : List UInt8 := [182, 0, 49, 153, 0, 67, 187, 0, 53, 89, 16, 8, 183, 0, 55, 78, 42, 28, 182, 0, 49, 153, 0, 26]
abbrev dktX3_go_3 : List UInt8 := dkwX3_go_3 ++ dktX3_go_4
def dkwX3_go_2 : List UInt8 := [60, 3, 61, 42, 6, 181, 0, 46, 27, 156, 0, 11, 42, 3, 181, 0, 46, 167, 0, 168, 42, 3]
abbrev dktX3_go_2 : List UInt8 := dkwX3_go_2 ++ dktX3_go_3
def dkwX3_go_1 : List UInt8 := [180, 0, 28, 4, 96, 181, 0, 28, 167, 255, 226, 42, 42, 180, 0, 28, 181, 0, 43, 42, 3, 182, 0, 39]
abbrev dktX3_go_1 : List UInt8 := dkwX3_go_1 ++ dktX3_go_2
def dkwX3_go_0 : List UInt8 := [42, 3, 182, 0, 39, 16, 32, 159, 0, 13, 42, 3, 182, 0, 39, 16, 10, 160, 0, 16, 42, 89]
abbrev dktX3_go_0 : List UInt8 := dkwX3_go_0 ++ dktX3_go_1
theorem dksX3_go_0 : cX3_go.data.toList.drop 0 = dktX3_go_0 := by decide +kernel
theorem dksX3_go_1 : cX3_go.data.toList.drop 22 = dktX3_go_1 := dk_seg dksX3_go_0 22 rfl rfl
theorem dksX3_go_2 : cX3_go.data.toList.drop 46 = dktX3_go_2 := dk_seg dksX3_go_1 24 rfl rfl
theorem dksX3_go_3 : cX3_go.data.toList.drop 68 = dktX3_go_3 := dk_seg dksX3_go_2 22 rfl rfl
theorem dksX3_go_4 : cX3_go.data.toList.drop 92 = dktX3_go_4 := dk_seg dksX3_go_3 24 rfl rfl
theorem dksX3_go_5 : cX3_go.data.toList.drop 116 = dktX3_go_5 := dk_seg dksX3_go_4 24 rfl rfl
theorem dksX3_go_6 : cX3_go.data.toList.drop 140 = dktX3_go_6 := dk_seg dksX3_go_5 24 rfl rfl
theorem dksX3_go_7 : cX3_go.data.toList.drop 164 = dktX3_go_7 := dk_seg dksX3_go_6 24 rfl rfl
theorem dksX3_go_8 : cX3_go.data.toList.drop 187 = dktX3_go_8 := dk_seg dksX3_go_7 23 rfl rfl
theorem dksX3_go_9 : cX3_go.data.toList.drop 209 = dktX3_go_9 := dk_seg dksX3_go_8 22 rfl rfl
theorem dksX3_go_10 : cX3_go.data.toList.drop 233 = dktX3_go_10 := dk_seg dksX3_go_9 24 rfl rfl
theorem dX3_go_0 : decode cX3_go 0 = .ok (.aload_n 0, 1) := dk_42 (dk_at dksX3_go_0 0 rfl rfl)
theorem dX3_go_1 : decode cX3_go 1 = .ok (.iconst 0, 1) := dk_3 (dk_at dksX3_go_0 1 rfl rfl)
theorem dX3_go_2 : decode cX3_go 2 = .ok (.invokevirtual 39, 3) := dk_182 0 39 (dk_at dksX3_go_0 2 rfl rfl)
theorem dX3_go_5 : decode cX3_go 5 = .ok (.bipush 32, 2) := dk_16 32 (dk_at dksX3_go_0 5 rfl rfl)
theorem dX3_go_7 : decode cX3_go 7 = .ok (.if_icmp .eq 13, 3) := dk_159 0 13 (dk_at dksX3_go_0 7 rfl rfl)
theorem dX3_go_10 : decode cX3_go 10 = .ok (.aload_n 0, 1) := dk_42 (dk_at dksX3_go_0 10 rfl rfl)
theorem dX3_go_11 : decode cX3_go 11 = .ok (.iconst 0, 1) := dk_3 (dk_at dksX3_go_0 11 rfl rfl)
theorem dX3_go_12 : decode cX3_go 12 = .ok (.invokevirtual 39, 3) := dk_182 0 39 (dk_at dksX3_go_0 12 rfl rfl)
theorem dX3_go_15 : decode cX3_go 15 = .ok (.bipush 10, 2) := dk_16 10 (dk_at dksX3_go_0 15 rfl rfl)
theorem dX3_go_17 : decode cX3_go 17 = .ok (.if_icmp .ne 16, 3) := dk_160 0 16 (dk_at dksX3_go_0 17 rfl rfl)
theorem dX3_go_20 : decode cX3_go 20 = .ok (.aload_n 0, 1) := dk_42 (dk_at dksX3_go_0 20 rfl rfl)
theorem dX3_go_21 : decode cX3_go 21 = .ok (.dup, 1) := dk_89 (dk_at dksX3_go_0 21 rfl rfl)
theorem dX3_go_22 : decode cX3_go 22 = .ok (.getfield 28, 3) := dk_180 0 28 (dk_at dksX3_go_1 0 rfl rfl)
theorem dX3_go_25 : decode cX3_go 25 = .ok (.iconst 1, 1) := dk_4 (dk_at dksX3_go_1 3 rfl rfl)
theorem dX3_go_26 : decode cX3_go 26 = .ok (.iadd, 1) := dk_96 (dk_at dksX3_go_1 4 rfl rfl)
theorem dX3_go_27 : decode cX3_go 27 = .ok (.putfield 28, 3) := dk_181 0 28 (dk_at dksX3_go_1 5 rfl rfl)
theorem dX3_go_30 : decode cX3_go 30 = .ok (.goto (-30), 3) := dk_167 255 226 (dk_at dksX3_go_1 8 rfl rfl)
theorem dX3_go_33 : decode cX3_go 33 = .ok (.aload_n 0, 1) := dk_42 (dk_at dksX3_go_1 11 rfl rfl)
theorem dX3_go_34 : decode cX3_go 34 = .ok (.aload_n 0, 1) := dk_42 (dk_at dksX3_go_1 12 rfl rfl)
theorem dX3_go_35 : decode cX3_go 35 = .ok (.getfield 28, 3) := dk_180 0 28 (dk_at dksX3_go_1 13 rfl rfl)
theorem dX3_go_38 : decode cX3_go 38 = .ok (.putfield 43, 3) := dk_181 0 43 (dk_at dksX3_go_1 16 rfl rfl)
theorem dX3_go_41 : decode cX3_go 41 = .ok (.aload_n 0, 1) := dk_42 (dk_at dksX3_go_1 19 rfl rfl)
theorem dX3_go_42 : decode cX3_go 42 = .ok (.iconst 0, 1) := dk_3 (dk_at dksX3_go_1 20 rfl rfl)
theorem dX3_go_43 : decode cX3_go 43 = .ok (.invokevirtual 39, 3) := dk_182 0 39 (dk_at dksX3_go_1 21 rfl rfl)
theorem dX3_go_46 : decode cX3_go 46 = .ok (.istore_n 1, 1) := dk_60 (dk_at dksX3_go_2 0 rfl rfl)
theorem dX3_go_47 : decode cX3_go 47 = .ok (.iconst 0, 1) := dk_3 (dk_at dksX3_go_2 1 rfl rfl)
theorem dX3_go_48 : decode cX3_go 48 = .ok (.istore_n 2, 1) := dk_61 (dk_at dksX3_go_2 2 rfl rfl)
theorem dX3_go_49 : decode cX3_go 49 = .ok (.aload_n 0, 1) := dk_42 (dk_at dksX3_go_2 3 rfl rfl)
theorem dX3_go_50 : decode cX3_go 50 = .ok (.iconst 3, 1) := dk_6 (dk_at dksX3_go_2 4 rfl rfl)
theorem dX3_go_51 : decode cX3_go 51 = .ok (.putfield 46, 3) := dk_181 0 46 (dk_at dksX3_go_2 5 rfl rfl)
theorem dX3_go_54 : decode cX3_go 54 = .ok (.iload_n 1, 1) := dk_27 (dk_at dksX3_go_2 8 rfl rfl)
theorem dX3_go_55 : decode cX3_go 55 = .ok (.ifCond .ge 11, 3) := dk_156 0 11 (dk_at dksX3_go_2 9 rfl rfl)
theorem dX3_go_58 : decode cX3_go 58 = .ok (.aload_n 0, 1) := dk_42 (dk_at dksX3_go_2 12 rfl rfl)
theorem dX3_go_59 : decode cX3_go 59 = .ok (.iconst 0, 1) := dk_3 (dk_at dksX3_go_2 13 rfl rfl)
theorem dX3_go_60 : decode cX3_go 60 = .ok (.putfield 46, 3) := dk_181 0 46 (dk_at dksX3_go_2 14 rfl rfl)
theorem dX3_go_63 : decode cX3_go 63 = .ok (.goto 168, 3) := dk_167 0 168 (dk_at dksX3_go_2 17 rfl rfl)
theorem dX3_go_66 : decode cX3_go 66 = .ok (.aload_n 0, 1) := dk_42 (dk_at dksX3_go_2 20 rfl rfl)
theorem dX3_go_67 : decode cX3_go 67 = .ok (.iconst 0, 1) := dk_3 (dk_at dksX3_go_2 21 rfl rfl)
theorem dX3_go_68 : decode cX3_go 68 = .ok (.invokevirtual 49, 3) := dk_182 0 49 (dk_at dksX3_go_3 0 rfl rfl)
theorem dX3_go_71 : decode cX3_go 71 = .ok (.ifCond .eq 67, 3) := dk_153 0 67 (dk_at dksX3_go_3 3 rfl rfl)
theorem dX3_go_74 : decode cX3_go 74 = .ok (.new 53, 3) := dk_187 0 53 (dk_at dksX3_go_3 6 rfl rfl)
theorem dX3_go_77 : decode cX3_go 77 = .ok (.dup, 1) := dk_89 (dk_at dksX3_go_3 9 rfl rfl)
theorem dX3_go_78 : decode cX3_go 78 = .ok (.bipush 8, 2) := dk_16 8 (dk_at dksX3_go_3 10 rfl rfl)
theorem dX3_go_80 : decode cX3_go 80 = .ok (.invokespecial 55, 3) := dk_183 0 55 (dk_at dksX3_go_3 12 rfl rfl)
theorem dX3_go_83 : decode cX3_go 83 = .ok (.astore_n 3, 1) := dk_78 (dk_at dksX3_go_3 15 rfl rfl)
theorem dX3_go_84 : decode cX3_go 84 = .ok (.aload_n 0, 1) := dk_42 (dk_at dksX3_go_3 16 rfl rfl)
theorem dX3_go_85 : decode cX3_go 85 = .ok (.iload_n 2, 1) := dk_28 (dk_at dksX3_go_3 17 rfl rfl)
theorem dX3_go_86 : decode cX3_go 86 = .ok (.invokevirtual 49, 3) := dk_182 0 49 (dk_at dksX3_go_3 18 rfl rfl)
theorem dX3_go_89 : decode cX3_go 89 = .ok (.ifCond .eq 26, 3) := dk_153 0 26 (dk_at dksX3_go_3 21 rfl rfl)
theorem dX3_go_92 : decode cX3_go 92 = .ok (.iload_n 2, 1) := dk_28 (dk_at dksX3_go_4 0 rfl rfl)
theorem dX3_go_93 : decode cX3_go 93 = .ok (.bipush 8, 2) := dk_16 8 (dk_at dksX3_go_4 1 rfl rfl)
theorem dX3_go_95 : decode cX3_go 95 = .ok (.if_icmp .ge 14, 3) := dk_162 0 14 (dk_at dksX3_go_4 3 rfl rfl)
theorem dX3_go_98 : decode cX3_go 98 = .ok (.aload_n 3, 1) := dk_45 (dk_at dksX3_go_4 6 rfl rfl)
theorem dX3_go_99 : decode cX3_go 99 = .ok (.aload_n 0, 1) := dk_42 (dk_at dksX3_go_4 7 rfl rfl)
theorem dX3_go_100 : decode cX3_go 100 = .ok (.iload_n 2, 1) := dk_28 (dk_at dksX3_go_4 8 rfl rfl)
theorem dX3_go_101 : decode cX3_go 101 = .ok (.invokevirtual 39, 3) := dk_182 0 39 (dk_at dksX3_go_4 9 rfl rfl)
theorem dX3_go_104 : decode cX3_go 104 = .ok (.i2c, 1) := dk_146 (dk_at dksX3_go_4 12 rfl rfl)
theorem dX3_go_105 : decode cX3_go 105 = .ok (.invokevirtual 58, 3) := dk_182 0 58 (dk_at dksX3_go_4 13 rfl rfl)
theorem dX3_go_108 : decode cX3_go 108 = .ok (.pop, 1) := dk_87 (dk_at dksX3_go_4 16 rfl rfl)
theorem dX3_go_109 : decode cX3_go 109 = .ok (.iinc 2 1, 3) := dk_132 2 1 (dk_at dksX3_go_4 17 rfl rfl)
theorem dX3_go_112 : decode cX3_go 112 = .ok (.goto (-28), 3) := dk_167 255 228 (dk_at dksX3_go_4 20 rfl rfl)
theorem dX3_go_115 : decode cX3_go 115 = .ok (.iload_n 2, 1) := dk_28 (dk_at dksX3_go_4 23 rfl rfl)
theorem dX3_go_116 : decode cX3_go 116 = .ok (.bipush 8, 2) := dk_16 8 (dk_at dksX3_go_5 0 rfl rfl)
theorem dX3_go_118 : decode cX3_go 118 = .ok (.if_icmp .le 4, 3) := dk_164 0 4 (dk_at dksX3_go_5 2 rfl rfl)
theorem dX3_go_121 : decode cX3_go 121 = .ok (.return_, 1) := dk_177 (dk_at dksX3_go_5 5 rfl rfl)
theorem dX3_go_122 : decode cX3_go 122 = .ok (.aload_n 0, 1) := dk_42 (dk_at dksX3_go_5 6 rfl rfl)
theorem dX3_go_123 : decode cX3_go 123 = .ok (.aload_n 3, 1) := dk_45 (dk_at dksX3_go_5 7 rfl rfl)
theorem dX3_go_124 : decode cX3_go 124 = .ok (.invokevirtual 62, 3) := dk_182 0 62 (dk_at dksX3_go_5 8 rfl rfl)
theorem dX3_go_127 : decode cX3_go 127 = .ok (.putfield 17, 3) := dk_181 0 17 (dk_at dksX3_go_5 11 rfl rfl)
theorem dX3_go_130 : decode cX3_go 130 = .ok (.aload_n 0, 1) := dk_42 (dk_at dksX3_go_5 14 rfl rfl)
theorem dX3_go_131 : decode cX3_go 131 = .ok (.iconst 1, 1) := dk_4 (dk_at dksX3_go_5 15 rfl rfl)
theorem dX3_go_132 : decode cX3_go 132 = .ok (.putfield 46, 3) := dk_181 0 46 (dk_at dksX3_go_5 16 rfl rfl)
theorem dX3_go_135 : decode cX3_go 135 = .ok (.goto 96, 3) := dk_167 0 96 (dk_at dksX3_go_5 19 rfl rfl)
theorem dX3_go_138 : decode cX3_go 138 = .ok (.aload_n 0, 1) := dk_42 (dk_at dksX3_go_5 22 rfl rfl)
theorem dX3_go_139 : decode cX3_go 139 = .ok (.iconst 0, 1) := dk_3 (dk_at dksX3_go_5 23 rfl rfl)
theorem dX3_go_140 : decode cX3_go 140 = .ok (.invokevirtual 66, 3) := dk_182 0 66 (dk_at dksX3_go_6 0 rfl rfl)
theorem dX3_go_143 : decode cX3_go 143 = .ok (.ifCond .eq 69, 3) := dk_153 0 69 (dk_at dksX3_go_6 3 rfl rfl)
theorem dX3_go_146 : decode cX3_go 146 = .ok (.aload_n 0, 1) := dk_42 (dk_at dksX3_go_6 6 rfl rfl)
theorem dX3_go_147 : decode cX3_go 147 = .ok (.iconst 0, 1) := dk_3 (dk_at dksX3_go_6 7 rfl rfl)
theorem dX3_go_148 : decode cX3_go 148 = .ok (.putfield 69, 3) := dk_181 0 69 (dk_at dksX3_go_6 8 rfl rfl)
theorem dX3_go_151 : decode cX3_go 151 = .ok (.aload_n 0, 1) := dk_42 (dk_at dksX3_go_6 11 rfl rfl)
theorem dX3_go_152 : decode cX3_go 152 = .ok (.iload_n 2, 1) := dk_28 (dk_at dksX3_go_6 12 rfl rfl)
theorem dX3_go_153 : decode cX3_go 153 = .ok (.invokevirtual 66, 3) := dk_182 0 66 (dk_at dksX3_go_6 13 rfl rfl)
theorem dX3_go_156 : decode cX3_go 156 = .ok (.ifCond .eq 34, 3) := dk_153 0 34 (dk_at dksX3_go_6 16 rfl rfl)
theorem dX3_go_159 : decode cX3_go 159 = .ok (.iload_n 2, 1) := dk_28 (dk_at dksX3_go_6 19 rfl rfl)
theorem dX3_go_160 : decode cX3_go 160 = .ok (.iconst 4, 1) := dk_7 (dk_at dksX3_go_6 20 rfl rfl)
theorem dX3_go_161 : decode cX3_go 161 = .ok (.if_icmp .ge 23, 3) := dk_162 0 23 (dk_at dksX3_go_6 21 rfl rfl)
theorem dX3_go_164 : decode cX3_go 164 = .ok (.aload_n 0, 1) := dk_42 (dk_at dksX3_go_7 0 rfl rfl)
theorem dX3_go_165 : decode cX3_go 165 = .ok (.bipush 10, 2) := dk_16 10 (dk_at dksX3_go_7 1 rfl rfl)
theorem dX3_go_167 : decode cX3_go 167 = .ok (.aload_n 0, 1) := dk_42 (dk_at dksX3_go_7 3 rfl rfl)
theorem dX3_go_168 : decode cX3_go 168 = .ok (.getfield 69, 3) := dk_180 0 69 (dk_at dksX3_go_7 4 rfl rfl)
theorem dX3_go_171 : decode cX3_go 171 = .ok (.imul, 1) := dk_104 (dk_at dksX3_go_7 7 rfl rfl)
theorem dX3_go_172 : decode cX3_go 172 = .ok (.aload_n 0, 1) := dk_42 (dk_at dksX3_go_7 8 rfl rfl)
theorem dX3_go_173 : decode cX3_go 173 = .ok (.iload_n 2, 1) := dk_28 (dk_at dksX3_go_7 9 rfl rfl)
theorem dX3_go_174 : decode cX3_go 174 = .ok (.invokevirtual 39, 3) := dk_182 0 39 (dk_at dksX3_go_7 10 rfl rfl)
theorem dX3_go_177 : decode cX3_go 177 = .ok (.iadd, 1) := dk_96 (dk_at dksX3_go_7 13 rfl rfl)
theorem dX3_go_178 : decode cX3_go 178 = .ok (.bipush 48, 2) := dk_16 48 (dk_at dksX3_go_7 14 rfl rfl)
theorem dX3_go_180 : decode cX3_go 180 = .ok (.isub, 1) := dk_100 (dk_at dksX3_go_7 16 rfl rfl)
theorem dX3_go_181 : decode cX3_go 181 = .ok (.putfield 69, 3) := dk_181 0 69 (dk_at dksX3_go_7 17 rfl rfl)
theorem dX3_go_184 : decode cX3_go 184 = .ok (.iinc 2 1, 3) := dk_132 2 1 (dk_at dksX3_go_7 20 rfl rfl)
theorem dX3_go_187 : decode cX3_go 187 = .ok (.goto (-36), 3) := dk_167 255 220 (dk_at dksX3_go_8 0 rfl rfl)
theorem dX3_go_190 : decode cX3_go 190 = .ok (.iload_n 2, 1) := dk_28 (dk_at dksX3_go_8 3 rfl rfl)
theorem dX3_go_191 : decode cX3_go 191 = .ok (.iconst 4, 1) := dk_7 (dk_at dksX3_go_8 4 rfl rfl)
theorem dX3_go_192 : decode cX3_go 192 = .ok (.if_icmp .gt 11, 3) := dk_163 0 11 (dk_at dksX3_go_8 5 rfl rfl)
theorem dX3_go_195 : decode cX3_go 195 = .ok (.aload_n 0, 1) := dk_42 (dk_at dksX3_go_8 8 rfl rfl)
theorem dX3_go_196 : decode cX3_go 196 = .ok (.iload_n 2, 1) := dk_28 (dk_at dksX3_go_8 9 rfl rfl)
theorem dX3_go_197 : decode cX3_go 197 = .ok (.invokevirtual 49, 3) := dk_182 0 49 (dk_at dksX3_go_8 10 rfl rfl)
theorem dX3_go_200 : decode cX3_go 200 = .ok (.ifCond .eq 4, 3) := dk_153 0 4 (dk_at dksX3_go_8 13 rfl rfl)
theorem dX3_go_203 : decode cX3_go 203 = .ok (.return_, 1) := dk_177 (dk_at dksX3_go_8 16 rfl rfl)
theorem dX3_go_204 : decode cX3_go 204 = .ok (.aload_n 0, 1) := dk_42 (dk_at dksX3_go_8 17 rfl rfl)
theorem dX3_go_205 : decode cX3_go 205 = .ok (.iconst 2, 1) := dk_5 (dk_at dksX3_go_8 18 rfl rfl)
theorem dX3_go_206 : decode cX3_go 206 = .ok (.putfield 46, 3) := dk_181 0 46 (dk_at dksX3_go_8 19 rfl rfl)
theorem dX3_go_209 : decode cX3_go 209 = .ok (.goto 22, 3) := dk_167 0 22 (dk_at dksX3_go_9 0 rfl rfl)
theorem dX3_go_212 : decode cX3_go 212 = .ok (.iload_n 1, 1) := dk_27 (dk_at dksX3_go_9 3 rfl rfl)
theorem dX3_go_213 : decode cX3_go 213 = .ok (.bipush 59, 2) := dk_16 59 (dk_at dksX3_go_9 4 rfl rfl)
theorem dX3_go_215 : decode cX3_go 215 = .ok (.if_icmp .eq 9, 3) := dk_159 0 9 (dk_at dksX3_go_9 6 rfl rfl)
theorem dX3_go_218 : decode cX3_go 218 = .ok (.iload_n 1, 1) := dk_27 (dk_at dksX3_go_9 9 rfl rfl)
theorem dX3_go_219 : decode cX3_go 219 = .ok (.bipush 61, 2) := dk_16 61 (dk_at dksX3_go_9 10 rfl rfl)
theorem dX3_go_221 : decode cX3_go 221 = .ok (.if_icmp .ne 10, 3) := dk_160 0 10 (dk_at dksX3_go_9 12 rfl rfl)
theorem dX3_go_224 : decode cX3_go 224 = .ok (.aload_n 0, 1) := dk_42 (dk_at dksX3_go_9 15 rfl rfl)
theorem dX3_go_225 : decode cX3_go 225 = .ok (.iload_n 1, 1) := dk_27 (dk_at dksX3_go_9 16 rfl rfl)
theorem dX3_go_226 : decode cX3_go 226 = .ok (.putfield 46, 3) := dk_181 0 46 (dk_at dksX3_go_9 17 rfl rfl)
theorem dX3_go_229 : decode cX3_go 229 = .ok (.iconst 1, 1) := dk_4 (dk_at dksX3_go_9 20 rfl rfl)
theorem dX3_go_230 : decode cX3_go 230 = .ok (.istore_n 2, 1) := dk_61 (dk_at dksX3_go_9 21 rfl rfl)
theorem dX3_go_231 : decode cX3_go 231 = .ok (.aload_n 0, 1) := dk_42 (dk_at dksX3_go_9 22 rfl rfl)
theorem dX3_go_232 : decode cX3_go 232 = .ok (.dup, 1) := dk_89 (dk_at dksX3_go_9 23 rfl rfl)
theorem dX3_go_233 : decode cX3_go 233 = .ok (.getfield 28, 3) := dk_180 0 28 (dk_at dksX3_go_10 0 rfl rfl)
theorem dX3_go_236 : decode cX3_go 236 = .ok (.iload_n 2, 1) := dk_28 (dk_at dksX3_go_10 3 rfl rfl)
theorem dX3_go_237 : decode cX3_go 237 = .ok (.iadd, 1) := dk_96 (dk_at dksX3_go_10 4 rfl rfl)
theorem dX3_go_238 : decode cX3_go 238 = .ok (.putfield 28, 3) := dk_181 0 28 (dk_at dksX3_go_10 5 rfl rfl)
theorem dX3_go_241 : decode cX3_go 241 = .ok (.return_, 1) := dk_177 (dk_at dksX3_go_10 8 rfl rfl)
abbrev cX3_here : ByteArray := prog_4_method_2_code
def yX3_here : MethodName := ⟨RX3, "here", "(I)I"⟩
def dkwX3_here_1 : List UInt8 := [180, 0, 28, 27, 96, 51, 17, 0, 255, 126, 167, 0, 4, 2, 172]
abbrev dktX3_here_1 : List UInt8 := dkwX3_here_1 ++ []
def dkwX3_here_0 : List UInt8 := [42, 180, 0, 28, 27, 96, 42, 180, 0, 3, 180, 0, 32, 162, 0, 24, 42, 180, 0, 3, 180, 0, 35, 42]
abbrev dktX3_here_0 : List UInt8 := dkwX3_here_0 ++ dktX3_here_1
theorem dksX3_here_0 : cX3_here.data.toList.drop 0 = dktX3_here_0 := by decide +kernel
theorem dksX3_here_1 : cX3_here.data.toList.drop 24 = dktX3_here_1 := dk_seg dksX3_here_0 24 rfl rfl
theorem dX3_here_0 : decode cX3_here 0 = .ok (.aload_n 0, 1) := dk_42 (dk_at dksX3_here_0 0 rfl rfl)
theorem dX3_here_1 : decode cX3_here 1 = .ok (.getfield 28, 3) := dk_180 0 28 (dk_at dksX3_here_0 1 rfl rfl)
theorem dX3_here_4 : decode cX3_here 4 = .ok (.iload_n 1, 1) := dk_27 (dk_at dksX3_here_0 4 rfl rfl)
theorem dX3_here_5 : decode cX3_here 5 = .ok (.iadd, 1) := dk_96 (dk_at dksX3_here_0 5 rfl rfl)
theorem dX3_here_6 : decode cX3_here 6 = .ok (.aload_n 0, 1) := dk_42 (dk_at dksX3_here_0 6 rfl rfl)
theorem dX3_here_7 : decode cX3_here 7 = .ok (.getfield 3, 3) := dk_180 0 3 (dk_at dksX3_here_0 7 rfl rfl)
theorem dX3_here_10 : decode cX3_here 10 = .ok (.getfield 32, 3) := dk_180 0 32 (dk_at dksX3_here_0 10 rfl rfl)
theorem dX3_here_13 : decode cX3_here 13 = .ok (.if_icmp .ge 24, 3) := dk_162 0 24 (dk_at dksX3_here_0 13 rfl rfl)
theorem dX3_here_16 : decode cX3_here 16 = .ok (.aload_n 0, 1) := dk_42 (dk_at dksX3_here_0 16 rfl rfl)
theorem dX3_here_17 : decode cX3_here 17 = .ok (.getfield 3, 3) := dk_180 0 3 (dk_at dksX3_here_0 17 rfl rfl)
theorem dX3_here_20 : decode cX3_here 20 = .ok (.getfield 35, 3) := dk_180 0 35 (dk_at dksX3_here_0 20 rfl rfl)
theorem dX3_here_23 : decode cX3_here 23 = .ok (.aload_n 0, 1) := dk_42 (dk_at dksX3_here_0 23 rfl rfl)
theorem dX3_here_24 : decode cX3_here 24 = .ok (.getfield 28, 3) := dk_180 0 28 (dk_at dksX3_here_1 0 rfl rfl)
theorem dX3_here_27 : decode cX3_here 27 = .ok (.iload_n 1, 1) := dk_27 (dk_at dksX3_here_1 3 rfl rfl)
theorem dX3_here_28 : decode cX3_here 28 = .ok (.iadd, 1) := dk_96 (dk_at dksX3_here_1 4 rfl rfl)
theorem dX3_here_29 : decode cX3_here 29 = .ok (.baload, 1) := dk_51 (dk_at dksX3_here_1 5 rfl rfl)
theorem dX3_here_30 : decode cX3_here 30 = .ok (.sipush 255, 3) := dk_17 0 255 (dk_at dksX3_here_1 6 rfl rfl)
theorem dX3_here_33 : decode cX3_here 33 = .ok (.iand, 1) := dk_126 (dk_at dksX3_here_1 9 rfl rfl)
theorem dX3_here_34 : decode cX3_here 34 = .ok (.goto 4, 3) := dk_167 0 4 (dk_at dksX3_here_1 10 rfl rfl)
theorem dX3_here_37 : decode cX3_here 37 = .ok (.iconst (-1), 1) := dk_2 (dk_at dksX3_here_1 13 rfl rfl)
theorem dX3_here_38 : decode cX3_here 38 = .ok (.ireturn, 1) := dk_172 (dk_at dksX3_here_1 14 rfl rfl)
abbrev cX3_isLetter : ByteArray := prog_4_method_3_code
def yX3_isLetter : MethodName := ⟨RX3, "isLetter", "(I)Z"⟩
def dkwX3_isLetter_1 : List UInt8 := [3, 172]
abbrev dktX3_isLetter_1 : List UInt8 := dkwX3_isLetter_1 ++ []
def dkwX3_isLetter_0 : List UInt8 := [42, 27, 182, 0, 39, 16, 97, 161, 0, 17, 42, 27, 182, 0, 39, 16, 122, 163, 0, 7, 4, 167, 0, 4]
abbrev dktX3_isLetter_0 : List UInt8 := dkwX3_isLetter_0 ++ dktX3_isLetter_1
theorem dksX3_isLetter_0 : cX3_isLetter.data.toList.drop 0 = dktX3_isLetter_0 := by decide +kernel
theorem dksX3_isLetter_1 : cX3_isLetter.data.toList.drop 24 = dktX3_isLetter_1 := dk_seg dksX3_isLetter_0 24 rfl rfl
theorem dX3_isLetter_0 : decode cX3_isLetter 0 = .ok (.aload_n 0, 1) := dk_42 (dk_at dksX3_isLetter_0 0 rfl rfl)
theorem dX3_isLetter_1 : decode cX3_isLetter 1 = .ok (.iload_n 1, 1) := dk_27 (dk_at dksX3_isLetter_0 1 rfl rfl)
theorem dX3_isLetter_2 : decode cX3_isLetter 2 = .ok (.invokevirtual 39, 3) := dk_182 0 39 (dk_at dksX3_isLetter_0 2 rfl rfl)
theorem dX3_isLetter_5 : decode cX3_isLetter 5 = .ok (.bipush 97, 2) := dk_16 97 (dk_at dksX3_isLetter_0 5 rfl rfl)
theorem dX3_isLetter_7 : decode cX3_isLetter 7 = .ok (.if_icmp .lt 17, 3) := dk_161 0 17 (dk_at dksX3_isLetter_0 7 rfl rfl)
theorem dX3_isLetter_10 : decode cX3_isLetter 10 = .ok (.aload_n 0, 1) := dk_42 (dk_at dksX3_isLetter_0 10 rfl rfl)
theorem dX3_isLetter_11 : decode cX3_isLetter 11 = .ok (.iload_n 1, 1) := dk_27 (dk_at dksX3_isLetter_0 11 rfl rfl)
theorem dX3_isLetter_12 : decode cX3_isLetter 12 = .ok (.invokevirtual 39, 3) := dk_182 0 39 (dk_at dksX3_isLetter_0 12 rfl rfl)
theorem dX3_isLetter_15 : decode cX3_isLetter 15 = .ok (.bipush 122, 2) := dk_16 122 (dk_at dksX3_isLetter_0 15 rfl rfl)
theorem dX3_isLetter_17 : decode cX3_isLetter 17 = .ok (.if_icmp .gt 7, 3) := dk_163 0 7 (dk_at dksX3_isLetter_0 17 rfl rfl)
theorem dX3_isLetter_20 : decode cX3_isLetter 20 = .ok (.iconst 1, 1) := dk_4 (dk_at dksX3_isLetter_0 20 rfl rfl)
theorem dX3_isLetter_21 : decode cX3_isLetter 21 = .ok (.goto 4, 3) := dk_167 0 4 (dk_at dksX3_isLetter_0 21 rfl rfl)
theorem dX3_isLetter_24 : decode cX3_isLetter 24 = .ok (.iconst 0, 1) := dk_3 (dk_at dksX3_isLetter_1 0 rfl rfl)
theorem dX3_isLetter_25 : decode cX3_isLetter 25 = .ok (.ireturn, 1) := dk_172 (dk_at dksX3_isLetter_1 1 rfl rfl)
abbrev cX3_isDigit : ByteArray := prog_4_method_4_code
def yX3_isDigit : MethodName := ⟨RX3, "isDigit", "(I)Z"⟩
def dkwX3_isDigit_1 : List UInt8 := [3, 172]
abbrev dktX3_isDigit_1 : List UInt8 := dkwX3_isDigit_1 ++ []
def dkwX3_isDigit_0 : List UInt8 := [42, 27, 182, 0, 39, 16, 48, 161, 0, 17, 42, 27, 182, 0, 39, 16, 57, 163, 0, 7, 4, 167, 0, 4]
abbrev dktX3_isDigit_0 : List UInt8 := dkwX3_isDigit_0 ++ dktX3_isDigit_1
theorem dksX3_isDigit_0 : cX3_isDigit.data.toList.drop 0 = dktX3_isDigit_0 := by decide +kernel
theorem dksX3_isDigit_1 : cX3_isDigit.data.toList.drop 24 = dktX3_isDigit_1 := dk_seg dksX3_isDigit_0 24 rfl rfl
theorem dX3_isDigit_0 : decode cX3_isDigit 0 = .ok (.aload_n 0, 1) := dk_42 (dk_at dksX3_isDigit_0 0 rfl rfl)
theorem dX3_isDigit_1 : decode cX3_isDigit 1 = .ok (.iload_n 1, 1) := dk_27 (dk_at dksX3_isDigit_0 1 rfl rfl)
theorem dX3_isDigit_2 : decode cX3_isDigit 2 = .ok (.invokevirtual 39, 3) := dk_182 0 39 (dk_at dksX3_isDigit_0 2 rfl rfl)
theorem dX3_isDigit_5 : decode cX3_isDigit 5 = .ok (.bipush 48, 2) := dk_16 48 (dk_at dksX3_isDigit_0 5 rfl rfl)
theorem dX3_isDigit_7 : decode cX3_isDigit 7 = .ok (.if_icmp .lt 17, 3) := dk_161 0 17 (dk_at dksX3_isDigit_0 7 rfl rfl)
theorem dX3_isDigit_10 : decode cX3_isDigit 10 = .ok (.aload_n 0, 1) := dk_42 (dk_at dksX3_isDigit_0 10 rfl rfl)
theorem dX3_isDigit_11 : decode cX3_isDigit 11 = .ok (.iload_n 1, 1) := dk_27 (dk_at dksX3_isDigit_0 11 rfl rfl)
theorem dX3_isDigit_12 : decode cX3_isDigit 12 = .ok (.invokevirtual 39, 3) := dk_182 0 39 (dk_at dksX3_isDigit_0 12 rfl rfl)
theorem dX3_isDigit_15 : decode cX3_isDigit 15 = .ok (.bipush 57, 2) := dk_16 57 (dk_at dksX3_isDigit_0 15 rfl rfl)
theorem dX3_isDigit_17 : decode cX3_isDigit 17 = .ok (.if_icmp .gt 7, 3) := dk_163 0 7 (dk_at dksX3_isDigit_0 17 rfl rfl)
theorem dX3_isDigit_20 : decode cX3_isDigit 20 = .ok (.iconst 1, 1) := dk_4 (dk_at dksX3_isDigit_0 20 rfl rfl)
theorem dX3_isDigit_21 : decode cX3_isDigit 21 = .ok (.goto 4, 3) := dk_167 0 4 (dk_at dksX3_isDigit_0 21 rfl rfl)
theorem dX3_isDigit_24 : decode cX3_isDigit 24 = .ok (.iconst 0, 1) := dk_3 (dk_at dksX3_isDigit_1 0 rfl rfl)
theorem dX3_isDigit_25 : decode cX3_isDigit 25 = .ok (.ireturn, 1) := dk_172 (dk_at dksX3_isDigit_1 1 rfl rfl)
abbrev cX3_is : ByteArray := prog_4_method_7_code
def yX3_is : MethodName := ⟨RX3, "is", "(Ljava/lang/String;)Z"⟩
def dkwX3_is_1 : List UInt8 := [172]
abbrev dktX3_is_1 : List UInt8 := dkwX3_is_1 ++ []
def dkwX3_is_0 : List UInt8 := [42, 180, 0, 46, 4, 160, 0, 18, 42, 180, 0, 17, 43, 182, 0, 77, 153, 0, 7, 4, 167, 0, 4, 3]
abbrev dktX3_is_0 : List UInt8 := dkwX3_is_0 ++ dktX3_is_1
theorem dksX3_is_0 : cX3_is.data.toList.drop 0 = dktX3_is_0 := by decide +kernel
theorem dksX3_is_1 : cX3_is.data.toList.drop 24 = dktX3_is_1 := dk_seg dksX3_is_0 24 rfl rfl
theorem dX3_is_0 : decode cX3_is 0 = .ok (.aload_n 0, 1) := dk_42 (dk_at dksX3_is_0 0 rfl rfl)
theorem dX3_is_1 : decode cX3_is 1 = .ok (.getfield 46, 3) := dk_180 0 46 (dk_at dksX3_is_0 1 rfl rfl)
theorem dX3_is_4 : decode cX3_is 4 = .ok (.iconst 1, 1) := dk_4 (dk_at dksX3_is_0 4 rfl rfl)
theorem dX3_is_5 : decode cX3_is 5 = .ok (.if_icmp .ne 18, 3) := dk_160 0 18 (dk_at dksX3_is_0 5 rfl rfl)
theorem dX3_is_8 : decode cX3_is 8 = .ok (.aload_n 0, 1) := dk_42 (dk_at dksX3_is_0 8 rfl rfl)
theorem dX3_is_9 : decode cX3_is 9 = .ok (.getfield 17, 3) := dk_180 0 17 (dk_at dksX3_is_0 9 rfl rfl)
theorem dX3_is_12 : decode cX3_is 12 = .ok (.aload_n 1, 1) := dk_43 (dk_at dksX3_is_0 12 rfl rfl)
theorem dX3_is_13 : decode cX3_is 13 = .ok (.invokevirtual 77, 3) := dk_182 0 77 (dk_at dksX3_is_0 13 rfl rfl)
theorem dX3_is_16 : decode cX3_is 16 = .ok (.ifCond .eq 7, 3) := dk_153 0 7 (dk_at dksX3_is_0 16 rfl rfl)
theorem dX3_is_19 : decode cX3_is 19 = .ok (.iconst 1, 1) := dk_4 (dk_at dksX3_is_0 19 rfl rfl)
theorem dX3_is_20 : decode cX3_is 20 = .ok (.goto 4, 3) := dk_167 0 4 (dk_at dksX3_is_0 20 rfl rfl)
theorem dX3_is_23 : decode cX3_is 23 = .ok (.iconst 0, 1) := dk_3 (dk_at dksX3_is_0 23 rfl rfl)
theorem dX3_is_24 : decode cX3_is 24 = .ok (.ireturn, 1) := dk_172 (dk_at dksX3_is_1 0 rfl rfl)
abbrev cX3_word : ByteArray := prog_4_method_13_code
def yX3_word : MethodName := ⟨RX3, "word", "()V"⟩
def dkwX3_word_1 : List UInt8 := [182, 0, 122, 182, 0, 161, 42, 180, 0, 24, 180, 0, 118, 43, 182, 0, 165, 87, 177]
abbrev dktX3_word_1 : List UInt8 := dkwX3_word_1 ++ []
def dkwX3_word_0 : List UInt8 := [42, 182, 0, 87, 42, 182, 0, 154, 76, 42, 42, 180, 0, 24, 180, 0, 157, 42, 180, 0, 24, 180, 0, 118]
abbrev dktX3_word_0 : List UInt8 := dkwX3_word_0 ++ dktX3_word_1
theorem dksX3_word_0 : cX3_word.data.toList.drop 0 = dktX3_word_0 := by decide +kernel
theorem dksX3_word_1 : cX3_word.data.toList.drop 24 = dktX3_word_1 := dk_seg dksX3_word_0 24 rfl rfl
theorem dX3_word_0 : decode cX3_word 0 = .ok (.aload_n 0, 1) := dk_42 (dk_at dksX3_word_0 0 rfl rfl)
theorem dX3_word_1 : decode cX3_word 1 = .ok (.invokevirtual 87, 3) := dk_182 0 87 (dk_at dksX3_word_0 1 rfl rfl)
theorem dX3_word_4 : decode cX3_word 4 = .ok (.aload_n 0, 1) := dk_42 (dk_at dksX3_word_0 4 rfl rfl)
theorem dX3_word_5 : decode cX3_word 5 = .ok (.invokevirtual 154, 3) := dk_182 0 154 (dk_at dksX3_word_0 5 rfl rfl)
theorem dX3_word_8 : decode cX3_word 8 = .ok (.astore_n 1, 1) := dk_76 (dk_at dksX3_word_0 8 rfl rfl)
theorem dX3_word_9 : decode cX3_word 9 = .ok (.aload_n 0, 1) := dk_42 (dk_at dksX3_word_0 9 rfl rfl)
theorem dX3_word_10 : decode cX3_word 10 = .ok (.aload_n 0, 1) := dk_42 (dk_at dksX3_word_0 10 rfl rfl)
theorem dX3_word_11 : decode cX3_word 11 = .ok (.getfield 24, 3) := dk_180 0 24 (dk_at dksX3_word_0 11 rfl rfl)
theorem dX3_word_14 : decode cX3_word 14 = .ok (.getfield 157, 3) := dk_180 0 157 (dk_at dksX3_word_0 14 rfl rfl)
theorem dX3_word_17 : decode cX3_word 17 = .ok (.aload_n 0, 1) := dk_42 (dk_at dksX3_word_0 17 rfl rfl)
theorem dX3_word_18 : decode cX3_word 18 = .ok (.getfield 24, 3) := dk_180 0 24 (dk_at dksX3_word_0 18 rfl rfl)
theorem dX3_word_21 : decode cX3_word 21 = .ok (.getfield 118, 3) := dk_180 0 118 (dk_at dksX3_word_0 21 rfl rfl)
theorem dX3_word_24 : decode cX3_word 24 = .ok (.invokevirtual 122, 3) := dk_182 0 122 (dk_at dksX3_word_1 0 rfl rfl)
theorem dX3_word_27 : decode cX3_word 27 = .ok (.invokevirtual 161, 3) := dk_182 0 161 (dk_at dksX3_word_1 3 rfl rfl)
theorem dX3_word_30 : decode cX3_word 30 = .ok (.aload_n 0, 1) := dk_42 (dk_at dksX3_word_1 6 rfl rfl)
theorem dX3_word_31 : decode cX3_word 31 = .ok (.getfield 24, 3) := dk_180 0 24 (dk_at dksX3_word_1 7 rfl rfl)
theorem dX3_word_34 : decode cX3_word 34 = .ok (.getfield 118, 3) := dk_180 0 118 (dk_at dksX3_word_1 10 rfl rfl)
theorem dX3_word_37 : decode cX3_word 37 = .ok (.aload_n 1, 1) := dk_43 (dk_at dksX3_word_1 13 rfl rfl)
theorem dX3_word_38 : decode cX3_word 38 = .ok (.invokevirtual 165, 3) := dk_182 0 165 (dk_at dksX3_word_1 14 rfl rfl)
theorem dX3_word_41 : decode cX3_word 41 = .ok (.pop, 1) := dk_87 (dk_at dksX3_word_1 17 rfl rfl)
theorem dX3_word_42 : decode cX3_word 42 = .ok (.return_, 1) := dk_177 (dk_at dksX3_word_1 18 rfl rfl)
abbrev cX3_newName : ByteArray := prog_4_method_10_code
def yX3_newName : MethodName := ⟨RX3, "newName", "()Ljava/lang/String;"⟩
def dkwX3_newName_2 : List UInt8 := [180, 0, 43, 183, 0, 74, 191, 42, 180, 0, 17, 76, 42, 182, 0, 87, 43, 176]
abbrev dktX3_newName_2 : List UInt8 := dkwX3_newName_2 ++ []
def dkwX3_newName_1 : List UInt8 := [156, 0, 17, 42, 180, 0, 24, 42, 180, 0, 17, 182, 0, 112, 155, 0, 16, 187, 0, 72, 89, 6, 42]
abbrev dktX3_newName_1 : List UInt8 := dkwX3_newName_1 ++ dktX3_newName_2
def dkwX3_newName_0 : List UInt8 := [42, 182, 0, 105, 154, 0, 8, 42, 182, 0, 83, 191, 42, 180, 0, 24, 42, 180, 0, 17, 182, 0, 109]
abbrev dktX3_newName_0 : List UInt8 := dkwX3_newName_0 ++ dktX3_newName_1
theorem dksX3_newName_0 : cX3_newName.data.toList.drop 0 = dktX3_newName_0 := by decide +kernel
theorem dksX3_newName_1 : cX3_newName.data.toList.drop 23 = dktX3_newName_1 := dk_seg dksX3_newName_0 23 rfl rfl
theorem dksX3_newName_2 : cX3_newName.data.toList.drop 46 = dktX3_newName_2 := dk_seg dksX3_newName_1 23 rfl rfl
theorem dX3_newName_0 : decode cX3_newName 0 = .ok (.aload_n 0, 1) := dk_42 (dk_at dksX3_newName_0 0 rfl rfl)
theorem dX3_newName_1 : decode cX3_newName 1 = .ok (.invokevirtual 105, 3) := dk_182 0 105 (dk_at dksX3_newName_0 1 rfl rfl)
theorem dX3_newName_4 : decode cX3_newName 4 = .ok (.ifCond .ne 8, 3) := dk_154 0 8 (dk_at dksX3_newName_0 4 rfl rfl)
theorem dX3_newName_7 : decode cX3_newName 7 = .ok (.aload_n 0, 1) := dk_42 (dk_at dksX3_newName_0 7 rfl rfl)
theorem dX3_newName_8 : decode cX3_newName 8 = .ok (.invokevirtual 83, 3) := dk_182 0 83 (dk_at dksX3_newName_0 8 rfl rfl)
theorem dX3_newName_11 : decode cX3_newName 11 = .ok (.athrow, 1) := dk_191 (dk_at dksX3_newName_0 11 rfl rfl)
theorem dX3_newName_12 : decode cX3_newName 12 = .ok (.aload_n 0, 1) := dk_42 (dk_at dksX3_newName_0 12 rfl rfl)
theorem dX3_newName_13 : decode cX3_newName 13 = .ok (.getfield 24, 3) := dk_180 0 24 (dk_at dksX3_newName_0 13 rfl rfl)
theorem dX3_newName_16 : decode cX3_newName 16 = .ok (.aload_n 0, 1) := dk_42 (dk_at dksX3_newName_0 16 rfl rfl)
theorem dX3_newName_17 : decode cX3_newName 17 = .ok (.getfield 17, 3) := dk_180 0 17 (dk_at dksX3_newName_0 17 rfl rfl)
theorem dX3_newName_20 : decode cX3_newName 20 = .ok (.invokevirtual 109, 3) := dk_182 0 109 (dk_at dksX3_newName_0 20 rfl rfl)
theorem dX3_newName_23 : decode cX3_newName 23 = .ok (.ifCond .ge 17, 3) := dk_156 0 17 (dk_at dksX3_newName_1 0 rfl rfl)
theorem dX3_newName_26 : decode cX3_newName 26 = .ok (.aload_n 0, 1) := dk_42 (dk_at dksX3_newName_1 3 rfl rfl)
theorem dX3_newName_27 : decode cX3_newName 27 = .ok (.getfield 24, 3) := dk_180 0 24 (dk_at dksX3_newName_1 4 rfl rfl)
theorem dX3_newName_30 : decode cX3_newName 30 = .ok (.aload_n 0, 1) := dk_42 (dk_at dksX3_newName_1 7 rfl rfl)
theorem dX3_newName_31 : decode cX3_newName 31 = .ok (.getfield 17, 3) := dk_180 0 17 (dk_at dksX3_newName_1 8 rfl rfl)
theorem dX3_newName_34 : decode cX3_newName 34 = .ok (.invokevirtual 112, 3) := dk_182 0 112 (dk_at dksX3_newName_1 11 rfl rfl)
theorem dX3_newName_37 : decode cX3_newName 37 = .ok (.ifCond .lt 16, 3) := dk_155 0 16 (dk_at dksX3_newName_1 14 rfl rfl)
theorem dX3_newName_40 : decode cX3_newName 40 = .ok (.new 72, 3) := dk_187 0 72 (dk_at dksX3_newName_1 17 rfl rfl)
theorem dX3_newName_43 : decode cX3_newName 43 = .ok (.dup, 1) := dk_89 (dk_at dksX3_newName_1 20 rfl rfl)
theorem dX3_newName_44 : decode cX3_newName 44 = .ok (.iconst 3, 1) := dk_6 (dk_at dksX3_newName_1 21 rfl rfl)
theorem dX3_newName_45 : decode cX3_newName 45 = .ok (.aload_n 0, 1) := dk_42 (dk_at dksX3_newName_1 22 rfl rfl)
theorem dX3_newName_46 : decode cX3_newName 46 = .ok (.getfield 43, 3) := dk_180 0 43 (dk_at dksX3_newName_2 0 rfl rfl)
theorem dX3_newName_49 : decode cX3_newName 49 = .ok (.invokespecial 74, 3) := dk_183 0 74 (dk_at dksX3_newName_2 3 rfl rfl)
theorem dX3_newName_52 : decode cX3_newName 52 = .ok (.athrow, 1) := dk_191 (dk_at dksX3_newName_2 6 rfl rfl)
theorem dX3_newName_53 : decode cX3_newName 53 = .ok (.aload_n 0, 1) := dk_42 (dk_at dksX3_newName_2 7 rfl rfl)
theorem dX3_newName_54 : decode cX3_newName 54 = .ok (.getfield 17, 3) := dk_180 0 17 (dk_at dksX3_newName_2 8 rfl rfl)
theorem dX3_newName_57 : decode cX3_newName 57 = .ok (.astore_n 1, 1) := dk_76 (dk_at dksX3_newName_2 11 rfl rfl)
theorem dX3_newName_58 : decode cX3_newName 58 = .ok (.aload_n 0, 1) := dk_42 (dk_at dksX3_newName_2 12 rfl rfl)
theorem dX3_newName_59 : decode cX3_newName 59 = .ok (.invokevirtual 87, 3) := dk_182 0 87 (dk_at dksX3_newName_2 13 rfl rfl)
theorem dX3_newName_62 : decode cX3_newName 62 = .ok (.aload_n 1, 1) := dk_43 (dk_at dksX3_newName_2 16 rfl rfl)
theorem dX3_newName_63 : decode cX3_newName 63 = .ok (.areturn, 1) := dk_176 (dk_at dksX3_newName_2 17 rfl rfl)
abbrev cX3_isName : ByteArray := prog_4_method_9_code
def yX3_isName : MethodName := ⟨RX3, "isName", "()Z"⟩
def dkwX3_isName_7 : List UInt8 := [3, 172, 4, 172]
abbrev dktX3_isName_7 : List UInt8 := dkwX3_isName_7 ++ []
def dkwX3_isName_6 : List UInt8 := [170, 0, 0, 0, 0, 40, 0, 0, 0, 0, 0, 0, 0, 5, 0, 0, 0, 38, 0, 0, 0, 38, 0, 0, 0, 38, 0, 0, 0, 38, 0, 0, 0, 38, 0, 0, 0, 38]
abbrev dktX3_isName_6 : List UInt8 := dkwX3_isName_6 ++ dktX3_isName_7
def dkwX3_isName_5 : List UInt8 := [18, 103, 182, 0, 77, 153, 0, 5, 8, 61, 28]
abbrev dktX3_isName_5 : List UInt8 := dkwX3_isName_5 ++ dktX3_isName_6
def dkwX3_isName_4 : List UInt8 := [153, 0, 33, 6, 61, 167, 0, 28, 43, 18, 101, 182, 0, 77, 153, 0, 19, 7, 61, 167, 0, 14, 43]
abbrev dktX3_isName_4 : List UInt8 := dkwX3_isName_4 ++ dktX3_isName_5
def dkwX3_isName_3 : List UInt8 := [61, 167, 0, 56, 43, 18, 97, 182, 0, 77, 153, 0, 47, 5, 61, 167, 0, 42, 43, 18, 99, 182, 0, 77]
abbrev dktX3_isName_3 : List UInt8 := dkwX3_isName_3 ++ dktX3_isName_4
def dkwX3_isName_2 : List UInt8 := [43, 18, 94, 182, 0, 77, 153, 0, 75, 3, 61, 167, 0, 70, 43, 18, 95, 182, 0, 77, 153, 0, 61, 4]
abbrev dktX3_isName_2 : List UInt8 := dkwX3_isName_2 ++ dktX3_isName_3
def dkwX3_isName_1 : List UInt8 := [171, 0, 0, 0, 0, 0, 140, 0, 0, 0, 6, 190, 14, 58, 230, 0, 0, 0, 115, 0, 0, 13, 227, 0, 0, 0, 101, 0, 52, 98, 218, 0, 0, 0, 73, 0, 53, 150, 252, 0, 0, 0, 87, 0, 55, 199, 10, 0, 0, 0, 59, 6, 153, 143, 150, 0, 0, 0, 129]
abbrev dktX3_isName_1 : List UInt8 := dkwX3_isName_1 ++ dktX3_isName_2
def dkwX3_isName_0 : List UInt8 := [42, 180, 0, 46, 4, 159, 0, 5, 3, 172, 42, 180, 0, 17, 76, 2, 61, 43, 182, 0, 90]
abbrev dktX3_isName_0 : List UInt8 := dkwX3_isName_0 ++ dktX3_isName_1
theorem dksX3_isName_0 : cX3_isName.data.toList.drop 0 = dktX3_isName_0 := by decide +kernel
theorem dksX3_isName_1 : cX3_isName.data.toList.drop 21 = dktX3_isName_1 := dk_seg dksX3_isName_0 21 rfl rfl
theorem dksX3_isName_2 : cX3_isName.data.toList.drop 80 = dktX3_isName_2 := dk_seg dksX3_isName_1 59 rfl rfl
theorem dksX3_isName_3 : cX3_isName.data.toList.drop 104 = dktX3_isName_3 := dk_seg dksX3_isName_2 24 rfl rfl
theorem dksX3_isName_4 : cX3_isName.data.toList.drop 128 = dktX3_isName_4 := dk_seg dksX3_isName_3 24 rfl rfl
theorem dksX3_isName_5 : cX3_isName.data.toList.drop 151 = dktX3_isName_5 := dk_seg dksX3_isName_4 23 rfl rfl
theorem dksX3_isName_6 : cX3_isName.data.toList.drop 162 = dktX3_isName_6 := dk_seg dksX3_isName_5 11 rfl rfl
theorem dksX3_isName_7 : cX3_isName.data.toList.drop 200 = dktX3_isName_7 := dk_seg dksX3_isName_6 38 rfl rfl
theorem dX3_isName_0 : decode cX3_isName 0 = .ok (.aload_n 0, 1) := dk_42 (dk_at dksX3_isName_0 0 rfl rfl)
theorem dX3_isName_1 : decode cX3_isName 1 = .ok (.getfield 46, 3) := dk_180 0 46 (dk_at dksX3_isName_0 1 rfl rfl)
theorem dX3_isName_4 : decode cX3_isName 4 = .ok (.iconst 1, 1) := dk_4 (dk_at dksX3_isName_0 4 rfl rfl)
theorem dX3_isName_5 : decode cX3_isName 5 = .ok (.if_icmp .eq 5, 3) := dk_159 0 5 (dk_at dksX3_isName_0 5 rfl rfl)
theorem dX3_isName_8 : decode cX3_isName 8 = .ok (.iconst 0, 1) := dk_3 (dk_at dksX3_isName_0 8 rfl rfl)
theorem dX3_isName_9 : decode cX3_isName 9 = .ok (.ireturn, 1) := dk_172 (dk_at dksX3_isName_0 9 rfl rfl)
theorem dX3_isName_10 : decode cX3_isName 10 = .ok (.aload_n 0, 1) := dk_42 (dk_at dksX3_isName_0 10 rfl rfl)
theorem dX3_isName_11 : decode cX3_isName 11 = .ok (.getfield 17, 3) := dk_180 0 17 (dk_at dksX3_isName_0 11 rfl rfl)
theorem dX3_isName_14 : decode cX3_isName 14 = .ok (.astore_n 1, 1) := dk_76 (dk_at dksX3_isName_0 14 rfl rfl)
theorem dX3_isName_15 : decode cX3_isName 15 = .ok (.iconst (-1), 1) := dk_2 (dk_at dksX3_isName_0 15 rfl rfl)
theorem dX3_isName_16 : decode cX3_isName 16 = .ok (.istore_n 2, 1) := dk_61 (dk_at dksX3_isName_0 16 rfl rfl)
theorem dX3_isName_17 : decode cX3_isName 17 = .ok (.aload_n 1, 1) := dk_43 (dk_at dksX3_isName_0 17 rfl rfl)
theorem dX3_isName_18 : decode cX3_isName 18 = .ok (.invokevirtual 90, 3) := dk_182 0 90 (dk_at dksX3_isName_0 18 rfl rfl)
theorem dX3_isName_21 : decode cX3_isName 21 = .ok (.lookupswitch 140 #[(-1106363674, 115), (3555, 101), (3433178, 73), (3512060, 87), (3655434, 59), (110727062, 129)], 59) := by decide +kernel
theorem dX3_isName_80 : decode cX3_isName 80 = .ok (.aload_n 1, 1) := dk_43 (dk_at dksX3_isName_2 0 rfl rfl)
theorem dX3_isName_81 : decode cX3_isName 81 = .ok (.ldc 94, 2) := dk_18 94 (dk_at dksX3_isName_2 1 rfl rfl)
theorem dX3_isName_83 : decode cX3_isName 83 = .ok (.invokevirtual 77, 3) := dk_182 0 77 (dk_at dksX3_isName_2 3 rfl rfl)
theorem dX3_isName_86 : decode cX3_isName 86 = .ok (.ifCond .eq 75, 3) := dk_153 0 75 (dk_at dksX3_isName_2 6 rfl rfl)
theorem dX3_isName_89 : decode cX3_isName 89 = .ok (.iconst 0, 1) := dk_3 (dk_at dksX3_isName_2 9 rfl rfl)
theorem dX3_isName_90 : decode cX3_isName 90 = .ok (.istore_n 2, 1) := dk_61 (dk_at dksX3_isName_2 10 rfl rfl)
theorem dX3_isName_91 : decode cX3_isName 91 = .ok (.goto 70, 3) := dk_167 0 70 (dk_at dksX3_isName_2 11 rfl rfl)
theorem dX3_isName_94 : decode cX3_isName 94 = .ok (.aload_n 1, 1) := dk_43 (dk_at dksX3_isName_2 14 rfl rfl)
theorem dX3_isName_95 : decode cX3_isName 95 = .ok (.ldc 95, 2) := dk_18 95 (dk_at dksX3_isName_2 15 rfl rfl)
theorem dX3_isName_97 : decode cX3_isName 97 = .ok (.invokevirtual 77, 3) := dk_182 0 77 (dk_at dksX3_isName_2 17 rfl rfl)
theorem dX3_isName_100 : decode cX3_isName 100 = .ok (.ifCond .eq 61, 3) := dk_153 0 61 (dk_at dksX3_isName_2 20 rfl rfl)
theorem dX3_isName_103 : decode cX3_isName 103 = .ok (.iconst 1, 1) := dk_4 (dk_at dksX3_isName_2 23 rfl rfl)
theorem dX3_isName_104 : decode cX3_isName 104 = .ok (.istore_n 2, 1) := dk_61 (dk_at dksX3_isName_3 0 rfl rfl)
theorem dX3_isName_105 : decode cX3_isName 105 = .ok (.goto 56, 3) := dk_167 0 56 (dk_at dksX3_isName_3 1 rfl rfl)
theorem dX3_isName_108 : decode cX3_isName 108 = .ok (.aload_n 1, 1) := dk_43 (dk_at dksX3_isName_3 4 rfl rfl)
theorem dX3_isName_109 : decode cX3_isName 109 = .ok (.ldc 97, 2) := dk_18 97 (dk_at dksX3_isName_3 5 rfl rfl)
theorem dX3_isName_111 : decode cX3_isName 111 = .ok (.invokevirtual 77, 3) := dk_182 0 77 (dk_at dksX3_isName_3 7 rfl rfl)
theorem dX3_isName_114 : decode cX3_isName 114 = .ok (.ifCond .eq 47, 3) := dk_153 0 47 (dk_at dksX3_isName_3 10 rfl rfl)
theorem dX3_isName_117 : decode cX3_isName 117 = .ok (.iconst 2, 1) := dk_5 (dk_at dksX3_isName_3 13 rfl rfl)
theorem dX3_isName_118 : decode cX3_isName 118 = .ok (.istore_n 2, 1) := dk_61 (dk_at dksX3_isName_3 14 rfl rfl)
theorem dX3_isName_119 : decode cX3_isName 119 = .ok (.goto 42, 3) := dk_167 0 42 (dk_at dksX3_isName_3 15 rfl rfl)
theorem dX3_isName_122 : decode cX3_isName 122 = .ok (.aload_n 1, 1) := dk_43 (dk_at dksX3_isName_3 18 rfl rfl)
theorem dX3_isName_123 : decode cX3_isName 123 = .ok (.ldc 99, 2) := dk_18 99 (dk_at dksX3_isName_3 19 rfl rfl)
theorem dX3_isName_125 : decode cX3_isName 125 = .ok (.invokevirtual 77, 3) := dk_182 0 77 (dk_at dksX3_isName_3 21 rfl rfl)
theorem dX3_isName_128 : decode cX3_isName 128 = .ok (.ifCond .eq 33, 3) := dk_153 0 33 (dk_at dksX3_isName_4 0 rfl rfl)
theorem dX3_isName_131 : decode cX3_isName 131 = .ok (.iconst 3, 1) := dk_6 (dk_at dksX3_isName_4 3 rfl rfl)
theorem dX3_isName_132 : decode cX3_isName 132 = .ok (.istore_n 2, 1) := dk_61 (dk_at dksX3_isName_4 4 rfl rfl)
theorem dX3_isName_133 : decode cX3_isName 133 = .ok (.goto 28, 3) := dk_167 0 28 (dk_at dksX3_isName_4 5 rfl rfl)
theorem dX3_isName_136 : decode cX3_isName 136 = .ok (.aload_n 1, 1) := dk_43 (dk_at dksX3_isName_4 8 rfl rfl)
theorem dX3_isName_137 : decode cX3_isName 137 = .ok (.ldc 101, 2) := dk_18 101 (dk_at dksX3_isName_4 9 rfl rfl)
theorem dX3_isName_139 : decode cX3_isName 139 = .ok (.invokevirtual 77, 3) := dk_182 0 77 (dk_at dksX3_isName_4 11 rfl rfl)
theorem dX3_isName_142 : decode cX3_isName 142 = .ok (.ifCond .eq 19, 3) := dk_153 0 19 (dk_at dksX3_isName_4 14 rfl rfl)
theorem dX3_isName_145 : decode cX3_isName 145 = .ok (.iconst 4, 1) := dk_7 (dk_at dksX3_isName_4 17 rfl rfl)
theorem dX3_isName_146 : decode cX3_isName 146 = .ok (.istore_n 2, 1) := dk_61 (dk_at dksX3_isName_4 18 rfl rfl)
theorem dX3_isName_147 : decode cX3_isName 147 = .ok (.goto 14, 3) := dk_167 0 14 (dk_at dksX3_isName_4 19 rfl rfl)
theorem dX3_isName_150 : decode cX3_isName 150 = .ok (.aload_n 1, 1) := dk_43 (dk_at dksX3_isName_4 22 rfl rfl)
theorem dX3_isName_151 : decode cX3_isName 151 = .ok (.ldc 103, 2) := dk_18 103 (dk_at dksX3_isName_5 0 rfl rfl)
theorem dX3_isName_153 : decode cX3_isName 153 = .ok (.invokevirtual 77, 3) := dk_182 0 77 (dk_at dksX3_isName_5 2 rfl rfl)
theorem dX3_isName_156 : decode cX3_isName 156 = .ok (.ifCond .eq 5, 3) := dk_153 0 5 (dk_at dksX3_isName_5 5 rfl rfl)
theorem dX3_isName_159 : decode cX3_isName 159 = .ok (.iconst 5, 1) := dk_8 (dk_at dksX3_isName_5 8 rfl rfl)
theorem dX3_isName_160 : decode cX3_isName 160 = .ok (.istore_n 2, 1) := dk_61 (dk_at dksX3_isName_5 9 rfl rfl)
theorem dX3_isName_161 : decode cX3_isName 161 = .ok (.iload_n 2, 1) := dk_28 (dk_at dksX3_isName_5 10 rfl rfl)
theorem dX3_isName_162 : decode cX3_isName 162 = .ok (.tableswitch 40 0 5 #[38, 38, 38, 38, 38, 38], 38) := by decide +kernel
theorem dX3_isName_200 : decode cX3_isName 200 = .ok (.iconst 0, 1) := dk_3 (dk_at dksX3_isName_7 0 rfl rfl)
theorem dX3_isName_201 : decode cX3_isName 201 = .ok (.ireturn, 1) := dk_172 (dk_at dksX3_isName_7 1 rfl rfl)
theorem dX3_isName_202 : decode cX3_isName 202 = .ok (.iconst 1, 1) := dk_4 (dk_at dksX3_isName_7 2 rfl rfl)
theorem dX3_isName_203 : decode cX3_isName 203 = .ok (.ireturn, 1) := dk_172 (dk_at dksX3_isName_7 3 rfl rfl)
abbrev cX3_wrong : ByteArray := prog_4_method_6_code
def yX3_wrong : MethodName := ⟨RX3, "wrong", "()LGuildCharter$Wrong;"⟩
def dkwX3_wrong_1 : List UInt8 := [176]
abbrev dktX3_wrong_1 : List UInt8 := dkwX3_wrong_1 ++ []
def dkwX3_wrong_0 : List UInt8 := [187, 0, 72, 89, 42, 180, 0, 46, 6, 160, 0, 7, 4, 167, 0, 4, 5, 42, 180, 0, 43, 183, 0, 74]
abbrev dktX3_wrong_0 : List UInt8 := dkwX3_wrong_0 ++ dktX3_wrong_1
theorem dksX3_wrong_0 : cX3_wrong.data.toList.drop 0 = dktX3_wrong_0 := by decide +kernel
theorem dksX3_wrong_1 : cX3_wrong.data.toList.drop 24 = dktX3_wrong_1 := dk_seg dksX3_wrong_0 24 rfl rfl
theorem dX3_wrong_0 : decode cX3_wrong 0 = .ok (.new 72, 3) := dk_187 0 72 (dk_at dksX3_wrong_0 0 rfl rfl)
theorem dX3_wrong_3 : decode cX3_wrong 3 = .ok (.dup, 1) := dk_89 (dk_at dksX3_wrong_0 3 rfl rfl)
theorem dX3_wrong_4 : decode cX3_wrong 4 = .ok (.aload_n 0, 1) := dk_42 (dk_at dksX3_wrong_0 4 rfl rfl)
theorem dX3_wrong_5 : decode cX3_wrong 5 = .ok (.getfield 46, 3) := dk_180 0 46 (dk_at dksX3_wrong_0 5 rfl rfl)
theorem dX3_wrong_8 : decode cX3_wrong 8 = .ok (.iconst 3, 1) := dk_6 (dk_at dksX3_wrong_0 8 rfl rfl)
theorem dX3_wrong_9 : decode cX3_wrong 9 = .ok (.if_icmp .ne 7, 3) := dk_160 0 7 (dk_at dksX3_wrong_0 9 rfl rfl)
theorem dX3_wrong_12 : decode cX3_wrong 12 = .ok (.iconst 1, 1) := dk_4 (dk_at dksX3_wrong_0 12 rfl rfl)
theorem dX3_wrong_13 : decode cX3_wrong 13 = .ok (.goto 4, 3) := dk_167 0 4 (dk_at dksX3_wrong_0 13 rfl rfl)
theorem dX3_wrong_16 : decode cX3_wrong 16 = .ok (.iconst 2, 1) := dk_5 (dk_at dksX3_wrong_0 16 rfl rfl)
theorem dX3_wrong_17 : decode cX3_wrong 17 = .ok (.aload_n 0, 1) := dk_42 (dk_at dksX3_wrong_0 17 rfl rfl)
theorem dX3_wrong_18 : decode cX3_wrong 18 = .ok (.getfield 43, 3) := dk_180 0 43 (dk_at dksX3_wrong_0 18 rfl rfl)
theorem dX3_wrong_21 : decode cX3_wrong 21 = .ok (.invokespecial 74, 3) := dk_183 0 74 (dk_at dksX3_wrong_0 21 rfl rfl)
theorem dX3_wrong_24 : decode cX3_wrong 24 = .ok (.areturn, 1) := dk_176 (dk_at dksX3_wrong_1 0 rfl rfl)
abbrev cX3_three : ByteArray := prog_4_method_12_code
def yX3_three : MethodName := ⟨RX3, "three", "([II)V"⟩
def dkwX3_three_1 : List UInt8 := [132, 3, 1, 167, 255, 231, 177]
abbrev dktX3_three_1 : List UInt8 := dkwX3_three_1 ++ []
def dkwX3_three_0 : List UInt8 := [3, 62, 29, 6, 162, 0, 26, 43, 6, 28, 104, 29, 96, 42, 3, 16, 99, 182, 0, 151, 16, 50, 100, 79]
abbrev dktX3_three_0 : List UInt8 := dkwX3_three_0 ++ dktX3_three_1
theorem dksX3_three_0 : cX3_three.data.toList.drop 0 = dktX3_three_0 := by decide +kernel
theorem dksX3_three_1 : cX3_three.data.toList.drop 24 = dktX3_three_1 := dk_seg dksX3_three_0 24 rfl rfl
theorem dX3_three_0 : decode cX3_three 0 = .ok (.iconst 0, 1) := dk_3 (dk_at dksX3_three_0 0 rfl rfl)
theorem dX3_three_1 : decode cX3_three 1 = .ok (.istore_n 3, 1) := dk_62 (dk_at dksX3_three_0 1 rfl rfl)
theorem dX3_three_2 : decode cX3_three 2 = .ok (.iload_n 3, 1) := dk_29 (dk_at dksX3_three_0 2 rfl rfl)
theorem dX3_three_3 : decode cX3_three 3 = .ok (.iconst 3, 1) := dk_6 (dk_at dksX3_three_0 3 rfl rfl)
theorem dX3_three_4 : decode cX3_three 4 = .ok (.if_icmp .ge 26, 3) := dk_162 0 26 (dk_at dksX3_three_0 4 rfl rfl)
theorem dX3_three_7 : decode cX3_three 7 = .ok (.aload_n 1, 1) := dk_43 (dk_at dksX3_three_0 7 rfl rfl)
theorem dX3_three_8 : decode cX3_three 8 = .ok (.iconst 3, 1) := dk_6 (dk_at dksX3_three_0 8 rfl rfl)
theorem dX3_three_9 : decode cX3_three 9 = .ok (.iload_n 2, 1) := dk_28 (dk_at dksX3_three_0 9 rfl rfl)
theorem dX3_three_10 : decode cX3_three 10 = .ok (.imul, 1) := dk_104 (dk_at dksX3_three_0 10 rfl rfl)
theorem dX3_three_11 : decode cX3_three 11 = .ok (.iload_n 3, 1) := dk_29 (dk_at dksX3_three_0 11 rfl rfl)
theorem dX3_three_12 : decode cX3_three 12 = .ok (.iadd, 1) := dk_96 (dk_at dksX3_three_0 12 rfl rfl)
theorem dX3_three_13 : decode cX3_three 13 = .ok (.aload_n 0, 1) := dk_42 (dk_at dksX3_three_0 13 rfl rfl)
theorem dX3_three_14 : decode cX3_three 14 = .ok (.iconst 0, 1) := dk_3 (dk_at dksX3_three_0 14 rfl rfl)
theorem dX3_three_15 : decode cX3_three 15 = .ok (.bipush 99, 2) := dk_16 99 (dk_at dksX3_three_0 15 rfl rfl)
theorem dX3_three_17 : decode cX3_three 17 = .ok (.invokevirtual 151, 3) := dk_182 0 151 (dk_at dksX3_three_0 17 rfl rfl)
theorem dX3_three_20 : decode cX3_three 20 = .ok (.bipush 50, 2) := dk_16 50 (dk_at dksX3_three_0 20 rfl rfl)
theorem dX3_three_22 : decode cX3_three 22 = .ok (.isub, 1) := dk_100 (dk_at dksX3_three_0 22 rfl rfl)
theorem dX3_three_23 : decode cX3_three 23 = .ok (.iastore, 1) := dk_79 (dk_at dksX3_three_0 23 rfl rfl)
theorem dX3_three_24 : decode cX3_three 24 = .ok (.iinc 3 1, 3) := dk_132 3 1 (dk_at dksX3_three_1 0 rfl rfl)
theorem dX3_three_27 : decode cX3_three 27 = .ok (.goto (-25), 3) := dk_167 255 231 (dk_at dksX3_three_1 3 rfl rfl)
theorem dX3_three_30 : decode cX3_three 30 = .ok (.return_, 1) := dk_177 (dk_at dksX3_three_1 6 rfl rfl)
abbrev cX3_number : ByteArray := prog_4_method_8_code
def yX3_number : MethodName := ⟨RX3, "number", "(II)I"⟩
def dkwX3_number_2 : List UInt8 := [62, 42, 182, 0, 87, 29, 172]
abbrev dktX3_number_2 : List UInt8 := dkwX3_number_2 ++ []
def dkwX3_number_1 : List UInt8 := [180, 0, 69, 28, 164, 0, 16, 187, 0, 72, 89, 7, 42, 180, 0, 43, 183, 0, 74, 191, 42, 180, 0, 69]
abbrev dktX3_number_1 : List UInt8 := dkwX3_number_1 ++ dktX3_number_2
def dkwX3_number_0 : List UInt8 := [42, 180, 0, 46, 5, 159, 0, 8, 42, 182, 0, 83, 191, 42, 180, 0, 69, 27, 161, 0, 11, 42]
abbrev dktX3_number_0 : List UInt8 := dkwX3_number_0 ++ dktX3_number_1
theorem dksX3_number_0 : cX3_number.data.toList.drop 0 = dktX3_number_0 := by decide +kernel
theorem dksX3_number_1 : cX3_number.data.toList.drop 22 = dktX3_number_1 := dk_seg dksX3_number_0 22 rfl rfl
theorem dksX3_number_2 : cX3_number.data.toList.drop 46 = dktX3_number_2 := dk_seg dksX3_number_1 24 rfl rfl
theorem dX3_number_0 : decode cX3_number 0 = .ok (.aload_n 0, 1) := dk_42 (dk_at dksX3_number_0 0 rfl rfl)
theorem dX3_number_1 : decode cX3_number 1 = .ok (.getfield 46, 3) := dk_180 0 46 (dk_at dksX3_number_0 1 rfl rfl)
theorem dX3_number_4 : decode cX3_number 4 = .ok (.iconst 2, 1) := dk_5 (dk_at dksX3_number_0 4 rfl rfl)
theorem dX3_number_5 : decode cX3_number 5 = .ok (.if_icmp .eq 8, 3) := dk_159 0 8 (dk_at dksX3_number_0 5 rfl rfl)
theorem dX3_number_8 : decode cX3_number 8 = .ok (.aload_n 0, 1) := dk_42 (dk_at dksX3_number_0 8 rfl rfl)
theorem dX3_number_9 : decode cX3_number 9 = .ok (.invokevirtual 83, 3) := dk_182 0 83 (dk_at dksX3_number_0 9 rfl rfl)
theorem dX3_number_12 : decode cX3_number 12 = .ok (.athrow, 1) := dk_191 (dk_at dksX3_number_0 12 rfl rfl)
theorem dX3_number_13 : decode cX3_number 13 = .ok (.aload_n 0, 1) := dk_42 (dk_at dksX3_number_0 13 rfl rfl)
theorem dX3_number_14 : decode cX3_number 14 = .ok (.getfield 69, 3) := dk_180 0 69 (dk_at dksX3_number_0 14 rfl rfl)
theorem dX3_number_17 : decode cX3_number 17 = .ok (.iload_n 1, 1) := dk_27 (dk_at dksX3_number_0 17 rfl rfl)
theorem dX3_number_18 : decode cX3_number 18 = .ok (.if_icmp .lt 11, 3) := dk_161 0 11 (dk_at dksX3_number_0 18 rfl rfl)
theorem dX3_number_21 : decode cX3_number 21 = .ok (.aload_n 0, 1) := dk_42 (dk_at dksX3_number_0 21 rfl rfl)
theorem dX3_number_22 : decode cX3_number 22 = .ok (.getfield 69, 3) := dk_180 0 69 (dk_at dksX3_number_1 0 rfl rfl)
theorem dX3_number_25 : decode cX3_number 25 = .ok (.iload_n 2, 1) := dk_28 (dk_at dksX3_number_1 3 rfl rfl)
theorem dX3_number_26 : decode cX3_number 26 = .ok (.if_icmp .le 16, 3) := dk_164 0 16 (dk_at dksX3_number_1 4 rfl rfl)
theorem dX3_number_29 : decode cX3_number 29 = .ok (.new 72, 3) := dk_187 0 72 (dk_at dksX3_number_1 7 rfl rfl)
theorem dX3_number_32 : decode cX3_number 32 = .ok (.dup, 1) := dk_89 (dk_at dksX3_number_1 10 rfl rfl)
theorem dX3_number_33 : decode cX3_number 33 = .ok (.iconst 4, 1) := dk_7 (dk_at dksX3_number_1 11 rfl rfl)
theorem dX3_number_34 : decode cX3_number 34 = .ok (.aload_n 0, 1) := dk_42 (dk_at dksX3_number_1 12 rfl rfl)
theorem dX3_number_35 : decode cX3_number 35 = .ok (.getfield 43, 3) := dk_180 0 43 (dk_at dksX3_number_1 13 rfl rfl)
theorem dX3_number_38 : decode cX3_number 38 = .ok (.invokespecial 74, 3) := dk_183 0 74 (dk_at dksX3_number_1 16 rfl rfl)
theorem dX3_number_41 : decode cX3_number 41 = .ok (.athrow, 1) := dk_191 (dk_at dksX3_number_1 19 rfl rfl)
theorem dX3_number_42 : decode cX3_number 42 = .ok (.aload_n 0, 1) := dk_42 (dk_at dksX3_number_1 20 rfl rfl)
theorem dX3_number_43 : decode cX3_number 43 = .ok (.getfield 69, 3) := dk_180 0 69 (dk_at dksX3_number_1 21 rfl rfl)
theorem dX3_number_46 : decode cX3_number 46 = .ok (.istore_n 3, 1) := dk_62 (dk_at dksX3_number_2 0 rfl rfl)
theorem dX3_number_47 : decode cX3_number 47 = .ok (.aload_n 0, 1) := dk_42 (dk_at dksX3_number_2 1 rfl rfl)
theorem dX3_number_48 : decode cX3_number 48 = .ok (.invokevirtual 87, 3) := dk_182 0 87 (dk_at dksX3_number_2 2 rfl rfl)
theorem dX3_number_51 : decode cX3_number 51 = .ok (.iload_n 3, 1) := dk_29 (dk_at dksX3_number_2 5 rfl rfl)
theorem dX3_number_52 : decode cX3_number 52 = .ok (.ireturn, 1) := dk_172 (dk_at dksX3_number_2 6 rfl rfl)
abbrev cX3_pair : ByteArray := prog_4_method_15_code
def yX3_pair : MethodName := ⟨RX3, "pair", "()V"⟩
def dkwX3_pair_3 : List UInt8 := [4, 84, 42, 180, 0, 24, 89, 180, 0, 129, 4, 96, 181, 0, 129, 177]
abbrev dktX3_pair_3 : List UInt8 := dkwX3_pair_3 ++ []
def dkwX3_pair_2 : List UInt8 := [42, 182, 0, 87, 42, 42, 180, 0, 24, 180, 0, 175, 28, 182, 0, 161, 42, 180, 0, 24, 180, 0, 171, 28]
abbrev dktX3_pair_2 : List UInt8 := dkwX3_pair_2 ++ dktX3_pair_3
def dkwX3_pair_1 : List UInt8 := [180, 0, 24, 180, 0, 171, 28, 51, 153, 0, 16, 187, 0, 72, 89, 6, 42, 180, 0, 43, 183, 0, 74, 191]
abbrev dktX3_pair_1 : List UInt8 := dkwX3_pair_1 ++ dktX3_pair_2
def dkwX3_pair_0 : List UInt8 := [42, 182, 0, 87, 42, 182, 0, 168, 60, 42, 182, 0, 87, 16, 8, 27, 104, 42, 182, 0, 168, 96, 61, 42]
abbrev dktX3_pair_0 : List UInt8 := dkwX3_pair_0 ++ dktX3_pair_1
theorem dksX3_pair_0 : cX3_pair.data.toList.drop 0 = dktX3_pair_0 := by decide +kernel
theorem dksX3_pair_1 : cX3_pair.data.toList.drop 24 = dktX3_pair_1 := dk_seg dksX3_pair_0 24 rfl rfl
theorem dksX3_pair_2 : cX3_pair.data.toList.drop 48 = dktX3_pair_2 := dk_seg dksX3_pair_1 24 rfl rfl
theorem dksX3_pair_3 : cX3_pair.data.toList.drop 72 = dktX3_pair_3 := dk_seg dksX3_pair_2 24 rfl rfl
theorem dX3_pair_0 : decode cX3_pair 0 = .ok (.aload_n 0, 1) := dk_42 (dk_at dksX3_pair_0 0 rfl rfl)
theorem dX3_pair_1 : decode cX3_pair 1 = .ok (.invokevirtual 87, 3) := dk_182 0 87 (dk_at dksX3_pair_0 1 rfl rfl)
theorem dX3_pair_4 : decode cX3_pair 4 = .ok (.aload_n 0, 1) := dk_42 (dk_at dksX3_pair_0 4 rfl rfl)
theorem dX3_pair_5 : decode cX3_pair 5 = .ok (.invokevirtual 168, 3) := dk_182 0 168 (dk_at dksX3_pair_0 5 rfl rfl)
theorem dX3_pair_8 : decode cX3_pair 8 = .ok (.istore_n 1, 1) := dk_60 (dk_at dksX3_pair_0 8 rfl rfl)
theorem dX3_pair_9 : decode cX3_pair 9 = .ok (.aload_n 0, 1) := dk_42 (dk_at dksX3_pair_0 9 rfl rfl)
theorem dX3_pair_10 : decode cX3_pair 10 = .ok (.invokevirtual 87, 3) := dk_182 0 87 (dk_at dksX3_pair_0 10 rfl rfl)
theorem dX3_pair_13 : decode cX3_pair 13 = .ok (.bipush 8, 2) := dk_16 8 (dk_at dksX3_pair_0 13 rfl rfl)
theorem dX3_pair_15 : decode cX3_pair 15 = .ok (.iload_n 1, 1) := dk_27 (dk_at dksX3_pair_0 15 rfl rfl)
theorem dX3_pair_16 : decode cX3_pair 16 = .ok (.imul, 1) := dk_104 (dk_at dksX3_pair_0 16 rfl rfl)
theorem dX3_pair_17 : decode cX3_pair 17 = .ok (.aload_n 0, 1) := dk_42 (dk_at dksX3_pair_0 17 rfl rfl)
theorem dX3_pair_18 : decode cX3_pair 18 = .ok (.invokevirtual 168, 3) := dk_182 0 168 (dk_at dksX3_pair_0 18 rfl rfl)
theorem dX3_pair_21 : decode cX3_pair 21 = .ok (.iadd, 1) := dk_96 (dk_at dksX3_pair_0 21 rfl rfl)
theorem dX3_pair_22 : decode cX3_pair 22 = .ok (.istore_n 2, 1) := dk_61 (dk_at dksX3_pair_0 22 rfl rfl)
theorem dX3_pair_23 : decode cX3_pair 23 = .ok (.aload_n 0, 1) := dk_42 (dk_at dksX3_pair_0 23 rfl rfl)
theorem dX3_pair_24 : decode cX3_pair 24 = .ok (.getfield 24, 3) := dk_180 0 24 (dk_at dksX3_pair_1 0 rfl rfl)
theorem dX3_pair_27 : decode cX3_pair 27 = .ok (.getfield 171, 3) := dk_180 0 171 (dk_at dksX3_pair_1 3 rfl rfl)
theorem dX3_pair_30 : decode cX3_pair 30 = .ok (.iload_n 2, 1) := dk_28 (dk_at dksX3_pair_1 6 rfl rfl)
theorem dX3_pair_31 : decode cX3_pair 31 = .ok (.baload, 1) := dk_51 (dk_at dksX3_pair_1 7 rfl rfl)
theorem dX3_pair_32 : decode cX3_pair 32 = .ok (.ifCond .eq 16, 3) := dk_153 0 16 (dk_at dksX3_pair_1 8 rfl rfl)
theorem dX3_pair_35 : decode cX3_pair 35 = .ok (.new 72, 3) := dk_187 0 72 (dk_at dksX3_pair_1 11 rfl rfl)
theorem dX3_pair_38 : decode cX3_pair 38 = .ok (.dup, 1) := dk_89 (dk_at dksX3_pair_1 14 rfl rfl)
theorem dX3_pair_39 : decode cX3_pair 39 = .ok (.iconst 3, 1) := dk_6 (dk_at dksX3_pair_1 15 rfl rfl)
theorem dX3_pair_40 : decode cX3_pair 40 = .ok (.aload_n 0, 1) := dk_42 (dk_at dksX3_pair_1 16 rfl rfl)
theorem dX3_pair_41 : decode cX3_pair 41 = .ok (.getfield 43, 3) := dk_180 0 43 (dk_at dksX3_pair_1 17 rfl rfl)
theorem dX3_pair_44 : decode cX3_pair 44 = .ok (.invokespecial 74, 3) := dk_183 0 74 (dk_at dksX3_pair_1 20 rfl rfl)
theorem dX3_pair_47 : decode cX3_pair 47 = .ok (.athrow, 1) := dk_191 (dk_at dksX3_pair_1 23 rfl rfl)
theorem dX3_pair_48 : decode cX3_pair 48 = .ok (.aload_n 0, 1) := dk_42 (dk_at dksX3_pair_2 0 rfl rfl)
theorem dX3_pair_49 : decode cX3_pair 49 = .ok (.invokevirtual 87, 3) := dk_182 0 87 (dk_at dksX3_pair_2 1 rfl rfl)
theorem dX3_pair_52 : decode cX3_pair 52 = .ok (.aload_n 0, 1) := dk_42 (dk_at dksX3_pair_2 4 rfl rfl)
theorem dX3_pair_53 : decode cX3_pair 53 = .ok (.aload_n 0, 1) := dk_42 (dk_at dksX3_pair_2 5 rfl rfl)
theorem dX3_pair_54 : decode cX3_pair 54 = .ok (.getfield 24, 3) := dk_180 0 24 (dk_at dksX3_pair_2 6 rfl rfl)
theorem dX3_pair_57 : decode cX3_pair 57 = .ok (.getfield 175, 3) := dk_180 0 175 (dk_at dksX3_pair_2 9 rfl rfl)
theorem dX3_pair_60 : decode cX3_pair 60 = .ok (.iload_n 2, 1) := dk_28 (dk_at dksX3_pair_2 12 rfl rfl)
theorem dX3_pair_61 : decode cX3_pair 61 = .ok (.invokevirtual 161, 3) := dk_182 0 161 (dk_at dksX3_pair_2 13 rfl rfl)
theorem dX3_pair_64 : decode cX3_pair 64 = .ok (.aload_n 0, 1) := dk_42 (dk_at dksX3_pair_2 16 rfl rfl)
theorem dX3_pair_65 : decode cX3_pair 65 = .ok (.getfield 24, 3) := dk_180 0 24 (dk_at dksX3_pair_2 17 rfl rfl)
theorem dX3_pair_68 : decode cX3_pair 68 = .ok (.getfield 171, 3) := dk_180 0 171 (dk_at dksX3_pair_2 20 rfl rfl)
theorem dX3_pair_71 : decode cX3_pair 71 = .ok (.iload_n 2, 1) := dk_28 (dk_at dksX3_pair_2 23 rfl rfl)
theorem dX3_pair_72 : decode cX3_pair 72 = .ok (.iconst 1, 1) := dk_4 (dk_at dksX3_pair_3 0 rfl rfl)
theorem dX3_pair_73 : decode cX3_pair 73 = .ok (.bastore, 1) := dk_84 (dk_at dksX3_pair_3 1 rfl rfl)
theorem dX3_pair_74 : decode cX3_pair 74 = .ok (.aload_n 0, 1) := dk_42 (dk_at dksX3_pair_3 2 rfl rfl)
theorem dX3_pair_75 : decode cX3_pair 75 = .ok (.getfield 24, 3) := dk_180 0 24 (dk_at dksX3_pair_3 3 rfl rfl)
theorem dX3_pair_78 : decode cX3_pair 78 = .ok (.dup, 1) := dk_89 (dk_at dksX3_pair_3 6 rfl rfl)
theorem dX3_pair_79 : decode cX3_pair 79 = .ok (.getfield 129, 3) := dk_180 0 129 (dk_at dksX3_pair_3 7 rfl rfl)
theorem dX3_pair_82 : decode cX3_pair 82 = .ok (.iconst 1, 1) := dk_4 (dk_at dksX3_pair_3 10 rfl rfl)
theorem dX3_pair_83 : decode cX3_pair 83 = .ok (.iadd, 1) := dk_96 (dk_at dksX3_pair_3 11 rfl rfl)
theorem dX3_pair_84 : decode cX3_pair 84 = .ok (.putfield 129, 3) := dk_181 0 129 (dk_at dksX3_pair_3 12 rfl rfl)
theorem dX3_pair_87 : decode cX3_pair 87 = .ok (.return_, 1) := dk_177 (dk_at dksX3_pair_3 15 rfl rfl)
abbrev cX3_old : ByteArray := prog_4_method_14_code
def yX3_old : MethodName := ⟨RX3, "old", "()I"⟩
def dkwX3_old_1 : List UInt8 := [27, 156, 0, 16, 187, 0, 72, 89, 8, 42, 180, 0, 43, 183, 0, 74, 191, 27, 172]
abbrev dktX3_old_1 : List UInt8 := dkwX3_old_1 ++ []
def dkwX3_old_0 : List UInt8 := [42, 182, 0, 105, 154, 0, 8, 42, 182, 0, 83, 191, 42, 180, 0, 24, 42, 180, 0, 17, 182, 0, 109, 60]
abbrev dktX3_old_0 : List UInt8 := dkwX3_old_0 ++ dktX3_old_1
theorem dksX3_old_0 : cX3_old.data.toList.drop 0 = dktX3_old_0 := by decide +kernel
theorem dksX3_old_1 : cX3_old.data.toList.drop 24 = dktX3_old_1 := dk_seg dksX3_old_0 24 rfl rfl
theorem dX3_old_0 : decode cX3_old 0 = .ok (.aload_n 0, 1) := dk_42 (dk_at dksX3_old_0 0 rfl rfl)
theorem dX3_old_1 : decode cX3_old 1 = .ok (.invokevirtual 105, 3) := dk_182 0 105 (dk_at dksX3_old_0 1 rfl rfl)
theorem dX3_old_4 : decode cX3_old 4 = .ok (.ifCond .ne 8, 3) := dk_154 0 8 (dk_at dksX3_old_0 4 rfl rfl)
theorem dX3_old_7 : decode cX3_old 7 = .ok (.aload_n 0, 1) := dk_42 (dk_at dksX3_old_0 7 rfl rfl)
theorem dX3_old_8 : decode cX3_old 8 = .ok (.invokevirtual 83, 3) := dk_182 0 83 (dk_at dksX3_old_0 8 rfl rfl)
theorem dX3_old_11 : decode cX3_old 11 = .ok (.athrow, 1) := dk_191 (dk_at dksX3_old_0 11 rfl rfl)
theorem dX3_old_12 : decode cX3_old 12 = .ok (.aload_n 0, 1) := dk_42 (dk_at dksX3_old_0 12 rfl rfl)
theorem dX3_old_13 : decode cX3_old 13 = .ok (.getfield 24, 3) := dk_180 0 24 (dk_at dksX3_old_0 13 rfl rfl)
theorem dX3_old_16 : decode cX3_old 16 = .ok (.aload_n 0, 1) := dk_42 (dk_at dksX3_old_0 16 rfl rfl)
theorem dX3_old_17 : decode cX3_old 17 = .ok (.getfield 17, 3) := dk_180 0 17 (dk_at dksX3_old_0 17 rfl rfl)
theorem dX3_old_20 : decode cX3_old 20 = .ok (.invokevirtual 109, 3) := dk_182 0 109 (dk_at dksX3_old_0 20 rfl rfl)
theorem dX3_old_23 : decode cX3_old 23 = .ok (.istore_n 1, 1) := dk_60 (dk_at dksX3_old_0 23 rfl rfl)
theorem dX3_old_24 : decode cX3_old 24 = .ok (.iload_n 1, 1) := dk_27 (dk_at dksX3_old_1 0 rfl rfl)
theorem dX3_old_25 : decode cX3_old 25 = .ok (.ifCond .ge 16, 3) := dk_156 0 16 (dk_at dksX3_old_1 1 rfl rfl)
theorem dX3_old_28 : decode cX3_old 28 = .ok (.new 72, 3) := dk_187 0 72 (dk_at dksX3_old_1 4 rfl rfl)
theorem dX3_old_31 : decode cX3_old 31 = .ok (.dup, 1) := dk_89 (dk_at dksX3_old_1 7 rfl rfl)
theorem dX3_old_32 : decode cX3_old 32 = .ok (.iconst 5, 1) := dk_8 (dk_at dksX3_old_1 8 rfl rfl)
theorem dX3_old_33 : decode cX3_old 33 = .ok (.aload_n 0, 1) := dk_42 (dk_at dksX3_old_1 9 rfl rfl)
theorem dX3_old_34 : decode cX3_old 34 = .ok (.getfield 43, 3) := dk_180 0 43 (dk_at dksX3_old_1 10 rfl rfl)
theorem dX3_old_37 : decode cX3_old 37 = .ok (.invokespecial 74, 3) := dk_183 0 74 (dk_at dksX3_old_1 13 rfl rfl)
theorem dX3_old_40 : decode cX3_old 40 = .ok (.athrow, 1) := dk_191 (dk_at dksX3_old_1 16 rfl rfl)
theorem dX3_old_41 : decode cX3_old 41 = .ok (.iload_n 1, 1) := dk_27 (dk_at dksX3_old_1 17 rfl rfl)
theorem dX3_old_42 : decode cX3_old 42 = .ok (.ireturn, 1) := dk_172 (dk_at dksX3_old_1 18 rfl rfl)
abbrev cX3_rule : ByteArray := prog_4_method_16_code
def yX3_rule : MethodName := ⟨RX3, "rule", "()V"⟩
def dkwX3_rule_3 : List UInt8 := [87, 167, 255, 231, 42, 180, 0, 24, 180, 0, 134, 43, 182, 0, 165, 87, 177]
abbrev dktX3_rule_3 : List UInt8 := dkwX3_rule_3 ++ []
def dkwX3_rule_2 : List UInt8 := [42, 18, 99, 182, 0, 114, 153, 0, 22, 42, 182, 0, 87, 43, 180, 0, 183, 42, 182, 0, 186, 182, 0, 165]
abbrev dktX3_rule_2 : List UInt8 := dkwX3_rule_2 ++ dktX3_rule_3
def dkwX3_rule_1 : List UInt8 := [159, 0, 8, 42, 182, 0, 83, 191, 42, 182, 0, 87, 43, 180, 0, 183, 42, 182, 0, 186, 182, 0, 165, 87]
abbrev dktX3_rule_1 : List UInt8 := dkwX3_rule_1 ++ dktX3_rule_2
def dkwX3_rule_0 : List UInt8 := [42, 182, 0, 87, 187, 0, 178, 89, 42, 182, 0, 154, 183, 0, 180, 76, 42, 180, 0, 46, 16, 61]
abbrev dktX3_rule_0 : List UInt8 := dkwX3_rule_0 ++ dktX3_rule_1
theorem dksX3_rule_0 : cX3_rule.data.toList.drop 0 = dktX3_rule_0 := by decide +kernel
theorem dksX3_rule_1 : cX3_rule.data.toList.drop 22 = dktX3_rule_1 := dk_seg dksX3_rule_0 22 rfl rfl
theorem dksX3_rule_2 : cX3_rule.data.toList.drop 46 = dktX3_rule_2 := dk_seg dksX3_rule_1 24 rfl rfl
theorem dksX3_rule_3 : cX3_rule.data.toList.drop 70 = dktX3_rule_3 := dk_seg dksX3_rule_2 24 rfl rfl
theorem dX3_rule_0 : decode cX3_rule 0 = .ok (.aload_n 0, 1) := dk_42 (dk_at dksX3_rule_0 0 rfl rfl)
theorem dX3_rule_1 : decode cX3_rule 1 = .ok (.invokevirtual 87, 3) := dk_182 0 87 (dk_at dksX3_rule_0 1 rfl rfl)
theorem dX3_rule_4 : decode cX3_rule 4 = .ok (.new 178, 3) := dk_187 0 178 (dk_at dksX3_rule_0 4 rfl rfl)
theorem dX3_rule_7 : decode cX3_rule 7 = .ok (.dup, 1) := dk_89 (dk_at dksX3_rule_0 7 rfl rfl)
theorem dX3_rule_8 : decode cX3_rule 8 = .ok (.aload_n 0, 1) := dk_42 (dk_at dksX3_rule_0 8 rfl rfl)
theorem dX3_rule_9 : decode cX3_rule 9 = .ok (.invokevirtual 154, 3) := dk_182 0 154 (dk_at dksX3_rule_0 9 rfl rfl)
theorem dX3_rule_12 : decode cX3_rule 12 = .ok (.invokespecial 180, 3) := dk_183 0 180 (dk_at dksX3_rule_0 12 rfl rfl)
theorem dX3_rule_15 : decode cX3_rule 15 = .ok (.astore_n 1, 1) := dk_76 (dk_at dksX3_rule_0 15 rfl rfl)
theorem dX3_rule_16 : decode cX3_rule 16 = .ok (.aload_n 0, 1) := dk_42 (dk_at dksX3_rule_0 16 rfl rfl)
theorem dX3_rule_17 : decode cX3_rule 17 = .ok (.getfield 46, 3) := dk_180 0 46 (dk_at dksX3_rule_0 17 rfl rfl)
theorem dX3_rule_20 : decode cX3_rule 20 = .ok (.bipush 61, 2) := dk_16 61 (dk_at dksX3_rule_0 20 rfl rfl)
theorem dX3_rule_22 : decode cX3_rule 22 = .ok (.if_icmp .eq 8, 3) := dk_159 0 8 (dk_at dksX3_rule_1 0 rfl rfl)
theorem dX3_rule_25 : decode cX3_rule 25 = .ok (.aload_n 0, 1) := dk_42 (dk_at dksX3_rule_1 3 rfl rfl)
theorem dX3_rule_26 : decode cX3_rule 26 = .ok (.invokevirtual 83, 3) := dk_182 0 83 (dk_at dksX3_rule_1 4 rfl rfl)
theorem dX3_rule_29 : decode cX3_rule 29 = .ok (.athrow, 1) := dk_191 (dk_at dksX3_rule_1 7 rfl rfl)
theorem dX3_rule_30 : decode cX3_rule 30 = .ok (.aload_n 0, 1) := dk_42 (dk_at dksX3_rule_1 8 rfl rfl)
theorem dX3_rule_31 : decode cX3_rule 31 = .ok (.invokevirtual 87, 3) := dk_182 0 87 (dk_at dksX3_rule_1 9 rfl rfl)
theorem dX3_rule_34 : decode cX3_rule 34 = .ok (.aload_n 1, 1) := dk_43 (dk_at dksX3_rule_1 12 rfl rfl)
theorem dX3_rule_35 : decode cX3_rule 35 = .ok (.getfield 183, 3) := dk_180 0 183 (dk_at dksX3_rule_1 13 rfl rfl)
theorem dX3_rule_38 : decode cX3_rule 38 = .ok (.aload_n 0, 1) := dk_42 (dk_at dksX3_rule_1 16 rfl rfl)
theorem dX3_rule_39 : decode cX3_rule 39 = .ok (.invokevirtual 186, 3) := dk_182 0 186 (dk_at dksX3_rule_1 17 rfl rfl)
theorem dX3_rule_42 : decode cX3_rule 42 = .ok (.invokevirtual 165, 3) := dk_182 0 165 (dk_at dksX3_rule_1 20 rfl rfl)
theorem dX3_rule_45 : decode cX3_rule 45 = .ok (.pop, 1) := dk_87 (dk_at dksX3_rule_1 23 rfl rfl)
theorem dX3_rule_46 : decode cX3_rule 46 = .ok (.aload_n 0, 1) := dk_42 (dk_at dksX3_rule_2 0 rfl rfl)
theorem dX3_rule_47 : decode cX3_rule 47 = .ok (.ldc 99, 2) := dk_18 99 (dk_at dksX3_rule_2 1 rfl rfl)
theorem dX3_rule_49 : decode cX3_rule 49 = .ok (.invokevirtual 114, 3) := dk_182 0 114 (dk_at dksX3_rule_2 3 rfl rfl)
theorem dX3_rule_52 : decode cX3_rule 52 = .ok (.ifCond .eq 22, 3) := dk_153 0 22 (dk_at dksX3_rule_2 6 rfl rfl)
theorem dX3_rule_55 : decode cX3_rule 55 = .ok (.aload_n 0, 1) := dk_42 (dk_at dksX3_rule_2 9 rfl rfl)
theorem dX3_rule_56 : decode cX3_rule 56 = .ok (.invokevirtual 87, 3) := dk_182 0 87 (dk_at dksX3_rule_2 10 rfl rfl)
theorem dX3_rule_59 : decode cX3_rule 59 = .ok (.aload_n 1, 1) := dk_43 (dk_at dksX3_rule_2 13 rfl rfl)
theorem dX3_rule_60 : decode cX3_rule 60 = .ok (.getfield 183, 3) := dk_180 0 183 (dk_at dksX3_rule_2 14 rfl rfl)
theorem dX3_rule_63 : decode cX3_rule 63 = .ok (.aload_n 0, 1) := dk_42 (dk_at dksX3_rule_2 17 rfl rfl)
theorem dX3_rule_64 : decode cX3_rule 64 = .ok (.invokevirtual 186, 3) := dk_182 0 186 (dk_at dksX3_rule_2 18 rfl rfl)
theorem dX3_rule_67 : decode cX3_rule 67 = .ok (.invokevirtual 165, 3) := dk_182 0 165 (dk_at dksX3_rule_2 21 rfl rfl)
theorem dX3_rule_70 : decode cX3_rule 70 = .ok (.pop, 1) := dk_87 (dk_at dksX3_rule_3 0 rfl rfl)
theorem dX3_rule_71 : decode cX3_rule 71 = .ok (.goto (-25), 3) := dk_167 255 231 (dk_at dksX3_rule_3 1 rfl rfl)
theorem dX3_rule_74 : decode cX3_rule 74 = .ok (.aload_n 0, 1) := dk_42 (dk_at dksX3_rule_3 4 rfl rfl)
theorem dX3_rule_75 : decode cX3_rule 75 = .ok (.getfield 24, 3) := dk_180 0 24 (dk_at dksX3_rule_3 5 rfl rfl)
theorem dX3_rule_78 : decode cX3_rule 78 = .ok (.getfield 134, 3) := dk_180 0 134 (dk_at dksX3_rule_3 8 rfl rfl)
theorem dX3_rule_81 : decode cX3_rule 81 = .ok (.aload_n 1, 1) := dk_43 (dk_at dksX3_rule_3 11 rfl rfl)
theorem dX3_rule_82 : decode cX3_rule 82 = .ok (.invokevirtual 165, 3) := dk_182 0 165 (dk_at dksX3_rule_3 12 rfl rfl)
theorem dX3_rule_85 : decode cX3_rule 85 = .ok (.pop, 1) := dk_87 (dk_at dksX3_rule_3 15 rfl rfl)
theorem dX3_rule_86 : decode cX3_rule 86 = .ok (.return_, 1) := dk_177 (dk_at dksX3_rule_3 16 rfl rfl)
abbrev cX3_alt : ByteArray := prog_4_method_17_code
def yX3_alt : MethodName := ⟨RX3, "alt", "()LGuildCharter$Alt;"⟩
def dkwX3_alt_4 : List UInt8 := [182, 0, 165, 87, 42, 182, 0, 87, 167, 255, 201, 43, 176]
abbrev dktX3_alt_4 : List UInt8 := dkwX3_alt_4 ++ []
def dkwX3_alt_3 : List UInt8 := [180, 0, 198, 43, 180, 0, 195, 182, 0, 122, 42, 180, 0, 43, 79, 43, 180, 0, 195, 42, 180, 0, 17]
abbrev dktX3_alt_3 : List UInt8 := dkwX3_alt_3 ++ dktX3_alt_4
def dkwX3_alt_2 : List UInt8 := [182, 0, 105, 153, 0, 54, 43, 180, 0, 195, 182, 0, 122, 7, 160, 0, 8, 42, 182, 0, 83, 191, 43]
abbrev dktX3_alt_2 : List UInt8 := dkwX3_alt_2 ++ dktX3_alt_3
def dkwX3_alt_1 : List UInt8 := [42, 180, 0, 24, 89, 180, 0, 190, 4, 96, 181, 0, 190, 187, 0, 192, 89, 183, 0, 194, 76, 42]
abbrev dktX3_alt_1 : List UInt8 := dkwX3_alt_1 ++ dktX3_alt_2
def dkwX3_alt_0 : List UInt8 := [42, 182, 0, 105, 153, 0, 15, 42, 180, 0, 24, 180, 0, 190, 16, 24, 160, 0, 8, 42, 182, 0, 83, 191]
abbrev dktX3_alt_0 : List UInt8 := dkwX3_alt_0 ++ dktX3_alt_1
theorem dksX3_alt_0 : cX3_alt.data.toList.drop 0 = dktX3_alt_0 := by decide +kernel
theorem dksX3_alt_1 : cX3_alt.data.toList.drop 24 = dktX3_alt_1 := dk_seg dksX3_alt_0 24 rfl rfl
theorem dksX3_alt_2 : cX3_alt.data.toList.drop 46 = dktX3_alt_2 := dk_seg dksX3_alt_1 22 rfl rfl
theorem dksX3_alt_3 : cX3_alt.data.toList.drop 69 = dktX3_alt_3 := dk_seg dksX3_alt_2 23 rfl rfl
theorem dksX3_alt_4 : cX3_alt.data.toList.drop 92 = dktX3_alt_4 := dk_seg dksX3_alt_3 23 rfl rfl
theorem dX3_alt_0 : decode cX3_alt 0 = .ok (.aload_n 0, 1) := dk_42 (dk_at dksX3_alt_0 0 rfl rfl)
theorem dX3_alt_1 : decode cX3_alt 1 = .ok (.invokevirtual 105, 3) := dk_182 0 105 (dk_at dksX3_alt_0 1 rfl rfl)
theorem dX3_alt_4 : decode cX3_alt 4 = .ok (.ifCond .eq 15, 3) := dk_153 0 15 (dk_at dksX3_alt_0 4 rfl rfl)
theorem dX3_alt_7 : decode cX3_alt 7 = .ok (.aload_n 0, 1) := dk_42 (dk_at dksX3_alt_0 7 rfl rfl)
theorem dX3_alt_8 : decode cX3_alt 8 = .ok (.getfield 24, 3) := dk_180 0 24 (dk_at dksX3_alt_0 8 rfl rfl)
theorem dX3_alt_11 : decode cX3_alt 11 = .ok (.getfield 190, 3) := dk_180 0 190 (dk_at dksX3_alt_0 11 rfl rfl)
theorem dX3_alt_14 : decode cX3_alt 14 = .ok (.bipush 24, 2) := dk_16 24 (dk_at dksX3_alt_0 14 rfl rfl)
theorem dX3_alt_16 : decode cX3_alt 16 = .ok (.if_icmp .ne 8, 3) := dk_160 0 8 (dk_at dksX3_alt_0 16 rfl rfl)
theorem dX3_alt_19 : decode cX3_alt 19 = .ok (.aload_n 0, 1) := dk_42 (dk_at dksX3_alt_0 19 rfl rfl)
theorem dX3_alt_20 : decode cX3_alt 20 = .ok (.invokevirtual 83, 3) := dk_182 0 83 (dk_at dksX3_alt_0 20 rfl rfl)
theorem dX3_alt_23 : decode cX3_alt 23 = .ok (.athrow, 1) := dk_191 (dk_at dksX3_alt_0 23 rfl rfl)
theorem dX3_alt_24 : decode cX3_alt 24 = .ok (.aload_n 0, 1) := dk_42 (dk_at dksX3_alt_1 0 rfl rfl)
theorem dX3_alt_25 : decode cX3_alt 25 = .ok (.getfield 24, 3) := dk_180 0 24 (dk_at dksX3_alt_1 1 rfl rfl)
theorem dX3_alt_28 : decode cX3_alt 28 = .ok (.dup, 1) := dk_89 (dk_at dksX3_alt_1 4 rfl rfl)
theorem dX3_alt_29 : decode cX3_alt 29 = .ok (.getfield 190, 3) := dk_180 0 190 (dk_at dksX3_alt_1 5 rfl rfl)
theorem dX3_alt_32 : decode cX3_alt 32 = .ok (.iconst 1, 1) := dk_4 (dk_at dksX3_alt_1 8 rfl rfl)
theorem dX3_alt_33 : decode cX3_alt 33 = .ok (.iadd, 1) := dk_96 (dk_at dksX3_alt_1 9 rfl rfl)
theorem dX3_alt_34 : decode cX3_alt 34 = .ok (.putfield 190, 3) := dk_181 0 190 (dk_at dksX3_alt_1 10 rfl rfl)
theorem dX3_alt_37 : decode cX3_alt 37 = .ok (.new 192, 3) := dk_187 0 192 (dk_at dksX3_alt_1 13 rfl rfl)
theorem dX3_alt_40 : decode cX3_alt 40 = .ok (.dup, 1) := dk_89 (dk_at dksX3_alt_1 16 rfl rfl)
theorem dX3_alt_41 : decode cX3_alt 41 = .ok (.invokespecial 194, 3) := dk_183 0 194 (dk_at dksX3_alt_1 17 rfl rfl)
theorem dX3_alt_44 : decode cX3_alt 44 = .ok (.astore_n 1, 1) := dk_76 (dk_at dksX3_alt_1 20 rfl rfl)
theorem dX3_alt_45 : decode cX3_alt 45 = .ok (.aload_n 0, 1) := dk_42 (dk_at dksX3_alt_1 21 rfl rfl)
theorem dX3_alt_46 : decode cX3_alt 46 = .ok (.invokevirtual 105, 3) := dk_182 0 105 (dk_at dksX3_alt_2 0 rfl rfl)
theorem dX3_alt_49 : decode cX3_alt 49 = .ok (.ifCond .eq 54, 3) := dk_153 0 54 (dk_at dksX3_alt_2 3 rfl rfl)
theorem dX3_alt_52 : decode cX3_alt 52 = .ok (.aload_n 1, 1) := dk_43 (dk_at dksX3_alt_2 6 rfl rfl)
theorem dX3_alt_53 : decode cX3_alt 53 = .ok (.getfield 195, 3) := dk_180 0 195 (dk_at dksX3_alt_2 7 rfl rfl)
theorem dX3_alt_56 : decode cX3_alt 56 = .ok (.invokevirtual 122, 3) := dk_182 0 122 (dk_at dksX3_alt_2 10 rfl rfl)
theorem dX3_alt_59 : decode cX3_alt 59 = .ok (.iconst 4, 1) := dk_7 (dk_at dksX3_alt_2 13 rfl rfl)
theorem dX3_alt_60 : decode cX3_alt 60 = .ok (.if_icmp .ne 8, 3) := dk_160 0 8 (dk_at dksX3_alt_2 14 rfl rfl)
theorem dX3_alt_63 : decode cX3_alt 63 = .ok (.aload_n 0, 1) := dk_42 (dk_at dksX3_alt_2 17 rfl rfl)
theorem dX3_alt_64 : decode cX3_alt 64 = .ok (.invokevirtual 83, 3) := dk_182 0 83 (dk_at dksX3_alt_2 18 rfl rfl)
theorem dX3_alt_67 : decode cX3_alt 67 = .ok (.athrow, 1) := dk_191 (dk_at dksX3_alt_2 21 rfl rfl)
theorem dX3_alt_68 : decode cX3_alt 68 = .ok (.aload_n 1, 1) := dk_43 (dk_at dksX3_alt_2 22 rfl rfl)
theorem dX3_alt_69 : decode cX3_alt 69 = .ok (.getfield 198, 3) := dk_180 0 198 (dk_at dksX3_alt_3 0 rfl rfl)
theorem dX3_alt_72 : decode cX3_alt 72 = .ok (.aload_n 1, 1) := dk_43 (dk_at dksX3_alt_3 3 rfl rfl)
theorem dX3_alt_73 : decode cX3_alt 73 = .ok (.getfield 195, 3) := dk_180 0 195 (dk_at dksX3_alt_3 4 rfl rfl)
theorem dX3_alt_76 : decode cX3_alt 76 = .ok (.invokevirtual 122, 3) := dk_182 0 122 (dk_at dksX3_alt_3 7 rfl rfl)
theorem dX3_alt_79 : decode cX3_alt 79 = .ok (.aload_n 0, 1) := dk_42 (dk_at dksX3_alt_3 10 rfl rfl)
theorem dX3_alt_80 : decode cX3_alt 80 = .ok (.getfield 43, 3) := dk_180 0 43 (dk_at dksX3_alt_3 11 rfl rfl)
theorem dX3_alt_83 : decode cX3_alt 83 = .ok (.iastore, 1) := dk_79 (dk_at dksX3_alt_3 14 rfl rfl)
theorem dX3_alt_84 : decode cX3_alt 84 = .ok (.aload_n 1, 1) := dk_43 (dk_at dksX3_alt_3 15 rfl rfl)
theorem dX3_alt_85 : decode cX3_alt 85 = .ok (.getfield 195, 3) := dk_180 0 195 (dk_at dksX3_alt_3 16 rfl rfl)
theorem dX3_alt_88 : decode cX3_alt 88 = .ok (.aload_n 0, 1) := dk_42 (dk_at dksX3_alt_3 19 rfl rfl)
theorem dX3_alt_89 : decode cX3_alt 89 = .ok (.getfield 17, 3) := dk_180 0 17 (dk_at dksX3_alt_3 20 rfl rfl)
theorem dX3_alt_92 : decode cX3_alt 92 = .ok (.invokevirtual 165, 3) := dk_182 0 165 (dk_at dksX3_alt_4 0 rfl rfl)
theorem dX3_alt_95 : decode cX3_alt 95 = .ok (.pop, 1) := dk_87 (dk_at dksX3_alt_4 3 rfl rfl)
theorem dX3_alt_96 : decode cX3_alt 96 = .ok (.aload_n 0, 1) := dk_42 (dk_at dksX3_alt_4 4 rfl rfl)
theorem dX3_alt_97 : decode cX3_alt 97 = .ok (.invokevirtual 87, 3) := dk_182 0 87 (dk_at dksX3_alt_4 5 rfl rfl)
theorem dX3_alt_100 : decode cX3_alt 100 = .ok (.goto (-55), 3) := dk_167 255 201 (dk_at dksX3_alt_4 8 rfl rfl)
theorem dX3_alt_103 : decode cX3_alt 103 = .ok (.aload_n 1, 1) := dk_43 (dk_at dksX3_alt_4 11 rfl rfl)
theorem dX3_alt_104 : decode cX3_alt 104 = .ok (.areturn, 1) := dk_176 (dk_at dksX3_alt_4 12 rfl rfl)
abbrev cX3_length : ByteArray := prog_4_method_18_code
def yX3_length : MethodName := ⟨RX3, "length", "()V"⟩
def dkwX3_length_0 : List UInt8 := [42, 182, 0, 87, 42, 180, 0, 24, 42, 4, 16, 6, 182, 0, 151, 181, 0, 139, 177]
abbrev dktX3_length_0 : List UInt8 := dkwX3_length_0 ++ []
theorem dksX3_length_0 : cX3_length.data.toList.drop 0 = dktX3_length_0 := by decide +kernel
theorem dX3_length_0 : decode cX3_length 0 = .ok (.aload_n 0, 1) := dk_42 (dk_at dksX3_length_0 0 rfl rfl)
theorem dX3_length_1 : decode cX3_length 1 = .ok (.invokevirtual 87, 3) := dk_182 0 87 (dk_at dksX3_length_0 1 rfl rfl)
theorem dX3_length_4 : decode cX3_length 4 = .ok (.aload_n 0, 1) := dk_42 (dk_at dksX3_length_0 4 rfl rfl)
theorem dX3_length_5 : decode cX3_length 5 = .ok (.getfield 24, 3) := dk_180 0 24 (dk_at dksX3_length_0 5 rfl rfl)
theorem dX3_length_8 : decode cX3_length 8 = .ok (.aload_n 0, 1) := dk_42 (dk_at dksX3_length_0 8 rfl rfl)
theorem dX3_length_9 : decode cX3_length 9 = .ok (.iconst 1, 1) := dk_4 (dk_at dksX3_length_0 9 rfl rfl)
theorem dX3_length_10 : decode cX3_length 10 = .ok (.bipush 6, 2) := dk_16 6 (dk_at dksX3_length_0 10 rfl rfl)
theorem dX3_length_12 : decode cX3_length 12 = .ok (.invokevirtual 151, 3) := dk_182 0 151 (dk_at dksX3_length_0 12 rfl rfl)
theorem dX3_length_15 : decode cX3_length 15 = .ok (.putfield 139, 3) := dk_181 0 139 (dk_at dksX3_length_0 15 rfl rfl)
theorem dX3_length_18 : decode cX3_length 18 = .ok (.return_, 1) := dk_177 (dk_at dksX3_length_0 18 rfl rfl)
abbrev cX3_turns : ByteArray := prog_4_method_19_code
def yX3_turns : MethodName := ⟨RX3, "turns", "()V"⟩
def dkwX3_turns_3 : List UInt8 := [181, 0, 143, 167, 255, 187, 177]
abbrev dktX3_turns_3 : List UInt8 := dkwX3_turns_3 ++ []
def dkwX3_turns_2 : List UInt8 := [180, 0, 24, 180, 0, 143, 42, 3, 5, 182, 0, 151, 79, 42, 180, 0, 24, 89, 180, 0, 143, 4, 96]
abbrev dktX3_turns_2 : List UInt8 := dkwX3_turns_2 ++ dktX3_turns_3
def dkwX3_turns_1 : List UInt8 := [180, 0, 24, 180, 0, 143, 16, 6, 160, 0, 8, 42, 182, 0, 83, 191, 42, 180, 0, 24, 180, 0, 201, 42]
abbrev dktX3_turns_1 : List UInt8 := dkwX3_turns_1 ++ dktX3_turns_2
def dkwX3_turns_0 : List UInt8 := [42, 182, 0, 87, 42, 180, 0, 24, 180, 0, 143, 153, 0, 11, 42, 180, 0, 46, 5, 160, 0, 57, 42]
abbrev dktX3_turns_0 : List UInt8 := dkwX3_turns_0 ++ dktX3_turns_1
theorem dksX3_turns_0 : cX3_turns.data.toList.drop 0 = dktX3_turns_0 := by decide +kernel
theorem dksX3_turns_1 : cX3_turns.data.toList.drop 23 = dktX3_turns_1 := dk_seg dksX3_turns_0 23 rfl rfl
theorem dksX3_turns_2 : cX3_turns.data.toList.drop 47 = dktX3_turns_2 := dk_seg dksX3_turns_1 24 rfl rfl
theorem dksX3_turns_3 : cX3_turns.data.toList.drop 70 = dktX3_turns_3 := dk_seg dksX3_turns_2 23 rfl rfl
theorem dX3_turns_0 : decode cX3_turns 0 = .ok (.aload_n 0, 1) := dk_42 (dk_at dksX3_turns_0 0 rfl rfl)
theorem dX3_turns_1 : decode cX3_turns 1 = .ok (.invokevirtual 87, 3) := dk_182 0 87 (dk_at dksX3_turns_0 1 rfl rfl)
theorem dX3_turns_4 : decode cX3_turns 4 = .ok (.aload_n 0, 1) := dk_42 (dk_at dksX3_turns_0 4 rfl rfl)
theorem dX3_turns_5 : decode cX3_turns 5 = .ok (.getfield 24, 3) := dk_180 0 24 (dk_at dksX3_turns_0 5 rfl rfl)
theorem dX3_turns_8 : decode cX3_turns 8 = .ok (.getfield 143, 3) := dk_180 0 143 (dk_at dksX3_turns_0 8 rfl rfl)
theorem dX3_turns_11 : decode cX3_turns 11 = .ok (.ifCond .eq 11, 3) := dk_153 0 11 (dk_at dksX3_turns_0 11 rfl rfl)
theorem dX3_turns_14 : decode cX3_turns 14 = .ok (.aload_n 0, 1) := dk_42 (dk_at dksX3_turns_0 14 rfl rfl)
theorem dX3_turns_15 : decode cX3_turns 15 = .ok (.getfield 46, 3) := dk_180 0 46 (dk_at dksX3_turns_0 15 rfl rfl)
theorem dX3_turns_18 : decode cX3_turns 18 = .ok (.iconst 2, 1) := dk_5 (dk_at dksX3_turns_0 18 rfl rfl)
theorem dX3_turns_19 : decode cX3_turns 19 = .ok (.if_icmp .ne 57, 3) := dk_160 0 57 (dk_at dksX3_turns_0 19 rfl rfl)
theorem dX3_turns_22 : decode cX3_turns 22 = .ok (.aload_n 0, 1) := dk_42 (dk_at dksX3_turns_0 22 rfl rfl)
theorem dX3_turns_23 : decode cX3_turns 23 = .ok (.getfield 24, 3) := dk_180 0 24 (dk_at dksX3_turns_1 0 rfl rfl)
theorem dX3_turns_26 : decode cX3_turns 26 = .ok (.getfield 143, 3) := dk_180 0 143 (dk_at dksX3_turns_1 3 rfl rfl)
theorem dX3_turns_29 : decode cX3_turns 29 = .ok (.bipush 6, 2) := dk_16 6 (dk_at dksX3_turns_1 6 rfl rfl)
theorem dX3_turns_31 : decode cX3_turns 31 = .ok (.if_icmp .ne 8, 3) := dk_160 0 8 (dk_at dksX3_turns_1 8 rfl rfl)
theorem dX3_turns_34 : decode cX3_turns 34 = .ok (.aload_n 0, 1) := dk_42 (dk_at dksX3_turns_1 11 rfl rfl)
theorem dX3_turns_35 : decode cX3_turns 35 = .ok (.invokevirtual 83, 3) := dk_182 0 83 (dk_at dksX3_turns_1 12 rfl rfl)
theorem dX3_turns_38 : decode cX3_turns 38 = .ok (.athrow, 1) := dk_191 (dk_at dksX3_turns_1 15 rfl rfl)
theorem dX3_turns_39 : decode cX3_turns 39 = .ok (.aload_n 0, 1) := dk_42 (dk_at dksX3_turns_1 16 rfl rfl)
theorem dX3_turns_40 : decode cX3_turns 40 = .ok (.getfield 24, 3) := dk_180 0 24 (dk_at dksX3_turns_1 17 rfl rfl)
theorem dX3_turns_43 : decode cX3_turns 43 = .ok (.getfield 201, 3) := dk_180 0 201 (dk_at dksX3_turns_1 20 rfl rfl)
theorem dX3_turns_46 : decode cX3_turns 46 = .ok (.aload_n 0, 1) := dk_42 (dk_at dksX3_turns_1 23 rfl rfl)
theorem dX3_turns_47 : decode cX3_turns 47 = .ok (.getfield 24, 3) := dk_180 0 24 (dk_at dksX3_turns_2 0 rfl rfl)
theorem dX3_turns_50 : decode cX3_turns 50 = .ok (.getfield 143, 3) := dk_180 0 143 (dk_at dksX3_turns_2 3 rfl rfl)
theorem dX3_turns_53 : decode cX3_turns 53 = .ok (.aload_n 0, 1) := dk_42 (dk_at dksX3_turns_2 6 rfl rfl)
theorem dX3_turns_54 : decode cX3_turns 54 = .ok (.iconst 0, 1) := dk_3 (dk_at dksX3_turns_2 7 rfl rfl)
theorem dX3_turns_55 : decode cX3_turns 55 = .ok (.iconst 2, 1) := dk_5 (dk_at dksX3_turns_2 8 rfl rfl)
theorem dX3_turns_56 : decode cX3_turns 56 = .ok (.invokevirtual 151, 3) := dk_182 0 151 (dk_at dksX3_turns_2 9 rfl rfl)
theorem dX3_turns_59 : decode cX3_turns 59 = .ok (.iastore, 1) := dk_79 (dk_at dksX3_turns_2 12 rfl rfl)
theorem dX3_turns_60 : decode cX3_turns 60 = .ok (.aload_n 0, 1) := dk_42 (dk_at dksX3_turns_2 13 rfl rfl)
theorem dX3_turns_61 : decode cX3_turns 61 = .ok (.getfield 24, 3) := dk_180 0 24 (dk_at dksX3_turns_2 14 rfl rfl)
theorem dX3_turns_64 : decode cX3_turns 64 = .ok (.dup, 1) := dk_89 (dk_at dksX3_turns_2 17 rfl rfl)
theorem dX3_turns_65 : decode cX3_turns 65 = .ok (.getfield 143, 3) := dk_180 0 143 (dk_at dksX3_turns_2 18 rfl rfl)
theorem dX3_turns_68 : decode cX3_turns 68 = .ok (.iconst 1, 1) := dk_4 (dk_at dksX3_turns_2 21 rfl rfl)
theorem dX3_turns_69 : decode cX3_turns 69 = .ok (.iadd, 1) := dk_96 (dk_at dksX3_turns_2 22 rfl rfl)
theorem dX3_turns_70 : decode cX3_turns 70 = .ok (.putfield 143, 3) := dk_181 0 143 (dk_at dksX3_turns_3 0 rfl rfl)
theorem dX3_turns_73 : decode cX3_turns 73 = .ok (.goto (-69), 3) := dk_167 255 187 (dk_at dksX3_turns_3 3 rfl rfl)
theorem dX3_turns_76 : decode cX3_turns 76 = .ok (.return_, 1) := dk_177 (dk_at dksX3_turns_3 6 rfl rfl)
abbrev cX3_bind : ByteArray := prog_4_method_20_code
def yX3_bind : MethodName := ⟨RX3, "bind", "(I)V"⟩
def dkwX3_bind_7 : List UInt8 := [132, 3, 1, 167, 255, 108, 177]
abbrev dktX3_bind_7 : List UInt8 := dkwX3_bind_7 ++ []
def dkwX3_bind_6 : List UInt8 := [16, 8, 100, 27, 163, 0, 20, 187, 0, 72, 89, 16, 7, 25, 4, 180, 0, 198, 3, 46, 183, 0, 74, 191]
abbrev dktX3_bind_6 : List UInt8 := dkwX3_bind_6 ++ dktX3_bind_7
def dkwX3_bind_5 : List UInt8 := [4, 160, 0, 46, 25, 4, 180, 0, 207, 3, 46, 16, 8, 161, 0, 34, 25, 4, 180, 0, 207, 3, 46]
abbrev dktX3_bind_5 : List UInt8 := dkwX3_bind_5 ++ dktX3_bind_6
def dkwX3_bind_4 : List UInt8 := [25, 4, 180, 0, 198, 21, 5, 46, 182, 0, 210, 79, 132, 5, 1, 167, 255, 209, 25, 4, 180, 0, 207, 190]
abbrev dktX3_bind_4 : List UInt8 := dkwX3_bind_4 ++ dktX3_bind_5
def dkwX3_bind_3 : List UInt8 := [162, 0, 42, 25, 4, 180, 0, 207, 21, 5, 42, 25, 4, 180, 0, 195, 21, 5, 182, 0, 203, 192, 0, 78]
abbrev dktX3_bind_3 : List UInt8 := dkwX3_bind_3 ++ dktX3_bind_4
def dkwX3_bind_2 : List UInt8 := [180, 0, 195, 182, 0, 122, 188, 10, 181, 0, 207, 3, 54, 5, 21, 5, 25, 4, 180, 0, 207, 190]
abbrev dktX3_bind_2 : List UInt8 := dkwX3_bind_2 ++ dktX3_bind_3
def dkwX3_bind_1 : List UInt8 := [182, 0, 122, 162, 0, 143, 44, 180, 0, 183, 29, 182, 0, 203, 192, 0, 192, 58, 4, 25, 4, 25, 4]
abbrev dktX3_bind_1 : List UInt8 := dkwX3_bind_1 ++ dktX3_bind_2
def dkwX3_bind_0 : List UInt8 := [42, 180, 0, 24, 180, 0, 134, 27, 182, 0, 203, 192, 0, 178, 77, 3, 62, 29, 44, 180, 0, 183]
abbrev dktX3_bind_0 : List UInt8 := dkwX3_bind_0 ++ dktX3_bind_1
theorem dksX3_bind_0 : cX3_bind.data.toList.drop 0 = dktX3_bind_0 := by decide +kernel
theorem dksX3_bind_1 : cX3_bind.data.toList.drop 22 = dktX3_bind_1 := dk_seg dksX3_bind_0 22 rfl rfl
theorem dksX3_bind_2 : cX3_bind.data.toList.drop 45 = dktX3_bind_2 := dk_seg dksX3_bind_1 23 rfl rfl
theorem dksX3_bind_3 : cX3_bind.data.toList.drop 67 = dktX3_bind_3 := dk_seg dksX3_bind_2 22 rfl rfl
theorem dksX3_bind_4 : cX3_bind.data.toList.drop 91 = dktX3_bind_4 := dk_seg dksX3_bind_3 24 rfl rfl
theorem dksX3_bind_5 : cX3_bind.data.toList.drop 115 = dktX3_bind_5 := dk_seg dksX3_bind_4 24 rfl rfl
theorem dksX3_bind_6 : cX3_bind.data.toList.drop 138 = dktX3_bind_6 := dk_seg dksX3_bind_5 23 rfl rfl
theorem dksX3_bind_7 : cX3_bind.data.toList.drop 162 = dktX3_bind_7 := dk_seg dksX3_bind_6 24 rfl rfl
theorem dX3_bind_0 : decode cX3_bind 0 = .ok (.aload_n 0, 1) := dk_42 (dk_at dksX3_bind_0 0 rfl rfl)
theorem dX3_bind_1 : decode cX3_bind 1 = .ok (.getfield 24, 3) := dk_180 0 24 (dk_at dksX3_bind_0 1 rfl rfl)
theorem dX3_bind_4 : decode cX3_bind 4 = .ok (.getfield 134, 3) := dk_180 0 134 (dk_at dksX3_bind_0 4 rfl rfl)
theorem dX3_bind_7 : decode cX3_bind 7 = .ok (.iload_n 1, 1) := dk_27 (dk_at dksX3_bind_0 7 rfl rfl)
theorem dX3_bind_8 : decode cX3_bind 8 = .ok (.invokevirtual 203, 3) := dk_182 0 203 (dk_at dksX3_bind_0 8 rfl rfl)
theorem dX3_bind_11 : decode cX3_bind 11 = .ok (.checkcast 178, 3) := dk_192 0 178 (dk_at dksX3_bind_0 11 rfl rfl)
theorem dX3_bind_14 : decode cX3_bind 14 = .ok (.astore_n 2, 1) := dk_77 (dk_at dksX3_bind_0 14 rfl rfl)
theorem dX3_bind_15 : decode cX3_bind 15 = .ok (.iconst 0, 1) := dk_3 (dk_at dksX3_bind_0 15 rfl rfl)
theorem dX3_bind_16 : decode cX3_bind 16 = .ok (.istore_n 3, 1) := dk_62 (dk_at dksX3_bind_0 16 rfl rfl)
theorem dX3_bind_17 : decode cX3_bind 17 = .ok (.iload_n 3, 1) := dk_29 (dk_at dksX3_bind_0 17 rfl rfl)
theorem dX3_bind_18 : decode cX3_bind 18 = .ok (.aload_n 2, 1) := dk_44 (dk_at dksX3_bind_0 18 rfl rfl)
theorem dX3_bind_19 : decode cX3_bind 19 = .ok (.getfield 183, 3) := dk_180 0 183 (dk_at dksX3_bind_0 19 rfl rfl)
theorem dX3_bind_22 : decode cX3_bind 22 = .ok (.invokevirtual 122, 3) := dk_182 0 122 (dk_at dksX3_bind_1 0 rfl rfl)
theorem dX3_bind_25 : decode cX3_bind 25 = .ok (.if_icmp .ge 143, 3) := dk_162 0 143 (dk_at dksX3_bind_1 3 rfl rfl)
theorem dX3_bind_28 : decode cX3_bind 28 = .ok (.aload_n 2, 1) := dk_44 (dk_at dksX3_bind_1 6 rfl rfl)
theorem dX3_bind_29 : decode cX3_bind 29 = .ok (.getfield 183, 3) := dk_180 0 183 (dk_at dksX3_bind_1 7 rfl rfl)
theorem dX3_bind_32 : decode cX3_bind 32 = .ok (.iload_n 3, 1) := dk_29 (dk_at dksX3_bind_1 10 rfl rfl)
theorem dX3_bind_33 : decode cX3_bind 33 = .ok (.invokevirtual 203, 3) := dk_182 0 203 (dk_at dksX3_bind_1 11 rfl rfl)
theorem dX3_bind_36 : decode cX3_bind 36 = .ok (.checkcast 192, 3) := dk_192 0 192 (dk_at dksX3_bind_1 14 rfl rfl)
theorem dX3_bind_39 : decode cX3_bind 39 = .ok (.astore 4, 2) := dk_58 4 (dk_at dksX3_bind_1 17 rfl rfl)
theorem dX3_bind_41 : decode cX3_bind 41 = .ok (.aload 4, 2) := dk_25 4 (dk_at dksX3_bind_1 19 rfl rfl)
theorem dX3_bind_43 : decode cX3_bind 43 = .ok (.aload 4, 2) := dk_25 4 (dk_at dksX3_bind_1 21 rfl rfl)
theorem dX3_bind_45 : decode cX3_bind 45 = .ok (.getfield 195, 3) := dk_180 0 195 (dk_at dksX3_bind_2 0 rfl rfl)
theorem dX3_bind_48 : decode cX3_bind 48 = .ok (.invokevirtual 122, 3) := dk_182 0 122 (dk_at dksX3_bind_2 3 rfl rfl)
theorem dX3_bind_51 : decode cX3_bind 51 = .ok (.newarray .int, 2) := dk_188_10 (dk_at dksX3_bind_2 6 rfl rfl)
theorem dX3_bind_53 : decode cX3_bind 53 = .ok (.putfield 207, 3) := dk_181 0 207 (dk_at dksX3_bind_2 8 rfl rfl)
theorem dX3_bind_56 : decode cX3_bind 56 = .ok (.iconst 0, 1) := dk_3 (dk_at dksX3_bind_2 11 rfl rfl)
theorem dX3_bind_57 : decode cX3_bind 57 = .ok (.istore 5, 2) := dk_54 5 (dk_at dksX3_bind_2 12 rfl rfl)
theorem dX3_bind_59 : decode cX3_bind 59 = .ok (.iload 5, 2) := dk_21 5 (dk_at dksX3_bind_2 14 rfl rfl)
theorem dX3_bind_61 : decode cX3_bind 61 = .ok (.aload 4, 2) := dk_25 4 (dk_at dksX3_bind_2 16 rfl rfl)
theorem dX3_bind_63 : decode cX3_bind 63 = .ok (.getfield 207, 3) := dk_180 0 207 (dk_at dksX3_bind_2 18 rfl rfl)
theorem dX3_bind_66 : decode cX3_bind 66 = .ok (.arraylength, 1) := dk_190 (dk_at dksX3_bind_2 21 rfl rfl)
theorem dX3_bind_67 : decode cX3_bind 67 = .ok (.if_icmp .ge 42, 3) := dk_162 0 42 (dk_at dksX3_bind_3 0 rfl rfl)
theorem dX3_bind_70 : decode cX3_bind 70 = .ok (.aload 4, 2) := dk_25 4 (dk_at dksX3_bind_3 3 rfl rfl)
theorem dX3_bind_72 : decode cX3_bind 72 = .ok (.getfield 207, 3) := dk_180 0 207 (dk_at dksX3_bind_3 5 rfl rfl)
theorem dX3_bind_75 : decode cX3_bind 75 = .ok (.iload 5, 2) := dk_21 5 (dk_at dksX3_bind_3 8 rfl rfl)
theorem dX3_bind_77 : decode cX3_bind 77 = .ok (.aload_n 0, 1) := dk_42 (dk_at dksX3_bind_3 10 rfl rfl)
theorem dX3_bind_78 : decode cX3_bind 78 = .ok (.aload 4, 2) := dk_25 4 (dk_at dksX3_bind_3 11 rfl rfl)
theorem dX3_bind_80 : decode cX3_bind 80 = .ok (.getfield 195, 3) := dk_180 0 195 (dk_at dksX3_bind_3 13 rfl rfl)
theorem dX3_bind_83 : decode cX3_bind 83 = .ok (.iload 5, 2) := dk_21 5 (dk_at dksX3_bind_3 16 rfl rfl)
theorem dX3_bind_85 : decode cX3_bind 85 = .ok (.invokevirtual 203, 3) := dk_182 0 203 (dk_at dksX3_bind_3 18 rfl rfl)
theorem dX3_bind_88 : decode cX3_bind 88 = .ok (.checkcast 78, 3) := dk_192 0 78 (dk_at dksX3_bind_3 21 rfl rfl)
theorem dX3_bind_91 : decode cX3_bind 91 = .ok (.aload 4, 2) := dk_25 4 (dk_at dksX3_bind_4 0 rfl rfl)
theorem dX3_bind_93 : decode cX3_bind 93 = .ok (.getfield 198, 3) := dk_180 0 198 (dk_at dksX3_bind_4 2 rfl rfl)
theorem dX3_bind_96 : decode cX3_bind 96 = .ok (.iload 5, 2) := dk_21 5 (dk_at dksX3_bind_4 5 rfl rfl)
theorem dX3_bind_98 : decode cX3_bind 98 = .ok (.iaload, 1) := dk_46 (dk_at dksX3_bind_4 7 rfl rfl)
theorem dX3_bind_99 : decode cX3_bind 99 = .ok (.invokevirtual 210, 3) := dk_182 0 210 (dk_at dksX3_bind_4 8 rfl rfl)
theorem dX3_bind_102 : decode cX3_bind 102 = .ok (.iastore, 1) := dk_79 (dk_at dksX3_bind_4 11 rfl rfl)
theorem dX3_bind_103 : decode cX3_bind 103 = .ok (.iinc 5 1, 3) := dk_132 5 1 (dk_at dksX3_bind_4 12 rfl rfl)
theorem dX3_bind_106 : decode cX3_bind 106 = .ok (.goto (-47), 3) := dk_167 255 209 (dk_at dksX3_bind_4 15 rfl rfl)
theorem dX3_bind_109 : decode cX3_bind 109 = .ok (.aload 4, 2) := dk_25 4 (dk_at dksX3_bind_4 18 rfl rfl)
theorem dX3_bind_111 : decode cX3_bind 111 = .ok (.getfield 207, 3) := dk_180 0 207 (dk_at dksX3_bind_4 20 rfl rfl)
theorem dX3_bind_114 : decode cX3_bind 114 = .ok (.arraylength, 1) := dk_190 (dk_at dksX3_bind_4 23 rfl rfl)
theorem dX3_bind_115 : decode cX3_bind 115 = .ok (.iconst 1, 1) := dk_4 (dk_at dksX3_bind_5 0 rfl rfl)
theorem dX3_bind_116 : decode cX3_bind 116 = .ok (.if_icmp .ne 46, 3) := dk_160 0 46 (dk_at dksX3_bind_5 1 rfl rfl)
theorem dX3_bind_119 : decode cX3_bind 119 = .ok (.aload 4, 2) := dk_25 4 (dk_at dksX3_bind_5 4 rfl rfl)
theorem dX3_bind_121 : decode cX3_bind 121 = .ok (.getfield 207, 3) := dk_180 0 207 (dk_at dksX3_bind_5 6 rfl rfl)
theorem dX3_bind_124 : decode cX3_bind 124 = .ok (.iconst 0, 1) := dk_3 (dk_at dksX3_bind_5 9 rfl rfl)
theorem dX3_bind_125 : decode cX3_bind 125 = .ok (.iaload, 1) := dk_46 (dk_at dksX3_bind_5 10 rfl rfl)
theorem dX3_bind_126 : decode cX3_bind 126 = .ok (.bipush 8, 2) := dk_16 8 (dk_at dksX3_bind_5 11 rfl rfl)
theorem dX3_bind_128 : decode cX3_bind 128 = .ok (.if_icmp .lt 34, 3) := dk_161 0 34 (dk_at dksX3_bind_5 13 rfl rfl)
theorem dX3_bind_131 : decode cX3_bind 131 = .ok (.aload 4, 2) := dk_25 4 (dk_at dksX3_bind_5 16 rfl rfl)
theorem dX3_bind_133 : decode cX3_bind 133 = .ok (.getfield 207, 3) := dk_180 0 207 (dk_at dksX3_bind_5 18 rfl rfl)
theorem dX3_bind_136 : decode cX3_bind 136 = .ok (.iconst 0, 1) := dk_3 (dk_at dksX3_bind_5 21 rfl rfl)
theorem dX3_bind_137 : decode cX3_bind 137 = .ok (.iaload, 1) := dk_46 (dk_at dksX3_bind_5 22 rfl rfl)
theorem dX3_bind_138 : decode cX3_bind 138 = .ok (.bipush 8, 2) := dk_16 8 (dk_at dksX3_bind_6 0 rfl rfl)
theorem dX3_bind_140 : decode cX3_bind 140 = .ok (.isub, 1) := dk_100 (dk_at dksX3_bind_6 2 rfl rfl)
theorem dX3_bind_141 : decode cX3_bind 141 = .ok (.iload_n 1, 1) := dk_27 (dk_at dksX3_bind_6 3 rfl rfl)
theorem dX3_bind_142 : decode cX3_bind 142 = .ok (.if_icmp .gt 20, 3) := dk_163 0 20 (dk_at dksX3_bind_6 4 rfl rfl)
theorem dX3_bind_145 : decode cX3_bind 145 = .ok (.new 72, 3) := dk_187 0 72 (dk_at dksX3_bind_6 7 rfl rfl)
theorem dX3_bind_148 : decode cX3_bind 148 = .ok (.dup, 1) := dk_89 (dk_at dksX3_bind_6 10 rfl rfl)
theorem dX3_bind_149 : decode cX3_bind 149 = .ok (.bipush 7, 2) := dk_16 7 (dk_at dksX3_bind_6 11 rfl rfl)
theorem dX3_bind_151 : decode cX3_bind 151 = .ok (.aload 4, 2) := dk_25 4 (dk_at dksX3_bind_6 13 rfl rfl)
theorem dX3_bind_153 : decode cX3_bind 153 = .ok (.getfield 198, 3) := dk_180 0 198 (dk_at dksX3_bind_6 15 rfl rfl)
theorem dX3_bind_156 : decode cX3_bind 156 = .ok (.iconst 0, 1) := dk_3 (dk_at dksX3_bind_6 18 rfl rfl)
theorem dX3_bind_157 : decode cX3_bind 157 = .ok (.iaload, 1) := dk_46 (dk_at dksX3_bind_6 19 rfl rfl)
theorem dX3_bind_158 : decode cX3_bind 158 = .ok (.invokespecial 74, 3) := dk_183 0 74 (dk_at dksX3_bind_6 20 rfl rfl)
theorem dX3_bind_161 : decode cX3_bind 161 = .ok (.athrow, 1) := dk_191 (dk_at dksX3_bind_6 23 rfl rfl)
theorem dX3_bind_162 : decode cX3_bind 162 = .ok (.iinc 3 1, 3) := dk_132 3 1 (dk_at dksX3_bind_7 0 rfl rfl)
theorem dX3_bind_165 : decode cX3_bind 165 = .ok (.goto (-148), 3) := dk_167 255 108 (dk_at dksX3_bind_7 3 rfl rfl)
theorem dX3_bind_168 : decode cX3_bind 168 = .ok (.return_, 1) := dk_177 (dk_at dksX3_bind_7 6 rfl rfl)
abbrev cX3_part : ByteArray := prog_4_method_21_code
def yX3_part : MethodName := ⟨RX3, "part", "(Ljava/lang/String;I)I"⟩
def dkwX3_part_2 : List UInt8 := [16, 8, 21, 4, 96, 172]
abbrev dktX3_part_2 : List UInt8 := dkwX3_part_2 ++ []
def dkwX3_part_1 : List UInt8 := [21, 4, 156, 0, 14, 187, 0, 72, 89, 16, 6, 28, 183, 0, 74, 191, 29, 155, 0, 7, 29, 167, 0, 8]
abbrev dktX3_part_1 : List UInt8 := dkwX3_part_1 ++ dktX3_part_2
def dkwX3_part_0 : List UInt8 := [42, 180, 0, 24, 43, 182, 0, 109, 62, 42, 180, 0, 24, 43, 182, 0, 112, 54, 4, 29, 156, 0, 19]
abbrev dktX3_part_0 : List UInt8 := dkwX3_part_0 ++ dktX3_part_1
theorem dksX3_part_0 : cX3_part.data.toList.drop 0 = dktX3_part_0 := by decide +kernel
theorem dksX3_part_1 : cX3_part.data.toList.drop 23 = dktX3_part_1 := dk_seg dksX3_part_0 23 rfl rfl
theorem dksX3_part_2 : cX3_part.data.toList.drop 47 = dktX3_part_2 := dk_seg dksX3_part_1 24 rfl rfl
theorem dX3_part_0 : decode cX3_part 0 = .ok (.aload_n 0, 1) := dk_42 (dk_at dksX3_part_0 0 rfl rfl)
theorem dX3_part_1 : decode cX3_part 1 = .ok (.getfield 24, 3) := dk_180 0 24 (dk_at dksX3_part_0 1 rfl rfl)
theorem dX3_part_4 : decode cX3_part 4 = .ok (.aload_n 1, 1) := dk_43 (dk_at dksX3_part_0 4 rfl rfl)
theorem dX3_part_5 : decode cX3_part 5 = .ok (.invokevirtual 109, 3) := dk_182 0 109 (dk_at dksX3_part_0 5 rfl rfl)
theorem dX3_part_8 : decode cX3_part 8 = .ok (.istore_n 3, 1) := dk_62 (dk_at dksX3_part_0 8 rfl rfl)
theorem dX3_part_9 : decode cX3_part 9 = .ok (.aload_n 0, 1) := dk_42 (dk_at dksX3_part_0 9 rfl rfl)
theorem dX3_part_10 : decode cX3_part 10 = .ok (.getfield 24, 3) := dk_180 0 24 (dk_at dksX3_part_0 10 rfl rfl)
theorem dX3_part_13 : decode cX3_part 13 = .ok (.aload_n 1, 1) := dk_43 (dk_at dksX3_part_0 13 rfl rfl)
theorem dX3_part_14 : decode cX3_part 14 = .ok (.invokevirtual 112, 3) := dk_182 0 112 (dk_at dksX3_part_0 14 rfl rfl)
theorem dX3_part_17 : decode cX3_part 17 = .ok (.istore 4, 2) := dk_54 4 (dk_at dksX3_part_0 17 rfl rfl)
theorem dX3_part_19 : decode cX3_part 19 = .ok (.iload_n 3, 1) := dk_29 (dk_at dksX3_part_0 19 rfl rfl)
theorem dX3_part_20 : decode cX3_part 20 = .ok (.ifCond .ge 19, 3) := dk_156 0 19 (dk_at dksX3_part_0 20 rfl rfl)
theorem dX3_part_23 : decode cX3_part 23 = .ok (.iload 4, 2) := dk_21 4 (dk_at dksX3_part_1 0 rfl rfl)
theorem dX3_part_25 : decode cX3_part 25 = .ok (.ifCond .ge 14, 3) := dk_156 0 14 (dk_at dksX3_part_1 2 rfl rfl)
theorem dX3_part_28 : decode cX3_part 28 = .ok (.new 72, 3) := dk_187 0 72 (dk_at dksX3_part_1 5 rfl rfl)
theorem dX3_part_31 : decode cX3_part 31 = .ok (.dup, 1) := dk_89 (dk_at dksX3_part_1 8 rfl rfl)
theorem dX3_part_32 : decode cX3_part 32 = .ok (.bipush 6, 2) := dk_16 6 (dk_at dksX3_part_1 9 rfl rfl)
theorem dX3_part_34 : decode cX3_part 34 = .ok (.iload_n 2, 1) := dk_28 (dk_at dksX3_part_1 11 rfl rfl)
theorem dX3_part_35 : decode cX3_part 35 = .ok (.invokespecial 74, 3) := dk_183 0 74 (dk_at dksX3_part_1 12 rfl rfl)
theorem dX3_part_38 : decode cX3_part 38 = .ok (.athrow, 1) := dk_191 (dk_at dksX3_part_1 15 rfl rfl)
theorem dX3_part_39 : decode cX3_part 39 = .ok (.iload_n 3, 1) := dk_29 (dk_at dksX3_part_1 16 rfl rfl)
theorem dX3_part_40 : decode cX3_part 40 = .ok (.ifCond .lt 7, 3) := dk_155 0 7 (dk_at dksX3_part_1 17 rfl rfl)
theorem dX3_part_43 : decode cX3_part 43 = .ok (.iload_n 3, 1) := dk_29 (dk_at dksX3_part_1 20 rfl rfl)
theorem dX3_part_44 : decode cX3_part 44 = .ok (.goto 8, 3) := dk_167 0 8 (dk_at dksX3_part_1 21 rfl rfl)
theorem dX3_part_47 : decode cX3_part 47 = .ok (.bipush 8, 2) := dk_16 8 (dk_at dksX3_part_2 0 rfl rfl)
theorem dX3_part_49 : decode cX3_part 49 = .ok (.iload 4, 2) := dk_21 4 (dk_at dksX3_part_2 2 rfl rfl)
theorem dX3_part_51 : decode cX3_part 51 = .ok (.iadd, 1) := dk_96 (dk_at dksX3_part_2 4 rfl rfl)
theorem dX3_part_52 : decode cX3_part 52 = .ok (.ireturn, 1) := dk_172 (dk_at dksX3_part_2 5 rfl rfl)
theorem q121 : (Jvm.Cond.initialized "GuildCharter$Reader") ∈ lw_all := lw_g (lw_at lw_m1 7 rfl) rfl
theorem q186 : (Jvm.Cond.fieldLink "GuildCharter$Reader" (118 : Nat) "GuildCharter$Port" "words" "Ljava/util/ArrayList;") ∈ lw_all := lw_g (lw_at lw_m1 72 rfl) rfl
theorem q189 : (Jvm.Cond.fieldLink "GuildCharter$Reader" (134 : Nat) "GuildCharter$Port" "rules" "Ljava/util/ArrayList;") ∈ lw_all := lw_g (lw_at lw_m1 75 rfl) rfl
theorem q192 : (Jvm.Cond.fieldLink "GuildCharter$Reader" (157 : Nat) "GuildCharter$Port" "worth" "[I") ∈ lw_all := lw_g (lw_at lw_m1 78 rfl) rfl
theorem q195 : (Jvm.Cond.fieldLink "GuildCharter$Reader" (175 : Nat) "GuildCharter$Port" "behind" "[I") ∈ lw_all := lw_g (lw_at lw_m1 81 rfl) rfl
theorem q197 : (Jvm.Cond.fieldLink "GuildCharter$Reader" (201 : Nat) "GuildCharter$Port" "turns" "[I") ∈ lw_all := lw_g (lw_at lw_m1 83 rfl) rfl
theorem q199 : (Jvm.Cond.fieldLink "GuildCharter$Reader" (171 : Nat) "GuildCharter$Port" "isPair" "[Z") ∈ lw_all := lw_g (lw_at lw_m1 85 rfl) rfl
theorem q200 : (Jvm.Cond.fieldLink "GuildCharter$Reader" (129 : Nat) "GuildCharter$Port" "pairs" "I") ∈ lw_all := lw_g (lw_at lw_m1 86 rfl) rfl
theorem q202 : (Jvm.Cond.fieldLink "GuildCharter$Reader" (190 : Nat) "GuildCharter$Port" "alts" "I") ∈ lw_all := lw_g (lw_at lw_m1 88 rfl) rfl
theorem q205 : (Jvm.Cond.fieldLink "GuildCharter$Reader" (139 : Nat) "GuildCharter$Port" "length" "I") ∈ lw_all := lw_g (lw_at lw_m1 91 rfl) rfl
theorem q207 : (Jvm.Cond.fieldLink "GuildCharter$Reader" (143 : Nat) "GuildCharter$Port" "told" "I") ∈ lw_all := lw_g (lw_at lw_m1 93 rfl) rfl
theorem q252 : (Jvm.Cond.fieldLinkNest "GuildCharter$Reader" (35 : Nat) "GuildCharter" "tape" "[B" "GuildCharter") ∈ lw_tbl := lw_at lw_m1 138 rfl
theorem q254 : (Jvm.Cond.fieldLinkNest "GuildCharter$Reader" (32 : Nat) "GuildCharter" "taped" "I" "GuildCharter") ∈ lw_tbl := lw_at lw_m1 140 rfl
theorem q361 : (Jvm.Cond.instantiable "GuildCharter$Reader" (7 : Nat)) ∈ lw_all := lw_g (lw_at lw_m2 7 rfl) rfl
theorem q363 : (Jvm.Cond.instanceMethod ({ cls := "GuildCharter$Reader", name := "<init>", desc := "(LGuildCharter;)V" } : Jvm.MethodName)) ∈ lw_all := lw_g (lw_at lw_m2 9 rfl) rfl
theorem q364 : (Jvm.Cond.code ({ cls := "GuildCharter$Reader", name := "<init>", desc := "(LGuildCharter;)V" } : Jvm.MethodName) prog_4_method_1_code (2 : Nat) (Option.none : Option Jvm.ClassFile.FieldType)) ∈ lw_all := lw_g (lw_at lw_m2 10 rfl) rfl
theorem q365 : (Jvm.Cond.methodLink "GuildCharter$Reader" (9 : Nat) ({ cls := "java/lang/Object", name := "<init>", desc := "()V" } : Jvm.MethodName)) ∈ lw_all := lw_g (lw_at lw_m2 11 rfl) rfl
theorem q366 : (Jvm.Cond.stringRef "GuildCharter$Reader" (15 : Nat) "") ∈ lw_tbl := lw_at lw_m2 12 rfl
theorem q367 : (Jvm.Cond.classLink "GuildCharter$Reader" (21 : Nat) "GuildCharter$Port") ∈ lw_all := lw_g (lw_at lw_m2 13 rfl) rfl
theorem q368 : (Jvm.Cond.methodLinkNest "GuildCharter$Reader" (23 : Nat) ({ cls := "GuildCharter$Port", name := "<init>", desc := "()V" } : Jvm.MethodName) "GuildCharter") ∈ lw_tbl := lw_at lw_m2 14 rfl
theorem q369 : (Jvm.Cond.fieldLink "GuildCharter$Reader" (28 : Nat) "GuildCharter$Reader" "at" "I") ∈ lw_all := lw_g (lw_at lw_m2 15 rfl) rfl
theorem q370 : (Jvm.Cond.fieldLink "GuildCharter$Reader" (46 : Nat) "GuildCharter$Reader" "sort" "I") ∈ lw_all := lw_g (lw_at lw_m2 16 rfl) rfl
theorem q371 : (Jvm.Cond.fieldLink "GuildCharter$Reader" (43 : Nat) "GuildCharter$Reader" "place" "I") ∈ lw_all := lw_g (lw_at lw_m2 17 rfl) rfl
theorem q372 : (Jvm.Cond.fieldLink "GuildCharter$Reader" (69 : Nat) "GuildCharter$Reader" "number" "I") ∈ lw_all := lw_g (lw_at lw_m2 18 rfl) rfl
theorem q373 : (Jvm.Cond.fieldLink "GuildCharter$Reader" (17 : Nat) "GuildCharter$Reader" "word" "Ljava/lang/String;") ∈ lw_all := lw_g (lw_at lw_m2 19 rfl) rfl
theorem q374 : (Jvm.Cond.fieldLink "GuildCharter$Reader" (24 : Nat) "GuildCharter$Reader" "made" "LGuildCharter$Port;") ∈ lw_all := lw_g (lw_at lw_m2 20 rfl) rfl
theorem q375 : (Jvm.Cond.fieldLink "GuildCharter$Reader" (3 : Nat) "GuildCharter$Reader" "this$0" "LGuildCharter;") ∈ lw_all := lw_g (lw_at lw_m2 21 rfl) rfl
theorem q376 : (Jvm.Cond.lays "GuildCharter$Reader" "GuildCharter$Reader" "at" "I") ∈ lw_all := lw_g (lw_at lw_m2 22 rfl) rfl
theorem q377 : (Jvm.Cond.soleField "GuildCharter$Reader" "at") ∈ lw_all := lw_g (lw_at lw_m2 23 rfl) rfl
theorem q378 : (Jvm.Cond.lays "GuildCharter$Reader" "GuildCharter$Reader" "sort" "I") ∈ lw_all := lw_g (lw_at lw_m2 24 rfl) rfl
theorem q379 : (Jvm.Cond.soleField "GuildCharter$Reader" "sort") ∈ lw_all := lw_g (lw_at lw_m2 25 rfl) rfl
theorem q380 : (Jvm.Cond.lays "GuildCharter$Reader" "GuildCharter$Reader" "place" "I") ∈ lw_all := lw_g (lw_at lw_m2 26 rfl) rfl
theorem q381 : (Jvm.Cond.soleField "GuildCharter$Reader" "place") ∈ lw_all := lw_g (lw_at lw_m2 27 rfl) rfl
theorem q382 : (Jvm.Cond.lays "GuildCharter$Reader" "GuildCharter$Reader" "number" "I") ∈ lw_all := lw_g (lw_at lw_m2 28 rfl) rfl
theorem q383 : (Jvm.Cond.soleField "GuildCharter$Reader" "number") ∈ lw_all := lw_g (lw_at lw_m2 29 rfl) rfl
theorem q384 : (Jvm.Cond.lays "GuildCharter$Reader" "GuildCharter$Reader" "word" "Ljava/lang/String;") ∈ lw_all := lw_g (lw_at lw_m2 30 rfl) rfl
theorem q385 : (Jvm.Cond.soleField "GuildCharter$Reader" "word") ∈ lw_all := lw_g (lw_at lw_m2 31 rfl) rfl
theorem q386 : (Jvm.Cond.laysFinal "GuildCharter$Reader" "GuildCharter$Reader" "made" "LGuildCharter$Port;") ∈ lw_all := lw_g (lw_at lw_m2 32 rfl) rfl
theorem q387 : (Jvm.Cond.soleField "GuildCharter$Reader" "made") ∈ lw_all := lw_g (lw_at lw_m2 33 rfl) rfl
theorem q388 : (Jvm.Cond.laysFinal "GuildCharter$Reader" "GuildCharter$Reader" "this$0" "LGuildCharter;") ∈ lw_all := lw_g (lw_at lw_m2 34 rfl) rfl
theorem q389 : (Jvm.Cond.soleField "GuildCharter$Reader" "this$0") ∈ lw_all := lw_g (lw_at lw_m2 35 rfl) rfl
theorem q390 : (Jvm.Cond.superclass "GuildCharter$Reader" "java/lang/Object") ∈ lw_all := lw_g (lw_at lw_m2 36 rfl) rfl
theorem q392 : (Jvm.Cond.instanceMethod ({ cls := "GuildCharter$Reader", name := "text", desc := "()LGuildCharter$Port;" } : Jvm.MethodName)) ∈ lw_all := lw_g (lw_at lw_m2 38 rfl) rfl
theorem q393 : (Jvm.Cond.selects "GuildCharter$Reader" ({ cls := "GuildCharter$Reader", name := "text", desc := "()LGuildCharter$Port;" } : Jvm.MethodName) ({ cls := "GuildCharter$Reader", name := "text", desc := "()LGuildCharter$Port;" } : Jvm.MethodName)) ∈ lw_all := lw_g (lw_at lw_m2 39 rfl) rfl
theorem q394 : (Jvm.Cond.code ({ cls := "GuildCharter$Reader", name := "text", desc := "()LGuildCharter$Port;" } : Jvm.MethodName) prog_4_method_11_code (2 : Nat) (Option.some (Jvm.ClassFile.FieldType.object "GuildCharter$Port"))) ∈ lw_all := lw_g (lw_at lw_m2 40 rfl) rfl
theorem q395 : (Jvm.Cond.methodLink "GuildCharter$Reader" (87 : Nat) ({ cls := "GuildCharter$Reader", name := "go", desc := "()V" } : Jvm.MethodName)) ∈ lw_all := lw_g (lw_at lw_m2 41 rfl) rfl
theorem q396 : (Jvm.Cond.privateMethod ({ cls := "GuildCharter$Reader", name := "go", desc := "()V" } : Jvm.MethodName)) ∈ lw_tbl := lw_at lw_m2 42 rfl
theorem q397 : (Jvm.Cond.instanceMethod ({ cls := "GuildCharter$Reader", name := "go", desc := "()V" } : Jvm.MethodName)) ∈ lw_all := lw_g (lw_at lw_m2 43 rfl) rfl
theorem q398 : (Jvm.Cond.code ({ cls := "GuildCharter$Reader", name := "go", desc := "()V" } : Jvm.MethodName) prog_4_method_5_code (4 : Nat) (Option.none : Option Jvm.ClassFile.FieldType)) ∈ lw_all := lw_g (lw_at lw_m2 44 rfl) rfl
theorem q399 : (Jvm.Cond.methodLink "GuildCharter$Reader" (39 : Nat) ({ cls := "GuildCharter$Reader", name := "here", desc := "(I)I" } : Jvm.MethodName)) ∈ lw_all := lw_g (lw_at lw_m2 45 rfl) rfl
theorem q400 : (Jvm.Cond.privateMethod ({ cls := "GuildCharter$Reader", name := "here", desc := "(I)I" } : Jvm.MethodName)) ∈ lw_tbl := lw_at lw_m2 46 rfl
theorem q401 : (Jvm.Cond.instanceMethod ({ cls := "GuildCharter$Reader", name := "here", desc := "(I)I" } : Jvm.MethodName)) ∈ lw_all := lw_g (lw_at lw_m2 47 rfl) rfl
theorem q402 : (Jvm.Cond.code ({ cls := "GuildCharter$Reader", name := "here", desc := "(I)I" } : Jvm.MethodName) prog_4_method_2_code (2 : Nat) (Option.some Jvm.ClassFile.FieldType.int)) ∈ lw_all := lw_g (lw_at lw_m2 48 rfl) rfl
theorem q403 : (Jvm.Cond.methodLink "GuildCharter$Reader" (49 : Nat) ({ cls := "GuildCharter$Reader", name := "isLetter", desc := "(I)Z" } : Jvm.MethodName)) ∈ lw_all := lw_g (lw_at lw_m2 49 rfl) rfl
theorem q404 : (Jvm.Cond.privateMethod ({ cls := "GuildCharter$Reader", name := "isLetter", desc := "(I)Z" } : Jvm.MethodName)) ∈ lw_tbl := lw_at lw_m2 50 rfl
theorem q405 : (Jvm.Cond.instanceMethod ({ cls := "GuildCharter$Reader", name := "isLetter", desc := "(I)Z" } : Jvm.MethodName)) ∈ lw_all := lw_g (lw_at lw_m2 51 rfl) rfl
theorem q406 : (Jvm.Cond.code ({ cls := "GuildCharter$Reader", name := "isLetter", desc := "(I)Z" } : Jvm.MethodName) prog_4_method_3_code (2 : Nat) (Option.some Jvm.ClassFile.FieldType.boolean)) ∈ lw_all := lw_g (lw_at lw_m2 52 rfl) rfl
theorem q407 : (Jvm.Cond.classLink "GuildCharter$Reader" (53 : Nat) "java/lang/StringBuilder") ∈ lw_all := lw_g (lw_at lw_m2 53 rfl) rfl
theorem q409 : (Jvm.Cond.methodLink "GuildCharter$Reader" (55 : Nat) ({ cls := "java/lang/StringBuilder", name := "<init>", desc := "(I)V" } : Jvm.MethodName)) ∈ lw_all := lw_g (lw_at lw_m2 55 rfl) rfl
theorem q438 : (Jvm.Cond.methodLink "GuildCharter$Reader" (58 : Nat) ({ cls := "java/lang/StringBuilder", name := "append", desc := "(C)Ljava/lang/StringBuilder;" } : Jvm.MethodName)) ∈ lw_all := lw_g (lw_at lw_m2 84 rfl) rfl
theorem q533 : (Jvm.Cond.methodLink "GuildCharter$Reader" (62 : Nat) ({ cls := "java/lang/StringBuilder", name := "toString", desc := "()Ljava/lang/String;" } : Jvm.MethodName)) ∈ lw_all := lw_g (lw_at lw_m2 179 rfl) rfl
theorem q596 : (Jvm.Cond.methodLink "GuildCharter$Reader" (66 : Nat) ({ cls := "GuildCharter$Reader", name := "isDigit", desc := "(I)Z" } : Jvm.MethodName)) ∈ lw_all := lw_g (lw_at lw_m3 2 rfl) rfl
theorem q597 : (Jvm.Cond.privateMethod ({ cls := "GuildCharter$Reader", name := "isDigit", desc := "(I)Z" } : Jvm.MethodName)) ∈ lw_tbl := lw_at lw_m3 3 rfl
theorem q598 : (Jvm.Cond.instanceMethod ({ cls := "GuildCharter$Reader", name := "isDigit", desc := "(I)Z" } : Jvm.MethodName)) ∈ lw_all := lw_g (lw_at lw_m3 4 rfl) rfl
theorem q599 : (Jvm.Cond.code ({ cls := "GuildCharter$Reader", name := "isDigit", desc := "(I)Z" } : Jvm.MethodName) prog_4_method_4_code (2 : Nat) (Option.some Jvm.ClassFile.FieldType.boolean)) ∈ lw_all := lw_g (lw_at lw_m3 5 rfl) rfl
theorem q600 : (Jvm.Cond.stringRef "GuildCharter$Reader" (94 : Nat) "word") ∈ lw_tbl := lw_at lw_m3 6 rfl
theorem q601 : (Jvm.Cond.methodLink "GuildCharter$Reader" (114 : Nat) ({ cls := "GuildCharter$Reader", name := "is", desc := "(Ljava/lang/String;)Z" } : Jvm.MethodName)) ∈ lw_all := lw_g (lw_at lw_m3 7 rfl) rfl
theorem q602 : (Jvm.Cond.privateMethod ({ cls := "GuildCharter$Reader", name := "is", desc := "(Ljava/lang/String;)Z" } : Jvm.MethodName)) ∈ lw_tbl := lw_at lw_m3 8 rfl
theorem q603 : (Jvm.Cond.instanceMethod ({ cls := "GuildCharter$Reader", name := "is", desc := "(Ljava/lang/String;)Z" } : Jvm.MethodName)) ∈ lw_all := lw_g (lw_at lw_m3 9 rfl) rfl
theorem q604 : (Jvm.Cond.code ({ cls := "GuildCharter$Reader", name := "is", desc := "(Ljava/lang/String;)Z" } : Jvm.MethodName) prog_4_method_7_code (2 : Nat) (Option.some Jvm.ClassFile.FieldType.boolean)) ∈ lw_all := lw_g (lw_at lw_m3 10 rfl) rfl
theorem q605 : (Jvm.Cond.methodLink "GuildCharter$Reader" (77 : Nat) ({ cls := "java/lang/String", name := "equals", desc := "(Ljava/lang/Object;)Z" } : Jvm.MethodName)) ∈ lw_all := lw_g (lw_at lw_m3 11 rfl) rfl
theorem q613 : (Jvm.Cond.methodLink "GuildCharter$Reader" (122 : Nat) ({ cls := "java/util/ArrayList", name := "size", desc := "()I" } : Jvm.MethodName)) ∈ lw_all := lw_g (lw_at lw_m3 19 rfl) rfl
theorem q617 : (Jvm.Cond.methodLink "GuildCharter$Reader" (127 : Nat) ({ cls := "GuildCharter$Reader", name := "word", desc := "()V" } : Jvm.MethodName)) ∈ lw_all := lw_g (lw_at lw_m3 23 rfl) rfl
theorem q618 : (Jvm.Cond.privateMethod ({ cls := "GuildCharter$Reader", name := "word", desc := "()V" } : Jvm.MethodName)) ∈ lw_tbl := lw_at lw_m3 24 rfl
theorem q619 : (Jvm.Cond.instanceMethod ({ cls := "GuildCharter$Reader", name := "word", desc := "()V" } : Jvm.MethodName)) ∈ lw_all := lw_g (lw_at lw_m3 25 rfl) rfl
theorem q620 : (Jvm.Cond.code ({ cls := "GuildCharter$Reader", name := "word", desc := "()V" } : Jvm.MethodName) prog_4_method_13_code (2 : Nat) (Option.none : Option Jvm.ClassFile.FieldType)) ∈ lw_all := lw_g (lw_at lw_m3 26 rfl) rfl
theorem q621 : (Jvm.Cond.methodLink "GuildCharter$Reader" (154 : Nat) ({ cls := "GuildCharter$Reader", name := "newName", desc := "()Ljava/lang/String;" } : Jvm.MethodName)) ∈ lw_all := lw_g (lw_at lw_m3 27 rfl) rfl
theorem q622 : (Jvm.Cond.privateMethod ({ cls := "GuildCharter$Reader", name := "newName", desc := "()Ljava/lang/String;" } : Jvm.MethodName)) ∈ lw_tbl := lw_at lw_m3 28 rfl
theorem q623 : (Jvm.Cond.instanceMethod ({ cls := "GuildCharter$Reader", name := "newName", desc := "()Ljava/lang/String;" } : Jvm.MethodName)) ∈ lw_all := lw_g (lw_at lw_m3 29 rfl) rfl
theorem q624 : (Jvm.Cond.code ({ cls := "GuildCharter$Reader", name := "newName", desc := "()Ljava/lang/String;" } : Jvm.MethodName) prog_4_method_10_code (2 : Nat) (Option.some (Jvm.ClassFile.FieldType.object "java/lang/String"))) ∈ lw_all := lw_g (lw_at lw_m3 30 rfl) rfl
theorem q625 : (Jvm.Cond.methodLink "GuildCharter$Reader" (105 : Nat) ({ cls := "GuildCharter$Reader", name := "isName", desc := "()Z" } : Jvm.MethodName)) ∈ lw_all := lw_g (lw_at lw_m3 31 rfl) rfl
theorem q626 : (Jvm.Cond.privateMethod ({ cls := "GuildCharter$Reader", name := "isName", desc := "()Z" } : Jvm.MethodName)) ∈ lw_tbl := lw_at lw_m3 32 rfl
theorem q627 : (Jvm.Cond.instanceMethod ({ cls := "GuildCharter$Reader", name := "isName", desc := "()Z" } : Jvm.MethodName)) ∈ lw_all := lw_g (lw_at lw_m3 33 rfl) rfl
theorem q628 : (Jvm.Cond.code ({ cls := "GuildCharter$Reader", name := "isName", desc := "()Z" } : Jvm.MethodName) prog_4_method_9_code (3 : Nat) (Option.some Jvm.ClassFile.FieldType.boolean)) ∈ lw_all := lw_g (lw_at lw_m3 34 rfl) rfl
theorem q629 : (Jvm.Cond.methodLink "GuildCharter$Reader" (90 : Nat) ({ cls := "java/lang/String", name := "hashCode", desc := "()I" } : Jvm.MethodName)) ∈ lw_all := lw_g (lw_at lw_m3 35 rfl) rfl
theorem q682 : (Jvm.Cond.stringRef "GuildCharter$Reader" (95 : Nat) "pair") ∈ lw_tbl := lw_at lw_m3 88 rfl
theorem q683 : (Jvm.Cond.stringRef "GuildCharter$Reader" (97 : Nat) "rule") ∈ lw_tbl := lw_at lw_m3 89 rfl
theorem q684 : (Jvm.Cond.stringRef "GuildCharter$Reader" (99 : Nat) "or") ∈ lw_tbl := lw_at lw_m3 90 rfl
theorem q685 : (Jvm.Cond.stringRef "GuildCharter$Reader" (101 : Nat) "length") ∈ lw_tbl := lw_at lw_m3 91 rfl
theorem q686 : (Jvm.Cond.stringRef "GuildCharter$Reader" (103 : Nat) "turns") ∈ lw_tbl := lw_at lw_m3 92 rfl
theorem q687 : (Jvm.Cond.methodLink "GuildCharter$Reader" (83 : Nat) ({ cls := "GuildCharter$Reader", name := "wrong", desc := "()LGuildCharter$Wrong;" } : Jvm.MethodName)) ∈ lw_all := lw_g (lw_at lw_m3 93 rfl) rfl
theorem q688 : (Jvm.Cond.privateMethod ({ cls := "GuildCharter$Reader", name := "wrong", desc := "()LGuildCharter$Wrong;" } : Jvm.MethodName)) ∈ lw_tbl := lw_at lw_m3 94 rfl
theorem q689 : (Jvm.Cond.instanceMethod ({ cls := "GuildCharter$Reader", name := "wrong", desc := "()LGuildCharter$Wrong;" } : Jvm.MethodName)) ∈ lw_all := lw_g (lw_at lw_m3 95 rfl) rfl
theorem q690 : (Jvm.Cond.code ({ cls := "GuildCharter$Reader", name := "wrong", desc := "()LGuildCharter$Wrong;" } : Jvm.MethodName) prog_4_method_6_code (1 : Nat) (Option.some (Jvm.ClassFile.FieldType.object "GuildCharter$Wrong"))) ∈ lw_all := lw_g (lw_at lw_m3 96 rfl) rfl
theorem q691 : (Jvm.Cond.classLink "GuildCharter$Reader" (72 : Nat) "GuildCharter$Wrong") ∈ lw_all := lw_g (lw_at lw_m3 97 rfl) rfl
theorem q728 : (Jvm.Cond.methodLink "GuildCharter$Reader" (74 : Nat) ({ cls := "GuildCharter$Wrong", name := "<init>", desc := "(II)V" } : Jvm.MethodName)) ∈ lw_all := lw_g (lw_at lw_m3 134 rfl) rfl
theorem q758 : (Jvm.Cond.methodLink "GuildCharter$Reader" (109 : Nat) ({ cls := "GuildCharter$Port", name := "word", desc := "(Ljava/lang/String;)I" } : Jvm.MethodName)) ∈ lw_all := lw_g (lw_at lw_m3 164 rfl) rfl
theorem q777 : (Jvm.Cond.methodLink "GuildCharter$Reader" (112 : Nat) ({ cls := "GuildCharter$Port", name := "rule", desc := "(Ljava/lang/String;)I" } : Jvm.MethodName)) ∈ lw_all := lw_g (lw_at lw_m3 183 rfl) rfl
theorem q782 : (Jvm.Cond.methodLink "GuildCharter$Reader" (161 : Nat) ({ cls := "GuildCharter$Reader", name := "three", desc := "([II)V" } : Jvm.MethodName)) ∈ lw_all := lw_g (lw_at lw_m3 188 rfl) rfl
theorem q783 : (Jvm.Cond.privateMethod ({ cls := "GuildCharter$Reader", name := "three", desc := "([II)V" } : Jvm.MethodName)) ∈ lw_tbl := lw_at lw_m3 189 rfl
theorem q784 : (Jvm.Cond.instanceMethod ({ cls := "GuildCharter$Reader", name := "three", desc := "([II)V" } : Jvm.MethodName)) ∈ lw_all := lw_g (lw_at lw_m3 190 rfl) rfl
theorem q785 : (Jvm.Cond.code ({ cls := "GuildCharter$Reader", name := "three", desc := "([II)V" } : Jvm.MethodName) prog_4_method_12_code (4 : Nat) (Option.none : Option Jvm.ClassFile.FieldType)) ∈ lw_all := lw_g (lw_at lw_m3 191 rfl) rfl
theorem q786 : (Jvm.Cond.methodLink "GuildCharter$Reader" (151 : Nat) ({ cls := "GuildCharter$Reader", name := "number", desc := "(II)I" } : Jvm.MethodName)) ∈ lw_all := lw_g (lw_at lw_m3 192 rfl) rfl
theorem q787 : (Jvm.Cond.privateMethod ({ cls := "GuildCharter$Reader", name := "number", desc := "(II)I" } : Jvm.MethodName)) ∈ lw_tbl := lw_at lw_m3 193 rfl
theorem q788 : (Jvm.Cond.instanceMethod ({ cls := "GuildCharter$Reader", name := "number", desc := "(II)I" } : Jvm.MethodName)) ∈ lw_all := lw_g (lw_at lw_m3 194 rfl) rfl
theorem q789 : (Jvm.Cond.code ({ cls := "GuildCharter$Reader", name := "number", desc := "(II)I" } : Jvm.MethodName) prog_4_method_8_code (4 : Nat) (Option.some Jvm.ClassFile.FieldType.int)) ∈ lw_all := lw_g (lw_at lw_m3 195 rfl) rfl
theorem q790 : (Jvm.Cond.methodLink "GuildCharter$Reader" (165 : Nat) ({ cls := "java/util/ArrayList", name := "add", desc := "(Ljava/lang/Object;)Z" } : Jvm.MethodName)) ∈ lw_all := lw_g (lw_at lw_m3 196 rfl) rfl
theorem q818 : (Jvm.Cond.selects "GuildCharter$Reader" ({ cls := "java/lang/Object", name := "getClass", desc := "()Ljava/lang/Class;" } : Jvm.MethodName) ({ cls := "java/lang/Object", name := "getClass", desc := "()Ljava/lang/Class;" } : Jvm.MethodName)) ∈ lw_all := lw_g (lw_at lw_m3 224 rfl) rfl
theorem q834 : (Jvm.Cond.methodLink "GuildCharter$Reader" (132 : Nat) ({ cls := "GuildCharter$Reader", name := "pair", desc := "()V" } : Jvm.MethodName)) ∈ lw_all := lw_g (lw_at lw_m4 0 rfl) rfl
theorem q835 : (Jvm.Cond.privateMethod ({ cls := "GuildCharter$Reader", name := "pair", desc := "()V" } : Jvm.MethodName)) ∈ lw_tbl := lw_at lw_m4 1 rfl
theorem q836 : (Jvm.Cond.instanceMethod ({ cls := "GuildCharter$Reader", name := "pair", desc := "()V" } : Jvm.MethodName)) ∈ lw_all := lw_g (lw_at lw_m4 2 rfl) rfl
theorem q837 : (Jvm.Cond.code ({ cls := "GuildCharter$Reader", name := "pair", desc := "()V" } : Jvm.MethodName) prog_4_method_15_code (3 : Nat) (Option.none : Option Jvm.ClassFile.FieldType)) ∈ lw_all := lw_g (lw_at lw_m4 3 rfl) rfl
theorem q838 : (Jvm.Cond.methodLink "GuildCharter$Reader" (168 : Nat) ({ cls := "GuildCharter$Reader", name := "old", desc := "()I" } : Jvm.MethodName)) ∈ lw_all := lw_g (lw_at lw_m4 4 rfl) rfl
theorem q839 : (Jvm.Cond.privateMethod ({ cls := "GuildCharter$Reader", name := "old", desc := "()I" } : Jvm.MethodName)) ∈ lw_tbl := lw_at lw_m4 5 rfl
theorem q840 : (Jvm.Cond.instanceMethod ({ cls := "GuildCharter$Reader", name := "old", desc := "()I" } : Jvm.MethodName)) ∈ lw_all := lw_g (lw_at lw_m4 6 rfl) rfl
theorem q841 : (Jvm.Cond.code ({ cls := "GuildCharter$Reader", name := "old", desc := "()I" } : Jvm.MethodName) prog_4_method_14_code (2 : Nat) (Option.some Jvm.ClassFile.FieldType.int)) ∈ lw_all := lw_g (lw_at lw_m4 7 rfl) rfl
theorem q842 : (Jvm.Cond.methodLink "GuildCharter$Reader" (137 : Nat) ({ cls := "GuildCharter$Reader", name := "rule", desc := "()V" } : Jvm.MethodName)) ∈ lw_all := lw_g (lw_at lw_m4 8 rfl) rfl
theorem q843 : (Jvm.Cond.privateMethod ({ cls := "GuildCharter$Reader", name := "rule", desc := "()V" } : Jvm.MethodName)) ∈ lw_tbl := lw_at lw_m4 9 rfl
theorem q844 : (Jvm.Cond.instanceMethod ({ cls := "GuildCharter$Reader", name := "rule", desc := "()V" } : Jvm.MethodName)) ∈ lw_all := lw_g (lw_at lw_m4 10 rfl) rfl
theorem q845 : (Jvm.Cond.code ({ cls := "GuildCharter$Reader", name := "rule", desc := "()V" } : Jvm.MethodName) prog_4_method_16_code (2 : Nat) (Option.none : Option Jvm.ClassFile.FieldType)) ∈ lw_all := lw_g (lw_at lw_m4 11 rfl) rfl
theorem q846 : (Jvm.Cond.classLink "GuildCharter$Reader" (178 : Nat) "GuildCharter$Rule") ∈ lw_all := lw_g (lw_at lw_m4 12 rfl) rfl
theorem q848 : (Jvm.Cond.methodLink "GuildCharter$Reader" (180 : Nat) ({ cls := "GuildCharter$Rule", name := "<init>", desc := "(Ljava/lang/String;)V" } : Jvm.MethodName)) ∈ lw_all := lw_g (lw_at lw_m4 14 rfl) rfl
theorem q858 : (Jvm.Cond.fieldLink "GuildCharter$Reader" (183 : Nat) "GuildCharter$Rule" "alts" "Ljava/util/ArrayList;") ∈ lw_all := lw_g (lw_at lw_m4 24 rfl) rfl
theorem q864 : (Jvm.Cond.methodLink "GuildCharter$Reader" (186 : Nat) ({ cls := "GuildCharter$Reader", name := "alt", desc := "()LGuildCharter$Alt;" } : Jvm.MethodName)) ∈ lw_all := lw_g (lw_at lw_m4 30 rfl) rfl
theorem q865 : (Jvm.Cond.privateMethod ({ cls := "GuildCharter$Reader", name := "alt", desc := "()LGuildCharter$Alt;" } : Jvm.MethodName)) ∈ lw_tbl := lw_at lw_m4 31 rfl
theorem q866 : (Jvm.Cond.instanceMethod ({ cls := "GuildCharter$Reader", name := "alt", desc := "()LGuildCharter$Alt;" } : Jvm.MethodName)) ∈ lw_all := lw_g (lw_at lw_m4 32 rfl) rfl
theorem q867 : (Jvm.Cond.code ({ cls := "GuildCharter$Reader", name := "alt", desc := "()LGuildCharter$Alt;" } : Jvm.MethodName) prog_4_method_17_code (2 : Nat) (Option.some (Jvm.ClassFile.FieldType.object "GuildCharter$Alt"))) ∈ lw_all := lw_g (lw_at lw_m4 33 rfl) rfl
theorem q868 : (Jvm.Cond.classLink "GuildCharter$Reader" (192 : Nat) "GuildCharter$Alt") ∈ lw_all := lw_g (lw_at lw_m4 34 rfl) rfl
theorem q870 : (Jvm.Cond.methodLinkNest "GuildCharter$Reader" (194 : Nat) ({ cls := "GuildCharter$Alt", name := "<init>", desc := "()V" } : Jvm.MethodName) "GuildCharter") ∈ lw_tbl := lw_at lw_m4 36 rfl
theorem q877 : (Jvm.Cond.fieldLink "GuildCharter$Reader" (195 : Nat) "GuildCharter$Alt" "names" "Ljava/util/ArrayList;") ∈ lw_all := lw_g (lw_at lw_m4 43 rfl) rfl
theorem q879 : (Jvm.Cond.fieldLink "GuildCharter$Reader" (198 : Nat) "GuildCharter$Alt" "places" "[I") ∈ lw_all := lw_g (lw_at lw_m4 45 rfl) rfl
theorem q882 : (Jvm.Cond.fieldLink "GuildCharter$Reader" (207 : Nat) "GuildCharter$Alt" "parts" "[I") ∈ lw_all := lw_g (lw_at lw_m4 48 rfl) rfl
theorem q890 : (Jvm.Cond.methodLink "GuildCharter$Reader" (141 : Nat) ({ cls := "GuildCharter$Reader", name := "length", desc := "()V" } : Jvm.MethodName)) ∈ lw_all := lw_g (lw_at lw_m4 56 rfl) rfl
theorem q891 : (Jvm.Cond.privateMethod ({ cls := "GuildCharter$Reader", name := "length", desc := "()V" } : Jvm.MethodName)) ∈ lw_tbl := lw_at lw_m4 57 rfl
theorem q892 : (Jvm.Cond.instanceMethod ({ cls := "GuildCharter$Reader", name := "length", desc := "()V" } : Jvm.MethodName)) ∈ lw_all := lw_g (lw_at lw_m4 58 rfl) rfl
theorem q893 : (Jvm.Cond.code ({ cls := "GuildCharter$Reader", name := "length", desc := "()V" } : Jvm.MethodName) prog_4_method_18_code (1 : Nat) (Option.none : Option Jvm.ClassFile.FieldType)) ∈ lw_all := lw_g (lw_at lw_m4 59 rfl) rfl
theorem q894 : (Jvm.Cond.methodLink "GuildCharter$Reader" (146 : Nat) ({ cls := "GuildCharter$Reader", name := "turns", desc := "()V" } : Jvm.MethodName)) ∈ lw_all := lw_g (lw_at lw_m4 60 rfl) rfl
theorem q895 : (Jvm.Cond.privateMethod ({ cls := "GuildCharter$Reader", name := "turns", desc := "()V" } : Jvm.MethodName)) ∈ lw_tbl := lw_at lw_m4 61 rfl
theorem q896 : (Jvm.Cond.instanceMethod ({ cls := "GuildCharter$Reader", name := "turns", desc := "()V" } : Jvm.MethodName)) ∈ lw_all := lw_g (lw_at lw_m4 62 rfl) rfl
theorem q897 : (Jvm.Cond.code ({ cls := "GuildCharter$Reader", name := "turns", desc := "()V" } : Jvm.MethodName) prog_4_method_19_code (1 : Nat) (Option.none : Option Jvm.ClassFile.FieldType)) ∈ lw_all := lw_g (lw_at lw_m4 63 rfl) rfl
theorem q898 : (Jvm.Cond.methodLink "GuildCharter$Reader" (148 : Nat) ({ cls := "GuildCharter$Reader", name := "bind", desc := "(I)V" } : Jvm.MethodName)) ∈ lw_all := lw_g (lw_at lw_m4 64 rfl) rfl
theorem q899 : (Jvm.Cond.privateMethod ({ cls := "GuildCharter$Reader", name := "bind", desc := "(I)V" } : Jvm.MethodName)) ∈ lw_tbl := lw_at lw_m4 65 rfl
theorem q900 : (Jvm.Cond.instanceMethod ({ cls := "GuildCharter$Reader", name := "bind", desc := "(I)V" } : Jvm.MethodName)) ∈ lw_all := lw_g (lw_at lw_m4 66 rfl) rfl
theorem q901 : (Jvm.Cond.code ({ cls := "GuildCharter$Reader", name := "bind", desc := "(I)V" } : Jvm.MethodName) prog_4_method_20_code (6 : Nat) (Option.none : Option Jvm.ClassFile.FieldType)) ∈ lw_all := lw_g (lw_at lw_m4 67 rfl) rfl
theorem q902 : (Jvm.Cond.methodLink "GuildCharter$Reader" (203 : Nat) ({ cls := "java/util/ArrayList", name := "get", desc := "(I)Ljava/lang/Object;" } : Jvm.MethodName)) ∈ lw_all := lw_g (lw_at lw_m4 68 rfl) rfl
theorem q903 : (Jvm.Cond.classLink "GuildCharter$Reader" (78 : Nat) "java/lang/String") ∈ lw_all := lw_g (lw_at lw_m4 69 rfl) rfl
theorem q904 : (Jvm.Cond.methodLink "GuildCharter$Reader" (210 : Nat) ({ cls := "GuildCharter$Reader", name := "part", desc := "(Ljava/lang/String;I)I" } : Jvm.MethodName)) ∈ lw_all := lw_g (lw_at lw_m4 70 rfl) rfl
theorem q905 : (Jvm.Cond.privateMethod ({ cls := "GuildCharter$Reader", name := "part", desc := "(Ljava/lang/String;I)I" } : Jvm.MethodName)) ∈ lw_tbl := lw_at lw_m4 71 rfl
theorem q906 : (Jvm.Cond.instanceMethod ({ cls := "GuildCharter$Reader", name := "part", desc := "(Ljava/lang/String;I)I" } : Jvm.MethodName)) ∈ lw_all := lw_g (lw_at lw_m4 72 rfl) rfl
theorem q907 : (Jvm.Cond.code ({ cls := "GuildCharter$Reader", name := "part", desc := "(Ljava/lang/String;I)I" } : Jvm.MethodName) prog_4_method_21_code (5 : Nat) (Option.some Jvm.ClassFile.FieldType.int)) ∈ lw_all := lw_g (lw_at lw_m4 73 rfl) rfl
theorem q1905 : (Jvm.Cond.castable "GuildCharter$Reader" "java/lang/Object") ∈ lw_tbl := lw_at lw_m8 111 rfl
theorem in_X3 : ∀ w ∈ wsX30, w ∈ lw_all := lw_in wsX30 [376, 378, 380, 382, 384, 386, 388] (by decide +kernel) (by decide +kernel)
/-! GuildCharter$Wrong -/
set_option maxRecDepth 100000
def RX4 : String := "GuildCharter$Wrong"
def TX4 : u_T := fun k => match k with
  | 0 => ("java/lang/Throwable", "cause", "Ljava/lang/Throwable;", false)
  | 1 => ("java/lang/Throwable", "stackTrace", "[Ljava/lang/StackTraceElement;", false)
  | 2 => ("java/lang/Throwable", "suppressedExceptions", "Ljava/util/List;", false)
  | 3 => ("java/lang/Throwable", "detailMessage", "Ljava/lang/String;", false)
  | 4 => ("java/lang/Throwable", "backtrace", "Ljava/lang/Object;", false)
  | 5 => ("java/lang/Throwable", "depth", "I", false)
  | 6 => ("GuildCharter$Wrong", "kind", "I", true)
  | _ => ("GuildCharter$Wrong", "place", "I", true)
def tyX4 : Nat → FieldType := fun k => match k with
  | 0 => .object "java/lang/Throwable"
  | 1 => .array (.object "java/lang/StackTraceElement")
  | 2 => .object "java/util/List"
  | 3 => .object "java/lang/String"
  | 4 => .object "java/lang/Object"
  | 5 => .int
  | 6 => .int
  | _ => .int
abbrev wsX40 : List Cond := u_ws RX4 TX4 8
theorem nmX4 : ∀ a, a < 8 → ∀ b, b < 8 → a ≠ b → (TX4 a).2.1 ≠ (TX4 b).2.1 := by decide +kernel
theorem tyX4_ok : ∀ k, k < 8 → parseFieldDescriptor (TX4 k).2.2.1 = some (tyX4 k) := by decide +kernel
abbrev cX4_init : ByteArray := prog_7_method_1_code
def yX4_init : MethodName := ⟨RX4, "<init>", "(II)V"⟩
def dkwX4_init_0 : List UInt8 := [42, 1, 1, 3, 3, 183, 0, 1, 42, 27, 181, 0, 7, 42, 28, 181, 0, 13, 177]
abbrev dktX4_init_0 : List UInt8 := dkwX4_init_0 ++ []
theorem dksX4_init_0 : cX4_init.data.toList.drop 0 = dktX4_init_0 := by decide +kernel
theorem dX4_init_0 : decode cX4_init 0 = .ok (.aload_n 0, 1) := dk_42 (dk_at dksX4_init_0 0 rfl rfl)
theorem dX4_init_1 : decode cX4_init 1 = .ok (.aconst_null, 1) := dk_1 (dk_at dksX4_init_0 1 rfl rfl)
theorem dX4_init_2 : decode cX4_init 2 = .ok (.aconst_null, 1) := dk_1 (dk_at dksX4_init_0 2 rfl rfl)
theorem dX4_init_3 : decode cX4_init 3 = .ok (.iconst 0, 1) := dk_3 (dk_at dksX4_init_0 3 rfl rfl)
theorem dX4_init_4 : decode cX4_init 4 = .ok (.iconst 0, 1) := dk_3 (dk_at dksX4_init_0 4 rfl rfl)
theorem dX4_init_5 : decode cX4_init 5 = .ok (.invokespecial 1, 3) := dk_183 0 1 (dk_at dksX4_init_0 5 rfl rfl)
theorem dX4_init_8 : decode cX4_init 8 = .ok (.aload_n 0, 1) := dk_42 (dk_at dksX4_init_0 8 rfl rfl)
theorem dX4_init_9 : decode cX4_init 9 = .ok (.iload_n 1, 1) := dk_27 (dk_at dksX4_init_0 9 rfl rfl)
theorem dX4_init_10 : decode cX4_init 10 = .ok (.putfield 7, 3) := dk_181 0 7 (dk_at dksX4_init_0 10 rfl rfl)
theorem dX4_init_13 : decode cX4_init 13 = .ok (.aload_n 0, 1) := dk_42 (dk_at dksX4_init_0 13 rfl rfl)
theorem dX4_init_14 : decode cX4_init 14 = .ok (.iload_n 2, 1) := dk_28 (dk_at dksX4_init_0 14 rfl rfl)
theorem dX4_init_15 : decode cX4_init 15 = .ok (.putfield 13, 3) := dk_181 0 13 (dk_at dksX4_init_0 15 rfl rfl)
theorem dX4_init_18 : decode cX4_init 18 = .ok (.return_, 1) := dk_177 (dk_at dksX4_init_0 18 rfl rfl)
theorem q134 : (Jvm.Cond.initialized "GuildCharter$Wrong") ∈ lw_all := lw_g (lw_at lw_m1 20 rfl) rfl
theorem q692 : (Jvm.Cond.instantiable "GuildCharter$Wrong" (8 : Nat)) ∈ lw_all := lw_g (lw_at lw_m3 98 rfl) rfl
theorem q693 : (Jvm.Cond.castable "GuildCharter$Wrong" "GuildCharter$Wrong") ∈ lw_tbl := lw_at lw_m3 99 rfl
theorem q698 : (Jvm.Cond.selects "GuildCharter$Wrong" ({ cls := "java/lang/Throwable", name := "fillInStackTrace", desc := "(I)Ljava/lang/Throwable;" } : Jvm.MethodName) ({ cls := "java/lang/Throwable", name := "fillInStackTrace", desc := "(I)Ljava/lang/Throwable;" } : Jvm.MethodName)) ∈ lw_all := lw_g (lw_at lw_m3 104 rfl) rfl
theorem q699 : (Jvm.Cond.selects "GuildCharter$Wrong" ({ cls := "java/lang/Throwable", name := "fillInStackTrace", desc := "()Ljava/lang/Throwable;" } : Jvm.MethodName) ({ cls := "java/lang/Throwable", name := "fillInStackTrace", desc := "()Ljava/lang/Throwable;" } : Jvm.MethodName)) ∈ lw_all := lw_g (lw_at lw_m3 105 rfl) rfl
theorem q700 : (Jvm.Cond.lays "GuildCharter$Wrong" "java/lang/Throwable" "cause" "Ljava/lang/Throwable;") ∈ lw_all := lw_g (lw_at lw_m3 106 rfl) rfl
theorem q702 : (Jvm.Cond.lays "GuildCharter$Wrong" "java/lang/Throwable" "stackTrace" "[Ljava/lang/StackTraceElement;") ∈ lw_all := lw_g (lw_at lw_m3 108 rfl) rfl
theorem q704 : (Jvm.Cond.lays "GuildCharter$Wrong" "java/lang/Throwable" "suppressedExceptions" "Ljava/util/List;") ∈ lw_all := lw_g (lw_at lw_m3 110 rfl) rfl
theorem q706 : (Jvm.Cond.lays "GuildCharter$Wrong" "java/lang/Throwable" "detailMessage" "Ljava/lang/String;") ∈ lw_all := lw_g (lw_at lw_m3 112 rfl) rfl
theorem q708 : (Jvm.Cond.lays "GuildCharter$Wrong" "java/lang/Throwable" "backtrace" "Ljava/lang/Object;") ∈ lw_all := lw_g (lw_at lw_m3 114 rfl) rfl
theorem q729 : (Jvm.Cond.instanceMethod ({ cls := "GuildCharter$Wrong", name := "<init>", desc := "(II)V" } : Jvm.MethodName)) ∈ lw_all := lw_g (lw_at lw_m3 135 rfl) rfl
theorem q730 : (Jvm.Cond.code ({ cls := "GuildCharter$Wrong", name := "<init>", desc := "(II)V" } : Jvm.MethodName) prog_7_method_1_code (3 : Nat) (Option.none : Option Jvm.ClassFile.FieldType)) ∈ lw_all := lw_g (lw_at lw_m3 136 rfl) rfl
theorem q731 : (Jvm.Cond.methodLink "GuildCharter$Wrong" (1 : Nat) ({ cls := "java/lang/Exception", name := "<init>", desc := "(Ljava/lang/String;Ljava/lang/Throwable;ZZ)V" } : Jvm.MethodName)) ∈ lw_all := lw_g (lw_at lw_m3 137 rfl) rfl
theorem q737 : (Jvm.Cond.fieldLink "GuildCharter$Wrong" (7 : Nat) "GuildCharter$Wrong" "kind" "I") ∈ lw_all := lw_g (lw_at lw_m3 143 rfl) rfl
theorem q739 : (Jvm.Cond.fieldLink "GuildCharter$Wrong" (13 : Nat) "GuildCharter$Wrong" "place" "I") ∈ lw_all := lw_g (lw_at lw_m3 145 rfl) rfl
theorem q746 : (Jvm.Cond.laysFinal "GuildCharter$Wrong" "GuildCharter$Wrong" "kind" "I") ∈ lw_all := lw_g (lw_at lw_m3 152 rfl) rfl
theorem q747 : (Jvm.Cond.soleField "GuildCharter$Wrong" "kind") ∈ lw_all := lw_g (lw_at lw_m3 153 rfl) rfl
theorem q748 : (Jvm.Cond.laysFinal "GuildCharter$Wrong" "GuildCharter$Wrong" "place" "I") ∈ lw_all := lw_g (lw_at lw_m3 154 rfl) rfl
theorem q749 : (Jvm.Cond.soleField "GuildCharter$Wrong" "place") ∈ lw_all := lw_g (lw_at lw_m3 155 rfl) rfl
theorem q754 : (Jvm.Cond.lays "GuildCharter$Wrong" "java/lang/Throwable" "depth" "I") ∈ lw_all := lw_g (lw_at lw_m3 160 rfl) rfl
theorem q757 : (Jvm.Cond.superclass "GuildCharter$Wrong" "java/lang/Exception") ∈ lw_all := lw_g (lw_at lw_m3 163 rfl) rfl
theorem q821 : (Jvm.Cond.selects "GuildCharter$Wrong" ({ cls := "java/lang/Object", name := "getClass", desc := "()Ljava/lang/Class;" } : Jvm.MethodName) ({ cls := "java/lang/Object", name := "getClass", desc := "()Ljava/lang/Class;" } : Jvm.MethodName)) ∈ lw_all := lw_g (lw_at lw_m3 227 rfl) rfl
theorem q1909 : (Jvm.Cond.castable "GuildCharter$Wrong" "java/lang/Object") ∈ lw_tbl := lw_at lw_m8 115 rfl
theorem in_X4 : ∀ w ∈ wsX40, w ∈ lw_all := lw_in wsX40 [700, 702, 704, 706, 708, 754, 746, 748] (by decide +kernel) (by decide +kernel)
/-! GuildCharter$Rule -/
set_option maxRecDepth 100000
def RX5 : String := "GuildCharter$Rule"
def TX5 : u_T := fun k => match k with
  | 0 => ("GuildCharter$Rule", "name", "Ljava/lang/String;", true)
  | _ => ("GuildCharter$Rule", "alts", "Ljava/util/ArrayList;", true)
def tyX5 : Nat → FieldType := fun k => match k with
  | 0 => .object "java/lang/String"
  | _ => .object "java/util/ArrayList"
abbrev wsX50 : List Cond := u_ws RX5 TX5 2
theorem nmX5 : ∀ a, a < 2 → ∀ b, b < 2 → a ≠ b → (TX5 a).2.1 ≠ (TX5 b).2.1 := by decide +kernel
theorem tyX5_ok : ∀ k, k < 2 → parseFieldDescriptor (TX5 k).2.2.1 = some (tyX5 k) := by decide +kernel
abbrev cX5_init : ByteArray := prog_5_method_1_code
def yX5_init : MethodName := ⟨RX5, "<init>", "(Ljava/lang/String;)V"⟩
def dkwX5_init_0 : List UInt8 := [42, 183, 0, 1, 42, 187, 0, 7, 89, 5, 183, 0, 9, 181, 0, 12, 42, 43, 181, 0, 18, 177]
abbrev dktX5_init_0 : List UInt8 := dkwX5_init_0 ++ []
theorem dksX5_init_0 : cX5_init.data.toList.drop 0 = dktX5_init_0 := by decide +kernel
theorem dX5_init_0 : decode cX5_init 0 = .ok (.aload_n 0, 1) := dk_42 (dk_at dksX5_init_0 0 rfl rfl)
theorem dX5_init_1 : decode cX5_init 1 = .ok (.invokespecial 1, 3) := dk_183 0 1 (dk_at dksX5_init_0 1 rfl rfl)
theorem dX5_init_4 : decode cX5_init 4 = .ok (.aload_n 0, 1) := dk_42 (dk_at dksX5_init_0 4 rfl rfl)
theorem dX5_init_5 : decode cX5_init 5 = .ok (.new 7, 3) := dk_187 0 7 (dk_at dksX5_init_0 5 rfl rfl)
theorem dX5_init_8 : decode cX5_init 8 = .ok (.dup, 1) := dk_89 (dk_at dksX5_init_0 8 rfl rfl)
theorem dX5_init_9 : decode cX5_init 9 = .ok (.iconst 2, 1) := dk_5 (dk_at dksX5_init_0 9 rfl rfl)
theorem dX5_init_10 : decode cX5_init 10 = .ok (.invokespecial 9, 3) := dk_183 0 9 (dk_at dksX5_init_0 10 rfl rfl)
theorem dX5_init_13 : decode cX5_init 13 = .ok (.putfield 12, 3) := dk_181 0 12 (dk_at dksX5_init_0 13 rfl rfl)
theorem dX5_init_16 : decode cX5_init 16 = .ok (.aload_n 0, 1) := dk_42 (dk_at dksX5_init_0 16 rfl rfl)
theorem dX5_init_17 : decode cX5_init 17 = .ok (.aload_n 1, 1) := dk_43 (dk_at dksX5_init_0 17 rfl rfl)
theorem dX5_init_18 : decode cX5_init 18 = .ok (.putfield 18, 3) := dk_181 0 18 (dk_at dksX5_init_0 18 rfl rfl)
theorem dX5_init_21 : decode cX5_init 21 = .ok (.return_, 1) := dk_177 (dk_at dksX5_init_0 21 rfl rfl)
theorem q136 : (Jvm.Cond.initialized "GuildCharter$Rule") ∈ lw_all := lw_g (lw_at lw_m1 22 rfl) rfl
theorem q819 : (Jvm.Cond.selects "GuildCharter$Rule" ({ cls := "java/lang/Object", name := "getClass", desc := "()Ljava/lang/Class;" } : Jvm.MethodName) ({ cls := "java/lang/Object", name := "getClass", desc := "()Ljava/lang/Class;" } : Jvm.MethodName)) ∈ lw_all := lw_g (lw_at lw_m3 225 rfl) rfl
theorem q847 : (Jvm.Cond.instantiable "GuildCharter$Rule" (2 : Nat)) ∈ lw_all := lw_g (lw_at lw_m4 13 rfl) rfl
theorem q849 : (Jvm.Cond.instanceMethod ({ cls := "GuildCharter$Rule", name := "<init>", desc := "(Ljava/lang/String;)V" } : Jvm.MethodName)) ∈ lw_all := lw_g (lw_at lw_m4 15 rfl) rfl
theorem q850 : (Jvm.Cond.code ({ cls := "GuildCharter$Rule", name := "<init>", desc := "(Ljava/lang/String;)V" } : Jvm.MethodName) prog_5_method_1_code (2 : Nat) (Option.none : Option Jvm.ClassFile.FieldType)) ∈ lw_all := lw_g (lw_at lw_m4 16 rfl) rfl
theorem q851 : (Jvm.Cond.methodLink "GuildCharter$Rule" (1 : Nat) ({ cls := "java/lang/Object", name := "<init>", desc := "()V" } : Jvm.MethodName)) ∈ lw_all := lw_g (lw_at lw_m4 17 rfl) rfl
theorem q852 : (Jvm.Cond.classLink "GuildCharter$Rule" (7 : Nat) "java/util/ArrayList") ∈ lw_all := lw_g (lw_at lw_m4 18 rfl) rfl
theorem q853 : (Jvm.Cond.methodLink "GuildCharter$Rule" (9 : Nat) ({ cls := "java/util/ArrayList", name := "<init>", desc := "(I)V" } : Jvm.MethodName)) ∈ lw_all := lw_g (lw_at lw_m4 19 rfl) rfl
theorem q854 : (Jvm.Cond.fieldLink "GuildCharter$Rule" (18 : Nat) "GuildCharter$Rule" "name" "Ljava/lang/String;") ∈ lw_all := lw_g (lw_at lw_m4 20 rfl) rfl
theorem q856 : (Jvm.Cond.fieldLink "GuildCharter$Rule" (12 : Nat) "GuildCharter$Rule" "alts" "Ljava/util/ArrayList;") ∈ lw_all := lw_g (lw_at lw_m4 22 rfl) rfl
theorem q859 : (Jvm.Cond.laysFinal "GuildCharter$Rule" "GuildCharter$Rule" "name" "Ljava/lang/String;") ∈ lw_all := lw_g (lw_at lw_m4 25 rfl) rfl
theorem q860 : (Jvm.Cond.soleField "GuildCharter$Rule" "name") ∈ lw_all := lw_g (lw_at lw_m4 26 rfl) rfl
theorem q861 : (Jvm.Cond.laysFinal "GuildCharter$Rule" "GuildCharter$Rule" "alts" "Ljava/util/ArrayList;") ∈ lw_all := lw_g (lw_at lw_m4 27 rfl) rfl
theorem q862 : (Jvm.Cond.soleField "GuildCharter$Rule" "alts") ∈ lw_all := lw_g (lw_at lw_m4 28 rfl) rfl
theorem q863 : (Jvm.Cond.superclass "GuildCharter$Rule" "java/lang/Object") ∈ lw_all := lw_g (lw_at lw_m4 29 rfl) rfl
theorem q1910 : (Jvm.Cond.castable "GuildCharter$Rule" "java/lang/Object") ∈ lw_tbl := lw_at lw_m8 116 rfl
theorem in_X5 : ∀ w ∈ wsX50, w ∈ lw_all := lw_in wsX50 [859, 861] (by decide +kernel) (by decide +kernel)
/-! GuildCharter$Alt -/
set_option maxRecDepth 100000
def RX6 : String := "GuildCharter$Alt"
def TX6 : u_T := fun k => match k with
  | 0 => ("GuildCharter$Alt", "names", "Ljava/util/ArrayList;", true)
  | 1 => ("GuildCharter$Alt", "places", "[I", true)
  | _ => ("GuildCharter$Alt", "parts", "[I", false)
def tyX6 : Nat → FieldType := fun k => match k with
  | 0 => .object "java/util/ArrayList"
  | 1 => .array .int
  | _ => .array .int
abbrev wsX60 : List Cond := u_ws RX6 TX6 3
theorem nmX6 : ∀ a, a < 3 → ∀ b, b < 3 → a ≠ b → (TX6 a).2.1 ≠ (TX6 b).2.1 := by decide +kernel
theorem tyX6_ok : ∀ k, k < 3 → parseFieldDescriptor (TX6 k).2.2.1 = some (tyX6 k) := by decide +kernel
abbrev cX6_init : ByteArray := prog_2_method_1_code
def yX6_init : MethodName := ⟨RX6, "<init>", "()V"⟩
def dkwX6_init_1 : List UInt8 := [3, 188, 10, 181, 0, 24, 177]
abbrev dktX6_init_1 : List UInt8 := dkwX6_init_1 ++ []
def dkwX6_init_0 : List UInt8 := [42, 183, 0, 3, 42, 187, 0, 9, 89, 5, 183, 0, 11, 181, 0, 14, 42, 7, 188, 10, 181, 0, 20, 42]
abbrev dktX6_init_0 : List UInt8 := dkwX6_init_0 ++ dktX6_init_1
theorem dksX6_init_0 : cX6_init.data.toList.drop 0 = dktX6_init_0 := by decide +kernel
theorem dksX6_init_1 : cX6_init.data.toList.drop 24 = dktX6_init_1 := dk_seg dksX6_init_0 24 rfl rfl
theorem dX6_init_0 : decode cX6_init 0 = .ok (.aload_n 0, 1) := dk_42 (dk_at dksX6_init_0 0 rfl rfl)
theorem dX6_init_1 : decode cX6_init 1 = .ok (.invokespecial 3, 3) := dk_183 0 3 (dk_at dksX6_init_0 1 rfl rfl)
theorem dX6_init_4 : decode cX6_init 4 = .ok (.aload_n 0, 1) := dk_42 (dk_at dksX6_init_0 4 rfl rfl)
theorem dX6_init_5 : decode cX6_init 5 = .ok (.new 9, 3) := dk_187 0 9 (dk_at dksX6_init_0 5 rfl rfl)
theorem dX6_init_8 : decode cX6_init 8 = .ok (.dup, 1) := dk_89 (dk_at dksX6_init_0 8 rfl rfl)
theorem dX6_init_9 : decode cX6_init 9 = .ok (.iconst 2, 1) := dk_5 (dk_at dksX6_init_0 9 rfl rfl)
theorem dX6_init_10 : decode cX6_init 10 = .ok (.invokespecial 11, 3) := dk_183 0 11 (dk_at dksX6_init_0 10 rfl rfl)
theorem dX6_init_13 : decode cX6_init 13 = .ok (.putfield 14, 3) := dk_181 0 14 (dk_at dksX6_init_0 13 rfl rfl)
theorem dX6_init_16 : decode cX6_init 16 = .ok (.aload_n 0, 1) := dk_42 (dk_at dksX6_init_0 16 rfl rfl)
theorem dX6_init_17 : decode cX6_init 17 = .ok (.iconst 4, 1) := dk_7 (dk_at dksX6_init_0 17 rfl rfl)
theorem dX6_init_18 : decode cX6_init 18 = .ok (.newarray .int, 2) := dk_188_10 (dk_at dksX6_init_0 18 rfl rfl)
theorem dX6_init_20 : decode cX6_init 20 = .ok (.putfield 20, 3) := dk_181 0 20 (dk_at dksX6_init_0 20 rfl rfl)
theorem dX6_init_23 : decode cX6_init 23 = .ok (.aload_n 0, 1) := dk_42 (dk_at dksX6_init_0 23 rfl rfl)
theorem dX6_init_24 : decode cX6_init 24 = .ok (.iconst 0, 1) := dk_3 (dk_at dksX6_init_1 0 rfl rfl)
theorem dX6_init_25 : decode cX6_init 25 = .ok (.newarray .int, 2) := dk_188_10 (dk_at dksX6_init_1 1 rfl rfl)
theorem dX6_init_27 : decode cX6_init 27 = .ok (.putfield 24, 3) := dk_181 0 24 (dk_at dksX6_init_1 3 rfl rfl)
theorem dX6_init_30 : decode cX6_init 30 = .ok (.return_, 1) := dk_177 (dk_at dksX6_init_1 6 rfl rfl)
theorem q137 : (Jvm.Cond.initialized "GuildCharter$Alt") ∈ lw_all := lw_g (lw_at lw_m1 23 rfl) rfl
theorem q816 : (Jvm.Cond.selects "GuildCharter$Alt" ({ cls := "java/lang/Object", name := "getClass", desc := "()Ljava/lang/Class;" } : Jvm.MethodName) ({ cls := "java/lang/Object", name := "getClass", desc := "()Ljava/lang/Class;" } : Jvm.MethodName)) ∈ lw_all := lw_g (lw_at lw_m3 222 rfl) rfl
theorem q869 : (Jvm.Cond.instantiable "GuildCharter$Alt" (3 : Nat)) ∈ lw_all := lw_g (lw_at lw_m4 35 rfl) rfl
theorem q871 : (Jvm.Cond.instanceMethod ({ cls := "GuildCharter$Alt", name := "<init>", desc := "()V" } : Jvm.MethodName)) ∈ lw_all := lw_g (lw_at lw_m4 37 rfl) rfl
theorem q872 : (Jvm.Cond.code ({ cls := "GuildCharter$Alt", name := "<init>", desc := "()V" } : Jvm.MethodName) prog_2_method_1_code (1 : Nat) (Option.none : Option Jvm.ClassFile.FieldType)) ∈ lw_all := lw_g (lw_at lw_m4 38 rfl) rfl
theorem q873 : (Jvm.Cond.methodLink "GuildCharter$Alt" (3 : Nat) ({ cls := "java/lang/Object", name := "<init>", desc := "()V" } : Jvm.MethodName)) ∈ lw_all := lw_g (lw_at lw_m4 39 rfl) rfl
theorem q874 : (Jvm.Cond.classLink "GuildCharter$Alt" (9 : Nat) "java/util/ArrayList") ∈ lw_all := lw_g (lw_at lw_m4 40 rfl) rfl
theorem q875 : (Jvm.Cond.methodLink "GuildCharter$Alt" (11 : Nat) ({ cls := "java/util/ArrayList", name := "<init>", desc := "(I)V" } : Jvm.MethodName)) ∈ lw_all := lw_g (lw_at lw_m4 41 rfl) rfl
theorem q876 : (Jvm.Cond.fieldLink "GuildCharter$Alt" (14 : Nat) "GuildCharter$Alt" "names" "Ljava/util/ArrayList;") ∈ lw_all := lw_g (lw_at lw_m4 42 rfl) rfl
theorem q878 : (Jvm.Cond.fieldLink "GuildCharter$Alt" (20 : Nat) "GuildCharter$Alt" "places" "[I") ∈ lw_all := lw_g (lw_at lw_m4 44 rfl) rfl
theorem q880 : (Jvm.Cond.fieldLink "GuildCharter$Alt" (24 : Nat) "GuildCharter$Alt" "parts" "[I") ∈ lw_all := lw_g (lw_at lw_m4 46 rfl) rfl
theorem q883 : (Jvm.Cond.laysFinal "GuildCharter$Alt" "GuildCharter$Alt" "names" "Ljava/util/ArrayList;") ∈ lw_all := lw_g (lw_at lw_m4 49 rfl) rfl
theorem q884 : (Jvm.Cond.soleField "GuildCharter$Alt" "names") ∈ lw_all := lw_g (lw_at lw_m4 50 rfl) rfl
theorem q885 : (Jvm.Cond.laysFinal "GuildCharter$Alt" "GuildCharter$Alt" "places" "[I") ∈ lw_all := lw_g (lw_at lw_m4 51 rfl) rfl
theorem q886 : (Jvm.Cond.soleField "GuildCharter$Alt" "places") ∈ lw_all := lw_g (lw_at lw_m4 52 rfl) rfl
theorem q887 : (Jvm.Cond.lays "GuildCharter$Alt" "GuildCharter$Alt" "parts" "[I") ∈ lw_all := lw_g (lw_at lw_m4 53 rfl) rfl
theorem q888 : (Jvm.Cond.soleField "GuildCharter$Alt" "parts") ∈ lw_all := lw_g (lw_at lw_m4 54 rfl) rfl
theorem q889 : (Jvm.Cond.superclass "GuildCharter$Alt" "java/lang/Object") ∈ lw_all := lw_g (lw_at lw_m4 55 rfl) rfl
theorem q1911 : (Jvm.Cond.castable "GuildCharter$Alt" "java/lang/Object") ∈ lw_tbl := lw_at lw_m8 117 rfl
theorem in_X6 : ∀ w ∈ wsX60, w ∈ lw_all := lw_in wsX60 [883, 885, 887] (by decide +kernel) (by decide +kernel)
/-! GuildCharter$Seen -/
set_option maxRecDepth 100000
def RX7 : String := "GuildCharter$Seen"
def TX7 : u_T := fun k => match k with
  | 0 => ("GuildCharter$Seen", "place", "I", true)
  | 1 => ("GuildCharter$Seen", "word", "I", true)
  | 2 => ("GuildCharter$Seen", "told", "I", true)
  | 3 => ("GuildCharter$Seen", "stood", "Z", true)
  | _ => ("GuildCharter$Seen", "untold", "I", false)
def tyX7 : Nat → FieldType := fun k => match k with
  | 0 => .int
  | 1 => .int
  | 2 => .int
  | 3 => .boolean
  | _ => .int
abbrev wsX70 : List Cond := u_ws RX7 TX7 5
theorem nmX7 : ∀ a, a < 5 → ∀ b, b < 5 → a ≠ b → (TX7 a).2.1 ≠ (TX7 b).2.1 := by decide +kernel
theorem tyX7_ok : ∀ k, k < 5 → parseFieldDescriptor (TX7 k).2.2.1 = some (tyX7 k) := by decide +kernel
abbrev cX7_init : ByteArray := prog_6_method_1_code
def yX7_init : MethodName := ⟨RX7, "<init>", "(IIZI)V"⟩
def dkwX7_init_1 : List UInt8 := [42, 21, 4, 181, 0, 25, 177]
abbrev dktX7_init_1 : List UInt8 := dkwX7_init_1 ++ []
def dkwX7_init_0 : List UInt8 := [42, 183, 0, 3, 42, 2, 181, 0, 9, 42, 27, 181, 0, 15, 42, 28, 181, 0, 18, 42, 29, 181, 0, 21]
abbrev dktX7_init_0 : List UInt8 := dkwX7_init_0 ++ dktX7_init_1
theorem dksX7_init_0 : cX7_init.data.toList.drop 0 = dktX7_init_0 := by decide +kernel
theorem dksX7_init_1 : cX7_init.data.toList.drop 24 = dktX7_init_1 := dk_seg dksX7_init_0 24 rfl rfl
theorem dX7_init_0 : decode cX7_init 0 = .ok (.aload_n 0, 1) := dk_42 (dk_at dksX7_init_0 0 rfl rfl)
theorem dX7_init_1 : decode cX7_init 1 = .ok (.invokespecial 3, 3) := dk_183 0 3 (dk_at dksX7_init_0 1 rfl rfl)
theorem dX7_init_4 : decode cX7_init 4 = .ok (.aload_n 0, 1) := dk_42 (dk_at dksX7_init_0 4 rfl rfl)
theorem dX7_init_5 : decode cX7_init 5 = .ok (.iconst (-1), 1) := dk_2 (dk_at dksX7_init_0 5 rfl rfl)
theorem dX7_init_6 : decode cX7_init 6 = .ok (.putfield 9, 3) := dk_181 0 9 (dk_at dksX7_init_0 6 rfl rfl)
theorem dX7_init_9 : decode cX7_init 9 = .ok (.aload_n 0, 1) := dk_42 (dk_at dksX7_init_0 9 rfl rfl)
theorem dX7_init_10 : decode cX7_init 10 = .ok (.iload_n 1, 1) := dk_27 (dk_at dksX7_init_0 10 rfl rfl)
theorem dX7_init_11 : decode cX7_init 11 = .ok (.putfield 15, 3) := dk_181 0 15 (dk_at dksX7_init_0 11 rfl rfl)
theorem dX7_init_14 : decode cX7_init 14 = .ok (.aload_n 0, 1) := dk_42 (dk_at dksX7_init_0 14 rfl rfl)
theorem dX7_init_15 : decode cX7_init 15 = .ok (.iload_n 2, 1) := dk_28 (dk_at dksX7_init_0 15 rfl rfl)
theorem dX7_init_16 : decode cX7_init 16 = .ok (.putfield 18, 3) := dk_181 0 18 (dk_at dksX7_init_0 16 rfl rfl)
theorem dX7_init_19 : decode cX7_init 19 = .ok (.aload_n 0, 1) := dk_42 (dk_at dksX7_init_0 19 rfl rfl)
theorem dX7_init_20 : decode cX7_init 20 = .ok (.iload_n 3, 1) := dk_29 (dk_at dksX7_init_0 20 rfl rfl)
theorem dX7_init_21 : decode cX7_init 21 = .ok (.putfield 21, 3) := dk_181 0 21 (dk_at dksX7_init_0 21 rfl rfl)
theorem dX7_init_24 : decode cX7_init 24 = .ok (.aload_n 0, 1) := dk_42 (dk_at dksX7_init_1 0 rfl rfl)
theorem dX7_init_25 : decode cX7_init 25 = .ok (.iload 4, 2) := dk_21 4 (dk_at dksX7_init_1 1 rfl rfl)
theorem dX7_init_27 : decode cX7_init 27 = .ok (.putfield 25, 3) := dk_181 0 25 (dk_at dksX7_init_1 3 rfl rfl)
theorem dX7_init_30 : decode cX7_init 30 = .ok (.return_, 1) := dk_177 (dk_at dksX7_init_1 6 rfl rfl)
abbrev cX7_untell : ByteArray := prog_6_method_2_code
def yX7_untell : MethodName := ⟨RX7, "untell", "(I)Z"⟩
def dkwX7_untell_0 : List UInt8 := [42, 180, 0, 9, 155, 0, 5, 3, 172, 42, 27, 181, 0, 9, 4, 172]
abbrev dktX7_untell_0 : List UInt8 := dkwX7_untell_0 ++ []
theorem dksX7_untell_0 : cX7_untell.data.toList.drop 0 = dktX7_untell_0 := by decide +kernel
theorem dX7_untell_0 : decode cX7_untell 0 = .ok (.aload_n 0, 1) := dk_42 (dk_at dksX7_untell_0 0 rfl rfl)
theorem dX7_untell_1 : decode cX7_untell 1 = .ok (.getfield 9, 3) := dk_180 0 9 (dk_at dksX7_untell_0 1 rfl rfl)
theorem dX7_untell_4 : decode cX7_untell 4 = .ok (.ifCond .lt 5, 3) := dk_155 0 5 (dk_at dksX7_untell_0 4 rfl rfl)
theorem dX7_untell_7 : decode cX7_untell 7 = .ok (.iconst 0, 1) := dk_3 (dk_at dksX7_untell_0 7 rfl rfl)
theorem dX7_untell_8 : decode cX7_untell 8 = .ok (.ireturn, 1) := dk_172 (dk_at dksX7_untell_0 8 rfl rfl)
theorem dX7_untell_9 : decode cX7_untell 9 = .ok (.aload_n 0, 1) := dk_42 (dk_at dksX7_untell_0 9 rfl rfl)
theorem dX7_untell_10 : decode cX7_untell 10 = .ok (.iload_n 1, 1) := dk_27 (dk_at dksX7_untell_0 10 rfl rfl)
theorem dX7_untell_11 : decode cX7_untell 11 = .ok (.putfield 9, 3) := dk_181 0 9 (dk_at dksX7_untell_0 11 rfl rfl)
theorem dX7_untell_14 : decode cX7_untell 14 = .ok (.iconst 1, 1) := dk_4 (dk_at dksX7_untell_0 14 rfl rfl)
theorem dX7_untell_15 : decode cX7_untell 15 = .ok (.ireturn, 1) := dk_172 (dk_at dksX7_untell_0 15 rfl rfl)
abbrev cX7_isKnown : ByteArray := prog_6_method_3_code
def yX7_isKnown : MethodName := ⟨RX7, "isKnown", "(I)Z"⟩
def dkwX7_isKnown_1 : List UInt8 := [167, 0, 4, 3, 172]
abbrev dktX7_isKnown_1 : List UInt8 := dkwX7_isKnown_1 ++ []
def dkwX7_isKnown_0 : List UInt8 := [42, 180, 0, 25, 27, 163, 0, 22, 42, 180, 0, 9, 155, 0, 11, 42, 180, 0, 9, 27, 164, 0, 7, 4]
abbrev dktX7_isKnown_0 : List UInt8 := dkwX7_isKnown_0 ++ dktX7_isKnown_1
theorem dksX7_isKnown_0 : cX7_isKnown.data.toList.drop 0 = dktX7_isKnown_0 := by decide +kernel
theorem dksX7_isKnown_1 : cX7_isKnown.data.toList.drop 24 = dktX7_isKnown_1 := dk_seg dksX7_isKnown_0 24 rfl rfl
theorem dX7_isKnown_0 : decode cX7_isKnown 0 = .ok (.aload_n 0, 1) := dk_42 (dk_at dksX7_isKnown_0 0 rfl rfl)
theorem dX7_isKnown_1 : decode cX7_isKnown 1 = .ok (.getfield 25, 3) := dk_180 0 25 (dk_at dksX7_isKnown_0 1 rfl rfl)
theorem dX7_isKnown_4 : decode cX7_isKnown 4 = .ok (.iload_n 1, 1) := dk_27 (dk_at dksX7_isKnown_0 4 rfl rfl)
theorem dX7_isKnown_5 : decode cX7_isKnown 5 = .ok (.if_icmp .gt 22, 3) := dk_163 0 22 (dk_at dksX7_isKnown_0 5 rfl rfl)
theorem dX7_isKnown_8 : decode cX7_isKnown 8 = .ok (.aload_n 0, 1) := dk_42 (dk_at dksX7_isKnown_0 8 rfl rfl)
theorem dX7_isKnown_9 : decode cX7_isKnown 9 = .ok (.getfield 9, 3) := dk_180 0 9 (dk_at dksX7_isKnown_0 9 rfl rfl)
theorem dX7_isKnown_12 : decode cX7_isKnown 12 = .ok (.ifCond .lt 11, 3) := dk_155 0 11 (dk_at dksX7_isKnown_0 12 rfl rfl)
theorem dX7_isKnown_15 : decode cX7_isKnown 15 = .ok (.aload_n 0, 1) := dk_42 (dk_at dksX7_isKnown_0 15 rfl rfl)
theorem dX7_isKnown_16 : decode cX7_isKnown 16 = .ok (.getfield 9, 3) := dk_180 0 9 (dk_at dksX7_isKnown_0 16 rfl rfl)
theorem dX7_isKnown_19 : decode cX7_isKnown 19 = .ok (.iload_n 1, 1) := dk_27 (dk_at dksX7_isKnown_0 19 rfl rfl)
theorem dX7_isKnown_20 : decode cX7_isKnown 20 = .ok (.if_icmp .le 7, 3) := dk_164 0 7 (dk_at dksX7_isKnown_0 20 rfl rfl)
theorem dX7_isKnown_23 : decode cX7_isKnown 23 = .ok (.iconst 1, 1) := dk_4 (dk_at dksX7_isKnown_0 23 rfl rfl)
theorem dX7_isKnown_24 : decode cX7_isKnown 24 = .ok (.goto 4, 3) := dk_167 0 4 (dk_at dksX7_isKnown_1 0 rfl rfl)
theorem dX7_isKnown_27 : decode cX7_isKnown 27 = .ok (.iconst 0, 1) := dk_3 (dk_at dksX7_isKnown_1 3 rfl rfl)
theorem dX7_isKnown_28 : decode cX7_isKnown 28 = .ok (.ireturn, 1) := dk_172 (dk_at dksX7_isKnown_1 4 rfl rfl)
theorem q138 : (Jvm.Cond.initialized "GuildCharter$Seen") ∈ lw_all := lw_g (lw_at lw_m1 24 rfl) rfl
theorem q820 : (Jvm.Cond.selects "GuildCharter$Seen" ({ cls := "java/lang/Object", name := "getClass", desc := "()Ljava/lang/Class;" } : Jvm.MethodName) ({ cls := "java/lang/Object", name := "getClass", desc := "()Ljava/lang/Class;" } : Jvm.MethodName)) ∈ lw_all := lw_g (lw_at lw_m3 226 rfl) rfl
theorem q1177 : (Jvm.Cond.instantiable "GuildCharter$Seen" (5 : Nat)) ∈ lw_all := lw_g (lw_at lw_m5 103 rfl) rfl
theorem q1179 : (Jvm.Cond.instanceMethod ({ cls := "GuildCharter$Seen", name := "<init>", desc := "(IIZI)V" } : Jvm.MethodName)) ∈ lw_all := lw_g (lw_at lw_m5 105 rfl) rfl
theorem q1180 : (Jvm.Cond.code ({ cls := "GuildCharter$Seen", name := "<init>", desc := "(IIZI)V" } : Jvm.MethodName) prog_6_method_1_code (5 : Nat) (Option.none : Option Jvm.ClassFile.FieldType)) ∈ lw_all := lw_g (lw_at lw_m5 106 rfl) rfl
theorem q1181 : (Jvm.Cond.methodLink "GuildCharter$Seen" (3 : Nat) ({ cls := "java/lang/Object", name := "<init>", desc := "()V" } : Jvm.MethodName)) ∈ lw_all := lw_g (lw_at lw_m5 107 rfl) rfl
theorem q1182 : (Jvm.Cond.fieldLink "GuildCharter$Seen" (15 : Nat) "GuildCharter$Seen" "place" "I") ∈ lw_all := lw_g (lw_at lw_m5 108 rfl) rfl
theorem q1184 : (Jvm.Cond.fieldLink "GuildCharter$Seen" (18 : Nat) "GuildCharter$Seen" "word" "I") ∈ lw_all := lw_g (lw_at lw_m5 110 rfl) rfl
theorem q1186 : (Jvm.Cond.fieldLink "GuildCharter$Seen" (25 : Nat) "GuildCharter$Seen" "told" "I") ∈ lw_all := lw_g (lw_at lw_m5 112 rfl) rfl
theorem q1187 : (Jvm.Cond.fieldLink "GuildCharter$Seen" (21 : Nat) "GuildCharter$Seen" "stood" "Z") ∈ lw_all := lw_g (lw_at lw_m5 113 rfl) rfl
theorem q1189 : (Jvm.Cond.fieldLink "GuildCharter$Seen" (9 : Nat) "GuildCharter$Seen" "untold" "I") ∈ lw_all := lw_g (lw_at lw_m5 115 rfl) rfl
theorem q1190 : (Jvm.Cond.laysFinal "GuildCharter$Seen" "GuildCharter$Seen" "place" "I") ∈ lw_all := lw_g (lw_at lw_m5 116 rfl) rfl
theorem q1191 : (Jvm.Cond.soleField "GuildCharter$Seen" "place") ∈ lw_all := lw_g (lw_at lw_m5 117 rfl) rfl
theorem q1192 : (Jvm.Cond.laysFinal "GuildCharter$Seen" "GuildCharter$Seen" "word" "I") ∈ lw_all := lw_g (lw_at lw_m5 118 rfl) rfl
theorem q1193 : (Jvm.Cond.soleField "GuildCharter$Seen" "word") ∈ lw_all := lw_g (lw_at lw_m5 119 rfl) rfl
theorem q1194 : (Jvm.Cond.laysFinal "GuildCharter$Seen" "GuildCharter$Seen" "told" "I") ∈ lw_all := lw_g (lw_at lw_m5 120 rfl) rfl
theorem q1195 : (Jvm.Cond.soleField "GuildCharter$Seen" "told") ∈ lw_all := lw_g (lw_at lw_m5 121 rfl) rfl
theorem q1196 : (Jvm.Cond.laysFinal "GuildCharter$Seen" "GuildCharter$Seen" "stood" "Z") ∈ lw_all := lw_g (lw_at lw_m5 122 rfl) rfl
theorem q1197 : (Jvm.Cond.soleField "GuildCharter$Seen" "stood") ∈ lw_all := lw_g (lw_at lw_m5 123 rfl) rfl
theorem q1198 : (Jvm.Cond.lays "GuildCharter$Seen" "GuildCharter$Seen" "untold" "I") ∈ lw_all := lw_g (lw_at lw_m5 124 rfl) rfl
theorem q1199 : (Jvm.Cond.soleField "GuildCharter$Seen" "untold") ∈ lw_all := lw_g (lw_at lw_m5 125 rfl) rfl
theorem q1200 : (Jvm.Cond.superclass "GuildCharter$Seen" "java/lang/Object") ∈ lw_all := lw_g (lw_at lw_m5 126 rfl) rfl
theorem q1207 : (Jvm.Cond.instanceMethod ({ cls := "GuildCharter$Seen", name := "untell", desc := "(I)Z" } : Jvm.MethodName)) ∈ lw_all := lw_g (lw_at lw_m5 133 rfl) rfl
theorem q1208 : (Jvm.Cond.selects "GuildCharter$Seen" ({ cls := "GuildCharter$Seen", name := "untell", desc := "(I)Z" } : Jvm.MethodName) ({ cls := "GuildCharter$Seen", name := "untell", desc := "(I)Z" } : Jvm.MethodName)) ∈ lw_all := lw_g (lw_at lw_m5 134 rfl) rfl
theorem q1209 : (Jvm.Cond.code ({ cls := "GuildCharter$Seen", name := "untell", desc := "(I)Z" } : Jvm.MethodName) prog_6_method_2_code (2 : Nat) (Option.some Jvm.ClassFile.FieldType.boolean)) ∈ lw_all := lw_g (lw_at lw_m5 135 rfl) rfl
theorem q1224 : (Jvm.Cond.instanceMethod ({ cls := "GuildCharter$Seen", name := "isKnown", desc := "(I)Z" } : Jvm.MethodName)) ∈ lw_all := lw_g (lw_at lw_m5 150 rfl) rfl
theorem q1225 : (Jvm.Cond.selects "GuildCharter$Seen" ({ cls := "GuildCharter$Seen", name := "isKnown", desc := "(I)Z" } : Jvm.MethodName) ({ cls := "GuildCharter$Seen", name := "isKnown", desc := "(I)Z" } : Jvm.MethodName)) ∈ lw_all := lw_g (lw_at lw_m5 151 rfl) rfl
theorem q1226 : (Jvm.Cond.code ({ cls := "GuildCharter$Seen", name := "isKnown", desc := "(I)Z" } : Jvm.MethodName) prog_6_method_3_code (2 : Nat) (Option.some Jvm.ClassFile.FieldType.boolean)) ∈ lw_all := lw_g (lw_at lw_m5 152 rfl) rfl
theorem q1912 : (Jvm.Cond.castable "GuildCharter$Seen" "java/lang/Object") ∈ lw_tbl := lw_at lw_m8 118 rfl
theorem in_X7 : ∀ w ∈ wsX70, w ∈ lw_all := lw_in wsX70 [1190, 1192, 1194, 1196, 1198] (by decide +kernel) (by decide +kernel)
