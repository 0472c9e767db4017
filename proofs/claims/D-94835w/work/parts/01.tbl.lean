-- ===== PART A: goes FIRST, ahead of the names: the tables' words, and 'selects' of the private methods out of them =====
/-- a private method of a class that the tables say can be made, by its rows of tables_1 -/
def lw_okq (q : MethodName × Nat) : Prop := (q.1.cls ≠ "java/lang/invoke/MethodHandle" ∧ q.1.cls ≠ "java/lang/invoke/VarHandle") ∧ Cond.instantiable q.1.cls q.2 ∈ tables_1 ∧ Cond.privateMethod q.1 ∈ tables_1 ∧ Cond.instanceMethod q.1 ∈ tables_1
set_option maxRecDepth 100000
theorem lw_t1 {w : Cond} (h : w ∈ tables_1_1) : w ∈ tables_1 := List.mem_append_left _ h
theorem lw_t2 {w : Cond} (h : w ∈ tables_1_2) : w ∈ tables_1 := List.mem_append_right _ (List.mem_append_left _ h)
theorem lw_t3 {w : Cond} (h : w ∈ tables_1_3) : w ∈ tables_1 := List.mem_append_right _ (List.mem_append_right _ (List.mem_append_left _ h))
theorem lw_t4 {w : Cond} (h : w ∈ tables_1_4) : w ∈ tables_1 := List.mem_append_right _ (List.mem_append_right _ (List.mem_append_right _ (List.mem_append_left _ h)))
theorem lw_t5 {w : Cond} (h : w ∈ tables_1_5) : w ∈ tables_1 := List.mem_append_right _ (List.mem_append_right _ (List.mem_append_right _ (List.mem_append_right _ (List.mem_append_left _ h))))
theorem lw_t6 {w : Cond} (h : w ∈ tables_1_6) : w ∈ tables_1 := List.mem_append_right _ (List.mem_append_right _ (List.mem_append_right _ (List.mem_append_right _ (List.mem_append_right _ (List.mem_append_left _ h)))))
theorem lw_t7 {w : Cond} (h : w ∈ tables_1_7) : w ∈ tables_1 := List.mem_append_right _ (List.mem_append_right _ (List.mem_append_right _ (List.mem_append_right _ (List.mem_append_right _ (List.mem_append_right _ (List.mem_append_left _ h))))))
theorem lw_t8 {w : Cond} (h : w ∈ tables_1_8) : w ∈ tables_1 := List.mem_append_right _ (List.mem_append_right _ (List.mem_append_right _ (List.mem_append_right _ (List.mem_append_right _ (List.mem_append_right _ (List.mem_append_right _ h))))))
theorem lw_p0 : lw_okq (⟨"GuildCharter", "begin", "()V"⟩, 34) := ⟨⟨by decide +kernel, by decide +kernel⟩, lw_t1 (List.mem_of_getElem? (i := 26) rfl), lw_t1 (List.mem_of_getElem? (i := 121) rfl), lw_t1 (List.mem_of_getElem? (i := 122) rfl)⟩
theorem lw_p1 : lw_okq (⟨"GuildCharter$Reader", "go", "()V"⟩, 7) := ⟨⟨by decide +kernel, by decide +kernel⟩, lw_t2 (List.mem_of_getElem? (i := 7) rfl), lw_t2 (List.mem_of_getElem? (i := 42) rfl), lw_t2 (List.mem_of_getElem? (i := 43) rfl)⟩
theorem lw_p2 : lw_okq (⟨"GuildCharter$Reader", "here", "(I)I"⟩, 7) := ⟨⟨by decide +kernel, by decide +kernel⟩, lw_t2 (List.mem_of_getElem? (i := 7) rfl), lw_t2 (List.mem_of_getElem? (i := 46) rfl), lw_t2 (List.mem_of_getElem? (i := 47) rfl)⟩
theorem lw_p3 : lw_okq (⟨"GuildCharter$Reader", "isLetter", "(I)Z"⟩, 7) := ⟨⟨by decide +kernel, by decide +kernel⟩, lw_t2 (List.mem_of_getElem? (i := 7) rfl), lw_t2 (List.mem_of_getElem? (i := 50) rfl), lw_t2 (List.mem_of_getElem? (i := 51) rfl)⟩
theorem lw_p4 : lw_okq (⟨"GuildCharter$Reader", "isDigit", "(I)Z"⟩, 7) := ⟨⟨by decide +kernel, by decide +kernel⟩, lw_t2 (List.mem_of_getElem? (i := 7) rfl), lw_t3 (List.mem_of_getElem? (i := 3) rfl), lw_t3 (List.mem_of_getElem? (i := 4) rfl)⟩
theorem lw_p5 : lw_okq (⟨"GuildCharter$Reader", "is", "(Ljava/lang/String;)Z"⟩, 7) := ⟨⟨by decide +kernel, by decide +kernel⟩, lw_t2 (List.mem_of_getElem? (i := 7) rfl), lw_t3 (List.mem_of_getElem? (i := 8) rfl), lw_t3 (List.mem_of_getElem? (i := 9) rfl)⟩
theorem lw_p6 : lw_okq (⟨"GuildCharter$Reader", "word", "()V"⟩, 7) := ⟨⟨by decide +kernel, by decide +kernel⟩, lw_t2 (List.mem_of_getElem? (i := 7) rfl), lw_t3 (List.mem_of_getElem? (i := 24) rfl), lw_t3 (List.mem_of_getElem? (i := 25) rfl)⟩
theorem lw_p7 : lw_okq (⟨"GuildCharter$Reader", "newName", "()Ljava/lang/String;"⟩, 7) := ⟨⟨by decide +kernel, by decide +kernel⟩, lw_t2 (List.mem_of_getElem? (i := 7) rfl), lw_t3 (List.mem_of_getElem? (i := 28) rfl), lw_t3 (List.mem_of_getElem? (i := 29) rfl)⟩
theorem lw_p8 : lw_okq (⟨"GuildCharter$Reader", "isName", "()Z"⟩, 7) := ⟨⟨by decide +kernel, by decide +kernel⟩, lw_t2 (List.mem_of_getElem? (i := 7) rfl), lw_t3 (List.mem_of_getElem? (i := 32) rfl), lw_t3 (List.mem_of_getElem? (i := 33) rfl)⟩
theorem lw_p9 : lw_okq (⟨"GuildCharter$Reader", "wrong", "()LGuildCharter$Wrong;"⟩, 7) := ⟨⟨by decide +kernel, by decide +kernel⟩, lw_t2 (List.mem_of_getElem? (i := 7) rfl), lw_t3 (List.mem_of_getElem? (i := 94) rfl), lw_t3 (List.mem_of_getElem? (i := 95) rfl)⟩
theorem lw_p10 : lw_okq (⟨"java/lang/Throwable", "fillInStackTrace", "(I)Ljava/lang/Throwable;"⟩, 6) := ⟨⟨by decide +kernel, by decide +kernel⟩, lw_t3 (List.mem_of_getElem? (i := 132) rfl), lw_t3 (List.mem_of_getElem? (i := 130) rfl), lw_t3 (List.mem_of_getElem? (i := 131) rfl)⟩
theorem lw_p11 : lw_okq (⟨"GuildCharter$Reader", "three", "([II)V"⟩, 7) := ⟨⟨by decide +kernel, by decide +kernel⟩, lw_t2 (List.mem_of_getElem? (i := 7) rfl), lw_t3 (List.mem_of_getElem? (i := 189) rfl), lw_t3 (List.mem_of_getElem? (i := 190) rfl)⟩
theorem lw_p12 : lw_okq (⟨"GuildCharter$Reader", "number", "(II)I"⟩, 7) := ⟨⟨by decide +kernel, by decide +kernel⟩, lw_t2 (List.mem_of_getElem? (i := 7) rfl), lw_t3 (List.mem_of_getElem? (i := 193) rfl), lw_t3 (List.mem_of_getElem? (i := 194) rfl)⟩
theorem lw_p13 : lw_okq (⟨"java/util/ArrayList", "add", "(Ljava/lang/Object;[Ljava/lang/Object;I)V"⟩, 3) := ⟨⟨by decide +kernel, by decide +kernel⟩, lw_t1 (List.mem_of_getElem? (i := 40) rfl), lw_t3 (List.mem_of_getElem? (i := 201) rfl), lw_t3 (List.mem_of_getElem? (i := 202) rfl)⟩
theorem lw_p14 : lw_okq (⟨"java/util/ArrayList", "grow", "()[Ljava/lang/Object;"⟩, 3) := ⟨⟨by decide +kernel, by decide +kernel⟩, lw_t1 (List.mem_of_getElem? (i := 40) rfl), lw_t3 (List.mem_of_getElem? (i := 205) rfl), lw_t3 (List.mem_of_getElem? (i := 206) rfl)⟩
theorem lw_p15 : lw_okq (⟨"java/util/ArrayList", "grow", "(I)[Ljava/lang/Object;"⟩, 3) := ⟨⟨by decide +kernel, by decide +kernel⟩, lw_t1 (List.mem_of_getElem? (i := 40) rfl), lw_t3 (List.mem_of_getElem? (i := 209) rfl), lw_t3 (List.mem_of_getElem? (i := 210) rfl)⟩
def lw_privs_1 : List (MethodName × Nat) := [(⟨"GuildCharter", "begin", "()V"⟩, 34), (⟨"GuildCharter$Reader", "go", "()V"⟩, 7), (⟨"GuildCharter$Reader", "here", "(I)I"⟩, 7), (⟨"GuildCharter$Reader", "isLetter", "(I)Z"⟩, 7), (⟨"GuildCharter$Reader", "isDigit", "(I)Z"⟩, 7), (⟨"GuildCharter$Reader", "is", "(Ljava/lang/String;)Z"⟩, 7), (⟨"GuildCharter$Reader", "word", "()V"⟩, 7), (⟨"GuildCharter$Reader", "newName", "()Ljava/lang/String;"⟩, 7), (⟨"GuildCharter$Reader", "isName", "()Z"⟩, 7), (⟨"GuildCharter$Reader", "wrong", "()LGuildCharter$Wrong;"⟩, 7), (⟨"java/lang/Throwable", "fillInStackTrace", "(I)Ljava/lang/Throwable;"⟩, 6), (⟨"GuildCharter$Reader", "three", "([II)V"⟩, 7), (⟨"GuildCharter$Reader", "number", "(II)I"⟩, 7), (⟨"java/util/ArrayList", "add", "(Ljava/lang/Object;[Ljava/lang/Object;I)V"⟩, 3), (⟨"java/util/ArrayList", "grow", "()[Ljava/lang/Object;"⟩, 3), (⟨"java/util/ArrayList", "grow", "(I)[Ljava/lang/Object;"⟩, 3)]
theorem lw_r1 : ∀ q ∈ lw_privs_1, lw_okq q := List.forall_mem_cons.mpr ⟨lw_p0, List.forall_mem_cons.mpr ⟨lw_p1, List.forall_mem_cons.mpr ⟨lw_p2, List.forall_mem_cons.mpr ⟨lw_p3, List.forall_mem_cons.mpr ⟨lw_p4, List.forall_mem_cons.mpr ⟨lw_p5, List.forall_mem_cons.mpr ⟨lw_p6, List.forall_mem_cons.mpr ⟨lw_p7, List.forall_mem_cons.mpr ⟨lw_p8, List.forall_mem_cons.mpr ⟨lw_p9, List.forall_mem_cons.mpr ⟨lw_p10, List.forall_mem_cons.mpr ⟨lw_p11, List.forall_mem_cons.mpr ⟨lw_p12, List.forall_mem_cons.mpr ⟨lw_p13, List.forall_mem_cons.mpr ⟨lw_p14, List.forall_mem_cons.mpr ⟨lw_p15, fun _ h => absurd h List.not_mem_nil⟩⟩⟩⟩⟩⟩⟩⟩⟩⟩⟩⟩⟩⟩⟩⟩
theorem lw_p16 : lw_okq (⟨"GuildCharter$Reader", "pair", "()V"⟩, 7) := ⟨⟨by decide +kernel, by decide +kernel⟩, lw_t2 (List.mem_of_getElem? (i := 7) rfl), lw_t4 (List.mem_of_getElem? (i := 1) rfl), lw_t4 (List.mem_of_getElem? (i := 2) rfl)⟩
theorem lw_p17 : lw_okq (⟨"GuildCharter$Reader", "old", "()I"⟩, 7) := ⟨⟨by decide +kernel, by decide +kernel⟩, lw_t2 (List.mem_of_getElem? (i := 7) rfl), lw_t4 (List.mem_of_getElem? (i := 5) rfl), lw_t4 (List.mem_of_getElem? (i := 6) rfl)⟩
theorem lw_p18 : lw_okq (⟨"GuildCharter$Reader", "rule", "()V"⟩, 7) := ⟨⟨by decide +kernel, by decide +kernel⟩, lw_t2 (List.mem_of_getElem? (i := 7) rfl), lw_t4 (List.mem_of_getElem? (i := 9) rfl), lw_t4 (List.mem_of_getElem? (i := 10) rfl)⟩
theorem lw_p19 : lw_okq (⟨"GuildCharter$Reader", "alt", "()LGuildCharter$Alt;"⟩, 7) := ⟨⟨by decide +kernel, by decide +kernel⟩, lw_t2 (List.mem_of_getElem? (i := 7) rfl), lw_t4 (List.mem_of_getElem? (i := 31) rfl), lw_t4 (List.mem_of_getElem? (i := 32) rfl)⟩
theorem lw_p20 : lw_okq (⟨"GuildCharter$Reader", "length", "()V"⟩, 7) := ⟨⟨by decide +kernel, by decide +kernel⟩, lw_t2 (List.mem_of_getElem? (i := 7) rfl), lw_t4 (List.mem_of_getElem? (i := 57) rfl), lw_t4 (List.mem_of_getElem? (i := 58) rfl)⟩
theorem lw_p21 : lw_okq (⟨"GuildCharter$Reader", "turns", "()V"⟩, 7) := ⟨⟨by decide +kernel, by decide +kernel⟩, lw_t2 (List.mem_of_getElem? (i := 7) rfl), lw_t4 (List.mem_of_getElem? (i := 61) rfl), lw_t4 (List.mem_of_getElem? (i := 62) rfl)⟩
theorem lw_p22 : lw_okq (⟨"GuildCharter$Reader", "bind", "(I)V"⟩, 7) := ⟨⟨by decide +kernel, by decide +kernel⟩, lw_t2 (List.mem_of_getElem? (i := 7) rfl), lw_t4 (List.mem_of_getElem? (i := 65) rfl), lw_t4 (List.mem_of_getElem? (i := 66) rfl)⟩
theorem lw_p23 : lw_okq (⟨"GuildCharter$Reader", "part", "(Ljava/lang/String;I)I"⟩, 7) := ⟨⟨by decide +kernel, by decide +kernel⟩, lw_t2 (List.mem_of_getElem? (i := 7) rfl), lw_t4 (List.mem_of_getElem? (i := 71) rfl), lw_t4 (List.mem_of_getElem? (i := 72) rfl)⟩
theorem lw_p24 : lw_okq (⟨"GuildCharter", "isWord", "(I)Z"⟩, 34) := ⟨⟨by decide +kernel, by decide +kernel⟩, lw_t1 (List.mem_of_getElem? (i := 26) rfl), lw_t4 (List.mem_of_getElem? (i := 88) rfl), lw_t4 (List.mem_of_getElem? (i := 89) rfl)⟩
theorem lw_p25 : lw_okq (⟨"GuildCharter", "exchange", "([I)V"⟩, 34) := ⟨⟨by decide +kernel, by decide +kernel⟩, lw_t1 (List.mem_of_getElem? (i := 26) rfl), lw_t4 (List.mem_of_getElem? (i := 107) rfl), lw_t4 (List.mem_of_getElem? (i := 108) rfl)⟩
theorem lw_p26 : lw_okq (⟨"GuildCharter", "isPlace", "(I)Z"⟩, 34) := ⟨⟨by decide +kernel, by decide +kernel⟩, lw_t1 (List.mem_of_getElem? (i := 26) rfl), lw_t4 (List.mem_of_getElem? (i := 119) rfl), lw_t4 (List.mem_of_getElem? (i := 120) rfl)⟩
theorem lw_p27 : lw_okq (⟨"GuildCharter", "canCome", "(I)Z"⟩, 34) := ⟨⟨by decide +kernel, by decide +kernel⟩, lw_t1 (List.mem_of_getElem? (i := 26) rfl), lw_t4 (List.mem_of_getElem? (i := 131) rfl), lw_t4 (List.mem_of_getElem? (i := 132) rfl)⟩
theorem lw_p28 : lw_okq (⟨"GuildCharter", "load", "([II)V"⟩, 34) := ⟨⟨by decide +kernel, by decide +kernel⟩, lw_t1 (List.mem_of_getElem? (i := 26) rfl), lw_t4 (List.mem_of_getElem? (i := 135) rfl), lw_t4 (List.mem_of_getElem? (i := 136) rfl)⟩
theorem lw_p29 : lw_okq (⟨"GuildCharter", "canGoOn", "(I)Z"⟩, 34) := ⟨⟨by decide +kernel, by decide +kernel⟩, lw_t1 (List.mem_of_getElem? (i := 26) rfl), lw_t4 (List.mem_of_getElem? (i := 140) rfl), lw_t4 (List.mem_of_getElem? (i := 141) rfl)⟩
theorem lw_p30 : lw_okq (⟨"GuildCharter", "readings", "(I)J"⟩, 34) := ⟨⟨by decide +kernel, by decide +kernel⟩, lw_t1 (List.mem_of_getElem? (i := 26) rfl), lw_t4 (List.mem_of_getElem? (i := 144) rfl), lw_t4 (List.mem_of_getElem? (i := 145) rfl)⟩
theorem lw_p31 : lw_okq (⟨"GuildCharter", "reads", "(III)J"⟩, 34) := ⟨⟨by decide +kernel, by decide +kernel⟩, lw_t1 (List.mem_of_getElem? (i := 26) rfl), lw_t4 (List.mem_of_getElem? (i := 159) rfl), lw_t4 (List.mem_of_getElem? (i := 160) rfl)⟩
def lw_privs_2 : List (MethodName × Nat) := [(⟨"GuildCharter$Reader", "pair", "()V"⟩, 7), (⟨"GuildCharter$Reader", "old", "()I"⟩, 7), (⟨"GuildCharter$Reader", "rule", "()V"⟩, 7), (⟨"GuildCharter$Reader", "alt", "()LGuildCharter$Alt;"⟩, 7), (⟨"GuildCharter$Reader", "length", "()V"⟩, 7), (⟨"GuildCharter$Reader", "turns", "()V"⟩, 7), (⟨"GuildCharter$Reader", "bind", "(I)V"⟩, 7), (⟨"GuildCharter$Reader", "part", "(Ljava/lang/String;I)I"⟩, 7), (⟨"GuildCharter", "isWord", "(I)Z"⟩, 34), (⟨"GuildCharter", "exchange", "([I)V"⟩, 34), (⟨"GuildCharter", "isPlace", "(I)Z"⟩, 34), (⟨"GuildCharter", "canCome", "(I)Z"⟩, 34), (⟨"GuildCharter", "load", "([II)V"⟩, 34), (⟨"GuildCharter", "canGoOn", "(I)Z"⟩, 34), (⟨"GuildCharter", "readings", "(I)J"⟩, 34), (⟨"GuildCharter", "reads", "(III)J"⟩, 34)]
theorem lw_r2 : ∀ q ∈ lw_privs_2, lw_okq q := List.forall_mem_cons.mpr ⟨lw_p16, List.forall_mem_cons.mpr ⟨lw_p17, List.forall_mem_cons.mpr ⟨lw_p18, List.forall_mem_cons.mpr ⟨lw_p19, List.forall_mem_cons.mpr ⟨lw_p20, List.forall_mem_cons.mpr ⟨lw_p21, List.forall_mem_cons.mpr ⟨lw_p22, List.forall_mem_cons.mpr ⟨lw_p23, List.forall_mem_cons.mpr ⟨lw_p24, List.forall_mem_cons.mpr ⟨lw_p25, List.forall_mem_cons.mpr ⟨lw_p26, List.forall_mem_cons.mpr ⟨lw_p27, List.forall_mem_cons.mpr ⟨lw_p28, List.forall_mem_cons.mpr ⟨lw_p29, List.forall_mem_cons.mpr ⟨lw_p30, List.forall_mem_cons.mpr ⟨lw_p31, fun _ h => absurd h List.not_mem_nil⟩⟩⟩⟩⟩⟩⟩⟩⟩⟩⟩⟩⟩⟩⟩⟩
theorem lw_p32 : lw_okq (⟨"GuildCharter", "act", "()V"⟩, 34) := ⟨⟨by decide +kernel, by decide +kernel⟩, lw_t1 (List.mem_of_getElem? (i := 26) rfl), lw_t4 (List.mem_of_getElem? (i := 169) rfl), lw_t4 (List.mem_of_getElem? (i := 170) rfl)⟩
theorem lw_p33 : lw_okq (⟨"GuildCharter", "meaning", "([III)I"⟩, 34) := ⟨⟨by decide +kernel, by decide +kernel⟩, lw_t1 (List.mem_of_getElem? (i := 26) rfl), lw_t4 (List.mem_of_getElem? (i := 197) rfl), lw_t4 (List.mem_of_getElem? (i := 198) rfl)⟩
theorem lw_p34 : lw_okq (⟨"GuildCharter", "layTree", "([II[I)Z"⟩, 34) := ⟨⟨by decide +kernel, by decide +kernel⟩, lw_t1 (List.mem_of_getElem? (i := 26) rfl), lw_t4 (List.mem_of_getElem? (i := 205) rfl), lw_t4 (List.mem_of_getElem? (i := 206) rfl)⟩
theorem lw_p35 : lw_okq (⟨"GuildCharter", "write", "([II[I)I"⟩, 34) := ⟨⟨by decide +kernel, by decide +kernel⟩, lw_t1 (List.mem_of_getElem? (i := 26) rfl), lw_t4 (List.mem_of_getElem? (i := 212) rfl), lw_t4 (List.mem_of_getElem? (i := 213) rfl)⟩
theorem lw_p36 : lw_okq (⟨"GuildCharter", "isWhole", "(I)Z"⟩, 34) := ⟨⟨by decide +kernel, by decide +kernel⟩, lw_t1 (List.mem_of_getElem? (i := 26) rfl), lw_t4 (List.mem_of_getElem? (i := 216) rfl), lw_t4 (List.mem_of_getElem? (i := 217) rfl)⟩
theorem lw_p37 : lw_okq (⟨"GuildCharter", "pathOf", "(I[II)[I"⟩, 34) := ⟨⟨by decide +kernel, by decide +kernel⟩, lw_t1 (List.mem_of_getElem? (i := 26) rfl), lw_t4 (List.mem_of_getElem? (i := 220) rfl), lw_t4 (List.mem_of_getElem? (i := 221) rfl)⟩
theorem lw_p38 : lw_okq (⟨"GuildCharter", "meaningOf", "(I[III)I"⟩, 34) := ⟨⟨by decide +kernel, by decide +kernel⟩, lw_t1 (List.mem_of_getElem? (i := 26) rfl), lw_t4 (List.mem_of_getElem? (i := 224) rfl), lw_t4 (List.mem_of_getElem? (i := 225) rfl)⟩
theorem lw_p39 : lw_okq (⟨"GuildCharter", "layDown", "(I[II)V"⟩, 34) := ⟨⟨by decide +kernel, by decide +kernel⟩, lw_t1 (List.mem_of_getElem? (i := 26) rfl), lw_t4 (List.mem_of_getElem? (i := 228) rfl), lw_t4 (List.mem_of_getElem? (i := 229) rfl)⟩
theorem lw_p40 : lw_okq (⟨"GuildCharter", "hasTree", "()Z"⟩, 34) := ⟨⟨by decide +kernel, by decide +kernel⟩, lw_t1 (List.mem_of_getElem? (i := 26) rfl), lw_t4 (List.mem_of_getElem? (i := 236) rfl), lw_t4 (List.mem_of_getElem? (i := 237) rfl)⟩
theorem lw_p41 : lw_okq (⟨"GuildCharter", "hold", "(I)I"⟩, 34) := ⟨⟨by decide +kernel, by decide +kernel⟩, lw_t1 (List.mem_of_getElem? (i := 26) rfl), lw_t5 (List.mem_of_getElem? (i := 0) rfl), lw_t5 (List.mem_of_getElem? (i := 1) rfl)⟩
theorem lw_p42 : lw_okq (⟨"GuildCharter", "sumOf", "(II)I"⟩, 34) := ⟨⟨by decide +kernel, by decide +kernel⟩, lw_t1 (List.mem_of_getElem? (i := 26) rfl), lw_t5 (List.mem_of_getElem? (i := 4) rfl), lw_t5 (List.mem_of_getElem? (i := 5) rfl)⟩
theorem lw_p43 : lw_okq (⟨"GuildCharter", "doSwap", "(II)Z"⟩, 34) := ⟨⟨by decide +kernel, by decide +kernel⟩, lw_t1 (List.mem_of_getElem? (i := 26) rfl), lw_t5 (List.mem_of_getElem? (i := 25) rfl), lw_t5 (List.mem_of_getElem? (i := 26) rfl)⟩
theorem lw_p44 : lw_okq (⟨"GuildCharter", "writtenNow", "()I"⟩, 34) := ⟨⟨by decide +kernel, by decide +kernel⟩, lw_t1 (List.mem_of_getElem? (i := 26) rfl), lw_t5 (List.mem_of_getElem? (i := 29) rfl), lw_t5 (List.mem_of_getElem? (i := 30) rfl)⟩
theorem lw_p45 : lw_okq (⟨"GuildCharter", "comesBy", "(III)Z"⟩, 34) := ⟨⟨by decide +kernel, by decide +kernel⟩, lw_t1 (List.mem_of_getElem? (i := 26) rfl), lw_t5 (List.mem_of_getElem? (i := 37) rfl), lw_t5 (List.mem_of_getElem? (i := 38) rfl)⟩
theorem lw_p46 : lw_okq (⟨"GuildCharter", "layFewest", "()V"⟩, 34) := ⟨⟨by decide +kernel, by decide +kernel⟩, lw_t1 (List.mem_of_getElem? (i := 26) rfl), lw_t5 (List.mem_of_getElem? (i := 45) rfl), lw_t5 (List.mem_of_getElem? (i := 46) rfl)⟩
theorem lw_p47 : lw_okq (⟨"GuildCharter", "fewestOf", "(LGuildCharter$Alt;)I"⟩, 34) := ⟨⟨by decide +kernel, by decide +kernel⟩, lw_t1 (List.mem_of_getElem? (i := 26) rfl), lw_t5 (List.mem_of_getElem? (i := 49) rfl), lw_t5 (List.mem_of_getElem? (i := 50) rfl)⟩
def lw_privs_3 : List (MethodName × Nat) := [(⟨"GuildCharter", "act", "()V"⟩, 34), (⟨"GuildCharter", "meaning", "([III)I"⟩, 34), (⟨"GuildCharter", "layTree", "([II[I)Z"⟩, 34), (⟨"GuildCharter", "write", "([II[I)I"⟩, 34), (⟨"GuildCharter", "isWhole", "(I)Z"⟩, 34), (⟨"GuildCharter", "pathOf", "(I[II)[I"⟩, 34), (⟨"GuildCharter", "meaningOf", "(I[III)I"⟩, 34), (⟨"GuildCharter", "layDown", "(I[II)V"⟩, 34), (⟨"GuildCharter", "hasTree", "()Z"⟩, 34), (⟨"GuildCharter", "hold", "(I)I"⟩, 34), (⟨"GuildCharter", "sumOf", "(II)I"⟩, 34), (⟨"GuildCharter", "doSwap", "(II)Z"⟩, 34), (⟨"GuildCharter", "writtenNow", "()I"⟩, 34), (⟨"GuildCharter", "comesBy", "(III)Z"⟩, 34), (⟨"GuildCharter", "layFewest", "()V"⟩, 34), (⟨"GuildCharter", "fewestOf", "(LGuildCharter$Alt;)I"⟩, 34)]
theorem lw_r3 : ∀ q ∈ lw_privs_3, lw_okq q := List.forall_mem_cons.mpr ⟨lw_p32, List.forall_mem_cons.mpr ⟨lw_p33, List.forall_mem_cons.mpr ⟨lw_p34, List.forall_mem_cons.mpr ⟨lw_p35, List.forall_mem_cons.mpr ⟨lw_p36, List.forall_mem_cons.mpr ⟨lw_p37, List.forall_mem_cons.mpr ⟨lw_p38, List.forall_mem_cons.mpr ⟨lw_p39, List.forall_mem_cons.mpr ⟨lw_p40, List.forall_mem_cons.mpr ⟨lw_p41, List.forall_mem_cons.mpr ⟨lw_p42, List.forall_mem_cons.mpr ⟨lw_p43, List.forall_mem_cons.mpr ⟨lw_p44, List.forall_mem_cons.mpr ⟨lw_p45, List.forall_mem_cons.mpr ⟨lw_p46, List.forall_mem_cons.mpr ⟨lw_p47, fun _ h => absurd h List.not_mem_nil⟩⟩⟩⟩⟩⟩⟩⟩⟩⟩⟩⟩⟩⟩⟩⟩
theorem lw_p48 : lw_okq (⟨"GuildCharter", "comesTo", "(I)I"⟩, 34) := ⟨⟨by decide +kernel, by decide +kernel⟩, lw_t1 (List.mem_of_getElem? (i := 26) rfl), lw_t5 (List.mem_of_getElem? (i := 57) rfl), lw_t5 (List.mem_of_getElem? (i := 58) rfl)⟩
theorem lw_p49 : lw_okq (⟨"GuildCharter", "writeBy", "(I)I"⟩, 34) := ⟨⟨by decide +kernel, by decide +kernel⟩, lw_t1 (List.mem_of_getElem? (i := 26) rfl), lw_t5 (List.mem_of_getElem? (i := 69) rfl), lw_t5 (List.mem_of_getElem? (i := 70) rfl)⟩
theorem lw_p50 : lw_okq (⟨"GuildCharter", "canStrike", "(II)Z"⟩, 34) := ⟨⟨by decide +kernel, by decide +kernel⟩, lw_t1 (List.mem_of_getElem? (i := 26) rfl), lw_t5 (List.mem_of_getElem? (i := 91) rfl), lw_t5 (List.mem_of_getElem? (i := 92) rfl)⟩
theorem lw_p51 : lw_okq (⟨"GuildCharter", "areSo", "([II)Z"⟩, 34) := ⟨⟨by decide +kernel, by decide +kernel⟩, lw_t1 (List.mem_of_getElem? (i := 26) rfl), lw_t5 (List.mem_of_getElem? (i := 146) rfl), lw_t5 (List.mem_of_getElem? (i := 147) rfl)⟩
theorem lw_p52 : lw_okq (⟨"GuildCharterModel", "clearBank", "()V"⟩, 71) := ⟨⟨by decide +kernel, by decide +kernel⟩, lw_t5 (List.mem_of_getElem? (i := 169) rfl), lw_t5 (List.mem_of_getElem? (i := 175) rfl), lw_t5 (List.mem_of_getElem? (i := 176) rfl)⟩
theorem lw_p53 : lw_okq (⟨"GuildCharterModel", "begin", "()V"⟩, 71) := ⟨⟨by decide +kernel, by decide +kernel⟩, lw_t5 (List.mem_of_getElem? (i := 169) rfl), lw_t5 (List.mem_of_getElem? (i := 179) rfl), lw_t5 (List.mem_of_getElem? (i := 180) rfl)⟩
theorem lw_p54 : lw_okq (⟨"GuildCharterModel", "toldTurn", "(I)I"⟩, 71) := ⟨⟨by decide +kernel, by decide +kernel⟩, lw_t5 (List.mem_of_getElem? (i := 169) rfl), lw_t5 (List.mem_of_getElem? (i := 183) rfl), lw_t5 (List.mem_of_getElem? (i := 184) rfl)⟩
theorem lw_p55 : lw_okq (⟨"GuildCharterModel", "goOn", "()V"⟩, 71) := ⟨⟨by decide +kernel, by decide +kernel⟩, lw_t5 (List.mem_of_getElem? (i := 169) rfl), lw_t6 (List.mem_of_getElem? (i := 165) rfl), lw_t6 (List.mem_of_getElem? (i := 166) rfl)⟩
theorem lw_p56 : lw_okq (⟨"GuildCharterModel", "sign", "(I)I"⟩, 71) := ⟨⟨by decide +kernel, by decide +kernel⟩, lw_t5 (List.mem_of_getElem? (i := 169) rfl), lw_t6 (List.mem_of_getElem? (i := 169) rfl), lw_t6 (List.mem_of_getElem? (i := 170) rfl)⟩
theorem lw_p57 : lw_okq (⟨"GuildCharterModel", "isGood", "()Z"⟩, 71) := ⟨⟨by decide +kernel, by decide +kernel⟩, lw_t5 (List.mem_of_getElem? (i := 169) rfl), lw_t6 (List.mem_of_getElem? (i := 188) rfl), lw_t6 (List.mem_of_getElem? (i := 189) rfl)⟩
theorem lw_p58 : lw_okq (⟨"GuildCharterModel", "readLine", "()V"⟩, 71) := ⟨⟨by decide +kernel, by decide +kernel⟩, lw_t5 (List.mem_of_getElem? (i := 169) rfl), lw_t6 (List.mem_of_getElem? (i := 192) rfl), lw_t6 (List.mem_of_getElem? (i := 193) rfl)⟩
theorem lw_p59 : lw_okq (⟨"GuildCharterModel", "isFull", "()Z"⟩, 71) := ⟨⟨by decide +kernel, by decide +kernel⟩, lw_t5 (List.mem_of_getElem? (i := 169) rfl), lw_t6 (List.mem_of_getElem? (i := 196) rfl), lw_t6 (List.mem_of_getElem? (i := 197) rfl)⟩
theorem lw_p60 : lw_okq (⟨"GuildCharterModel", "isWord", "(J)Z"⟩, 71) := ⟨⟨by decide +kernel, by decide +kernel⟩, lw_t5 (List.mem_of_getElem? (i := 169) rfl), lw_t6 (List.mem_of_getElem? (i := 200) rfl), lw_t6 (List.mem_of_getElem? (i := 201) rfl)⟩
theorem lw_p61 : lw_okq (⟨"GuildCharterModel", "misplaced", "()V"⟩, 71) := ⟨⟨by decide +kernel, by decide +kernel⟩, lw_t5 (List.mem_of_getElem? (i := 169) rfl), lw_t6 (List.mem_of_getElem? (i := 204) rfl), lw_t6 (List.mem_of_getElem? (i := 205) rfl)⟩
theorem lw_p62 : lw_okq (⟨"GuildCharterModel", "fails", "(II)V"⟩, 71) := ⟨⟨by decide +kernel, by decide +kernel⟩, lw_t5 (List.mem_of_getElem? (i := 169) rfl), lw_t6 (List.mem_of_getElem? (i := 208) rfl), lw_t6 (List.mem_of_getElem? (i := 209) rfl)⟩
theorem lw_p63 : lw_okq (⟨"GuildCharterModel", "readWord", "()V"⟩, 71) := ⟨⟨by decide +kernel, by decide +kernel⟩, lw_t5 (List.mem_of_getElem? (i := 169) rfl), lw_t6 (List.mem_of_getElem? (i := 212) rfl), lw_t6 (List.mem_of_getElem? (i := 213) rfl)⟩
def lw_privs_4 : List (MethodName × Nat) := [(⟨"GuildCharter", "comesTo", "(I)I"⟩, 34), (⟨"GuildCharter", "writeBy", "(I)I"⟩, 34), (⟨"GuildCharter", "canStrike", "(II)Z"⟩, 34), (⟨"GuildCharter", "areSo", "([II)Z"⟩, 34), (⟨"GuildCharterModel", "clearBank", "()V"⟩, 71), (⟨"GuildCharterModel", "begin", "()V"⟩, 71), (⟨"GuildCharterModel", "toldTurn", "(I)I"⟩, 71), (⟨"GuildCharterModel", "goOn", "()V"⟩, 71), (⟨"GuildCharterModel", "sign", "(I)I"⟩, 71), (⟨"GuildCharterModel", "isGood", "()Z"⟩, 71), (⟨"GuildCharterModel", "readLine", "()V"⟩, 71), (⟨"GuildCharterModel", "isFull", "()Z"⟩, 71), (⟨"GuildCharterModel", "isWord", "(J)Z"⟩, 71), (⟨"GuildCharterModel", "misplaced", "()V"⟩, 71), (⟨"GuildCharterModel", "fails", "(II)V"⟩, 71), (⟨"GuildCharterModel", "readWord", "()V"⟩, 71)]
theorem lw_r4 : ∀ q ∈ lw_privs_4, lw_okq q := List.forall_mem_cons.mpr ⟨lw_p48, List.forall_mem_cons.mpr ⟨lw_p49, List.forall_mem_cons.mpr ⟨lw_p50, List.forall_mem_cons.mpr ⟨lw_p51, List.forall_mem_cons.mpr ⟨lw_p52, List.forall_mem_cons.mpr ⟨lw_p53, List.forall_mem_cons.mpr ⟨lw_p54, List.forall_mem_cons.mpr ⟨lw_p55, List.forall_mem_cons.mpr ⟨lw_p56, List.forall_mem_cons.mpr ⟨lw_p57, List.forall_mem_cons.mpr ⟨lw_p58, List.forall_mem_cons.mpr ⟨lw_p59, List.forall_mem_cons.mpr ⟨lw_p60, List.forall_mem_cons.mpr ⟨lw_p61, List.forall_mem_cons.mpr ⟨lw_p62, List.forall_mem_cons.mpr ⟨lw_p63, fun _ h => absurd h List.not_mem_nil⟩⟩⟩⟩⟩⟩⟩⟩⟩⟩⟩⟩⟩⟩⟩⟩
theorem lw_p64 : lw_okq (⟨"GuildCharterModel", "fresh", "()J"⟩, 71) := ⟨⟨by decide +kernel, by decide +kernel⟩, lw_t5 (List.mem_of_getElem? (i := 169) rfl), lw_t6 (List.mem_of_getElem? (i := 216) rfl), lw_t6 (List.mem_of_getElem? (i := 217) rfl)⟩
theorem lw_p65 : lw_okq (⟨"GuildCharterModel", "wordOf", "(J)I"⟩, 71) := ⟨⟨by decide +kernel, by decide +kernel⟩, lw_t5 (List.mem_of_getElem? (i := 169) rfl), lw_t6 (List.mem_of_getElem? (i := 220) rfl), lw_t6 (List.mem_of_getElem? (i := 221) rfl)⟩
theorem lw_p66 : lw_okq (⟨"GuildCharterModel", "ruleOf", "(J)I"⟩, 71) := ⟨⟨by decide +kernel, by decide +kernel⟩, lw_t5 (List.mem_of_getElem? (i := 169) rfl), lw_t6 (List.mem_of_getElem? (i := 224) rfl), lw_t6 (List.mem_of_getElem? (i := 225) rfl)⟩
theorem lw_p67 : lw_okq (⟨"GuildCharterModel", "numeral", "(II)I"⟩, 71) := ⟨⟨by decide +kernel, by decide +kernel⟩, lw_t5 (List.mem_of_getElem? (i := 169) rfl), lw_t6 (List.mem_of_getElem? (i := 228) rfl), lw_t6 (List.mem_of_getElem? (i := 229) rfl)⟩
theorem lw_p68 : lw_okq (⟨"GuildCharterModel", "readPair", "()V"⟩, 71) := ⟨⟨by decide +kernel, by decide +kernel⟩, lw_t5 (List.mem_of_getElem? (i := 169) rfl), lw_t6 (List.mem_of_getElem? (i := 232) rfl), lw_t6 (List.mem_of_getElem? (i := 233) rfl)⟩
theorem lw_p69 : lw_okq (⟨"GuildCharterModel", "known", "()I"⟩, 71) := ⟨⟨by decide +kernel, by decide +kernel⟩, lw_t5 (List.mem_of_getElem? (i := 169) rfl), lw_t6 (List.mem_of_getElem? (i := 236) rfl), lw_t6 (List.mem_of_getElem? (i := 237) rfl)⟩
theorem lw_p70 : lw_okq (⟨"GuildCharterModel", "readRule", "()V"⟩, 71) := ⟨⟨by decide +kernel, by decide +kernel⟩, lw_t5 (List.mem_of_getElem? (i := 169) rfl), lw_t7 (List.mem_of_getElem? (i := 0) rfl), lw_t7 (List.mem_of_getElem? (i := 1) rfl)⟩
theorem lw_p71 : lw_okq (⟨"GuildCharterModel", "isSignHere", "(I)Z"⟩, 71) := ⟨⟨by decide +kernel, by decide +kernel⟩, lw_t5 (List.mem_of_getElem? (i := 169) rfl), lw_t7 (List.mem_of_getElem? (i := 4) rfl), lw_t7 (List.mem_of_getElem? (i := 5) rfl)⟩
theorem lw_p72 : lw_okq (⟨"GuildCharterModel", "must", "(Z)V"⟩, 71) := ⟨⟨by decide +kernel, by decide +kernel⟩, lw_t5 (List.mem_of_getElem? (i := 169) rfl), lw_t7 (List.mem_of_getElem? (i := 8) rfl), lw_t7 (List.mem_of_getElem? (i := 9) rfl)⟩
theorem lw_p73 : lw_okq (⟨"GuildCharterModel", "readAlt", "()V"⟩, 71) := ⟨⟨by decide +kernel, by decide +kernel⟩, lw_t5 (List.mem_of_getElem? (i := 169) rfl), lw_t7 (List.mem_of_getElem? (i := 12) rfl), lw_t7 (List.mem_of_getElem? (i := 13) rfl)⟩
theorem lw_p74 : lw_okq (⟨"GuildCharterModel", "readTurns", "()V"⟩, 71) := ⟨⟨by decide +kernel, by decide +kernel⟩, lw_t5 (List.mem_of_getElem? (i := 169) rfl), lw_t7 (List.mem_of_getElem? (i := 16) rfl), lw_t7 (List.mem_of_getElem? (i := 17) rfl)⟩
theorem lw_p75 : lw_okq (⟨"GuildCharterModel", "settle", "()V"⟩, 71) := ⟨⟨by decide +kernel, by decide +kernel⟩, lw_t5 (List.mem_of_getElem? (i := 169) rfl), lw_t7 (List.mem_of_getElem? (i := 20) rfl), lw_t7 (List.mem_of_getElem? (i := 21) rfl)⟩
theorem lw_p76 : lw_okq (⟨"GuildCharterModel", "isWordOf", "(I)Z"⟩, 71) := ⟨⟨by decide +kernel, by decide +kernel⟩, lw_t5 (List.mem_of_getElem? (i := 169) rfl), lw_t7 (List.mem_of_getElem? (i := 32) rfl), lw_t7 (List.mem_of_getElem? (i := 33) rfl)⟩
theorem lw_p77 : lw_okq (⟨"GuildCharterModel", "pairOf", "(III)I"⟩, 71) := ⟨⟨by decide +kernel, by decide +kernel⟩, lw_t5 (List.mem_of_getElem? (i := 169) rfl), lw_t7 (List.mem_of_getElem? (i := 47) rfl), lw_t7 (List.mem_of_getElem? (i := 48) rfl)⟩
theorem lw_p78 : lw_okq (⟨"GuildCharterModel", "isPlace", "(I)Z"⟩, 71) := ⟨⟨by decide +kernel, by decide +kernel⟩, lw_t5 (List.mem_of_getElem? (i := 169) rfl), lw_t7 (List.mem_of_getElem? (i := 55) rfl), lw_t7 (List.mem_of_getElem? (i := 56) rfl)⟩
theorem lw_p79 : lw_okq (⟨"GuildCharterModel", "longOf", "()I"⟩, 71) := ⟨⟨by decide +kernel, by decide +kernel⟩, lw_t5 (List.mem_of_getElem? (i := 169) rfl), lw_t7 (List.mem_of_getElem? (i := 59) rfl), lw_t7 (List.mem_of_getElem? (i := 60) rfl)⟩
def lw_privs_5 : List (MethodName × Nat) := [(⟨"GuildCharterModel", "fresh", "()J"⟩, 71), (⟨"GuildCharterModel", "wordOf", "(J)I"⟩, 71), (⟨"GuildCharterModel", "ruleOf", "(J)I"⟩, 71), (⟨"GuildCharterModel", "numeral", "(II)I"⟩, 71), (⟨"GuildCharterModel", "readPair", "()V"⟩, 71), (⟨"GuildCharterModel", "known", "()I"⟩, 71), (⟨"GuildCharterModel", "readRule", "()V"⟩, 71), (⟨"GuildCharterModel", "isSignHere", "(I)Z"⟩, 71), (⟨"GuildCharterModel", "must", "(Z)V"⟩, 71), (⟨"GuildCharterModel", "readAlt", "()V"⟩, 71), (⟨"GuildCharterModel", "readTurns", "()V"⟩, 71), (⟨"GuildCharterModel", "settle", "()V"⟩, 71), (⟨"GuildCharterModel", "isWordOf", "(I)Z"⟩, 71), (⟨"GuildCharterModel", "pairOf", "(III)I"⟩, 71), (⟨"GuildCharterModel", "isPlace", "(I)Z"⟩, 71), (⟨"GuildCharterModel", "longOf", "()I"⟩, 71)]
theorem lw_r5 : ∀ q ∈ lw_privs_5, lw_okq q := List.forall_mem_cons.mpr ⟨lw_p64, List.forall_mem_cons.mpr ⟨lw_p65, List.forall_mem_cons.mpr ⟨lw_p66, List.forall_mem_cons.mpr ⟨lw_p67, List.forall_mem_cons.mpr ⟨lw_p68, List.forall_mem_cons.mpr ⟨lw_p69, List.forall_mem_cons.mpr ⟨lw_p70, List.forall_mem_cons.mpr ⟨lw_p71, List.forall_mem_cons.mpr ⟨lw_p72, List.forall_mem_cons.mpr ⟨lw_p73, List.forall_mem_cons.mpr ⟨lw_p74, List.forall_mem_cons.mpr ⟨lw_p75, List.forall_mem_cons.mpr ⟨lw_p76, List.forall_mem_cons.mpr ⟨lw_p77, List.forall_mem_cons.mpr ⟨lw_p78, List.forall_mem_cons.mpr ⟨lw_p79, fun _ h => absurd h List.not_mem_nil⟩⟩⟩⟩⟩⟩⟩⟩⟩⟩⟩⟩⟩⟩⟩⟩
theorem lw_p80 : lw_okq (⟨"GuildCharterModel", "canCome", "(I)Z"⟩, 71) := ⟨⟨by decide +kernel, by decide +kernel⟩, lw_t5 (List.mem_of_getElem? (i := 169) rfl), lw_t7 (List.mem_of_getElem? (i := 71) rfl), lw_t7 (List.mem_of_getElem? (i := 72) rfl)⟩
theorem lw_p81 : lw_okq (⟨"GuildCharterModel", "tryRow", "()V"⟩, 71) := ⟨⟨by decide +kernel, by decide +kernel⟩, lw_t5 (List.mem_of_getElem? (i := 169) rfl), lw_t7 (List.mem_of_getElem? (i := 75) rfl), lw_t7 (List.mem_of_getElem? (i := 76) rfl)⟩
theorem lw_p82 : lw_okq (⟨"GuildCharterModel", "canGoOn", "(I)Z"⟩, 71) := ⟨⟨by decide +kernel, by decide +kernel⟩, lw_t5 (List.mem_of_getElem? (i := 169) rfl), lw_t7 (List.mem_of_getElem? (i := 79) rfl), lw_t7 (List.mem_of_getElem? (i := 80) rfl)⟩
theorem lw_p83 : lw_okq (⟨"GuildCharterModel", "isRead", "(I)Z"⟩, 71) := ⟨⟨by decide +kernel, by decide +kernel⟩, lw_t5 (List.mem_of_getElem? (i := 169) rfl), lw_t7 (List.mem_of_getElem? (i := 83) rfl), lw_t7 (List.mem_of_getElem? (i := 84) rfl)⟩
theorem lw_p84 : lw_okq (⟨"GuildCharterModel", "layEnds", "(I)V"⟩, 71) := ⟨⟨by decide +kernel, by decide +kernel⟩, lw_t5 (List.mem_of_getElem? (i := 169) rfl), lw_t7 (List.mem_of_getElem? (i := 87) rfl), lw_t7 (List.mem_of_getElem? (i := 88) rfl)⟩
theorem lw_p85 : lw_okq (⟨"GuildCharterModel", "doesRead", "(III)Z"⟩, 71) := ⟨⟨by decide +kernel, by decide +kernel⟩, lw_t5 (List.mem_of_getElem? (i := 169) rfl), lw_t7 (List.mem_of_getElem? (i := 91) rfl), lw_t7 (List.mem_of_getElem? (i := 92) rfl)⟩
theorem lw_p86 : lw_okq (⟨"GuildCharterModel", "endsBy", "(II)I"⟩, 71) := ⟨⟨by decide +kernel, by decide +kernel⟩, lw_t5 (List.mem_of_getElem? (i := 169) rfl), lw_t7 (List.mem_of_getElem? (i := 95) rfl), lw_t7 (List.mem_of_getElem? (i := 96) rfl)⟩
theorem lw_p87 : lw_okq (⟨"GuildCharterModel", "readingsOf", "(I)J"⟩, 71) := ⟨⟨by decide +kernel, by decide +kernel⟩, lw_t5 (List.mem_of_getElem? (i := 169) rfl), lw_t7 (List.mem_of_getElem? (i := 103) rfl), lw_t7 (List.mem_of_getElem? (i := 104) rfl)⟩
theorem lw_p88 : lw_okq (⟨"GuildCharterModel", "waysBy", "(III)J"⟩, 71) := ⟨⟨by decide +kernel, by decide +kernel⟩, lw_t5 (List.mem_of_getElem? (i := 169) rfl), lw_t7 (List.mem_of_getElem? (i := 107) rfl), lw_t7 (List.mem_of_getElem? (i := 108) rfl)⟩
theorem lw_p89 : lw_okq (⟨"GuildCharterModel", "meansOf", "(II)I"⟩, 71) := ⟨⟨by decide +kernel, by decide +kernel⟩, lw_t5 (List.mem_of_getElem? (i := 169) rfl), lw_t7 (List.mem_of_getElem? (i := 119) rfl), lw_t7 (List.mem_of_getElem? (i := 120) rfl)⟩
theorem lw_p90 : lw_okq (⟨"GuildCharterModel", "keepAct", "(II)V"⟩, 71) := ⟨⟨by decide +kernel, by decide +kernel⟩, lw_t5 (List.mem_of_getElem? (i := 169) rfl), lw_t7 (List.mem_of_getElem? (i := 127) rfl), lw_t7 (List.mem_of_getElem? (i := 128) rfl)⟩
theorem lw_p91 : lw_okq (⟨"GuildCharterModel", "exchange", "(Z)V"⟩, 71) := ⟨⟨by decide +kernel, by decide +kernel⟩, lw_t5 (List.mem_of_getElem? (i := 169) rfl), lw_t7 (List.mem_of_getElem? (i := 139) rfl), lw_t7 (List.mem_of_getElem? (i := 140) rfl)⟩
theorem lw_p92 : lw_okq (⟨"GuildCharterModel", "layFromRow", "()Z"⟩, 71) := ⟨⟨by decide +kernel, by decide +kernel⟩, lw_t5 (List.mem_of_getElem? (i := 169) rfl), lw_t7 (List.mem_of_getElem? (i := 159) rfl), lw_t7 (List.mem_of_getElem? (i := 160) rfl)⟩
theorem lw_p93 : lw_okq (⟨"GuildCharterModel", "layList", "(IZ)Z"⟩, 71) := ⟨⟨by decide +kernel, by decide +kernel⟩, lw_t5 (List.mem_of_getElem? (i := 169) rfl), lw_t7 (List.mem_of_getElem? (i := 163) rfl), lw_t7 (List.mem_of_getElem? (i := 164) rfl)⟩
theorem lw_p94 : lw_okq (⟨"GuildCharterModel", "keyOf", "(IZ)J"⟩, 71) := ⟨⟨by decide +kernel, by decide +kernel⟩, lw_t5 (List.mem_of_getElem? (i := 169) rfl), lw_t7 (List.mem_of_getElem? (i := 167) rfl), lw_t7 (List.mem_of_getElem? (i := 168) rfl)⟩
theorem lw_p95 : lw_okq (⟨"GuildCharterModel", "isOnPath", "(I)Z"⟩, 71) := ⟨⟨by decide +kernel, by decide +kernel⟩, lw_t5 (List.mem_of_getElem? (i := 169) rfl), lw_t7 (List.mem_of_getElem? (i := 173) rfl), lw_t7 (List.mem_of_getElem? (i := 174) rfl)⟩
def lw_privs_6 : List (MethodName × Nat) := [(⟨"GuildCharterModel", "canCome", "(I)Z"⟩, 71), (⟨"GuildCharterModel", "tryRow", "()V"⟩, 71), (⟨"GuildCharterModel", "canGoOn", "(I)Z"⟩, 71), (⟨"GuildCharterModel", "isRead", "(I)Z"⟩, 71), (⟨"GuildCharterModel", "layEnds", "(I)V"⟩, 71), (⟨"GuildCharterModel", "doesRead", "(III)Z"⟩, 71), (⟨"GuildCharterModel", "endsBy", "(II)I"⟩, 71), (⟨"GuildCharterModel", "readingsOf", "(I)J"⟩, 71), (⟨"GuildCharterModel", "waysBy", "(III)J"⟩, 71), (⟨"GuildCharterModel", "meansOf", "(II)I"⟩, 71), (⟨"GuildCharterModel", "keepAct", "(II)V"⟩, 71), (⟨"GuildCharterModel", "exchange", "(Z)V"⟩, 71), (⟨"GuildCharterModel", "layFromRow", "()Z"⟩, 71), (⟨"GuildCharterModel", "layList", "(IZ)Z"⟩, 71), (⟨"GuildCharterModel", "keyOf", "(IZ)J"⟩, 71), (⟨"GuildCharterModel", "isOnPath", "(I)Z"⟩, 71)]
theorem lw_r6 : ∀ q ∈ lw_privs_6, lw_okq q := List.forall_mem_cons.mpr ⟨lw_p80, List.forall_mem_cons.mpr ⟨lw_p81, List.forall_mem_cons.mpr ⟨lw_p82, List.forall_mem_cons.mpr ⟨lw_p83, List.forall_mem_cons.mpr ⟨lw_p84, List.forall_mem_cons.mpr ⟨lw_p85, List.forall_mem_cons.mpr ⟨lw_p86, List.forall_mem_cons.mpr ⟨lw_p87, List.forall_mem_cons.mpr ⟨lw_p88, List.forall_mem_cons.mpr ⟨lw_p89, List.forall_mem_cons.mpr ⟨lw_p90, List.forall_mem_cons.mpr ⟨lw_p91, List.forall_mem_cons.mpr ⟨lw_p92, List.forall_mem_cons.mpr ⟨lw_p93, List.forall_mem_cons.mpr ⟨lw_p94, List.forall_mem_cons.mpr ⟨lw_p95, fun _ h => absurd h List.not_mem_nil⟩⟩⟩⟩⟩⟩⟩⟩⟩⟩⟩⟩⟩⟩⟩⟩
theorem lw_p96 : lw_okq (⟨"GuildCharterModel", "takeCharter", "()V"⟩, 71) := ⟨⟨by decide +kernel, by decide +kernel⟩, lw_t5 (List.mem_of_getElem? (i := 169) rfl), lw_t7 (List.mem_of_getElem? (i := 177) rfl), lw_t7 (List.mem_of_getElem? (i := 178) rfl)⟩
theorem lw_p97 : lw_okq (⟨"GuildCharterModel", "packed", "()I"⟩, 71) := ⟨⟨by decide +kernel, by decide +kernel⟩, lw_t5 (List.mem_of_getElem? (i := 169) rfl), lw_t7 (List.mem_of_getElem? (i := 181) rfl), lw_t7 (List.mem_of_getElem? (i := 182) rfl)⟩
theorem lw_p98 : lw_okq (⟨"GuildCharterModel", "turnsNow", "()V"⟩, 71) := ⟨⟨by decide +kernel, by decide +kernel⟩, lw_t5 (List.mem_of_getElem? (i := 169) rfl), lw_t7 (List.mem_of_getElem? (i := 185) rfl), lw_t7 (List.mem_of_getElem? (i := 186) rfl)⟩
theorem lw_p99 : lw_okq (⟨"GuildCharterModel", "plays", "(I)I"⟩, 71) := ⟨⟨by decide +kernel, by decide +kernel⟩, lw_t5 (List.mem_of_getElem? (i := 169) rfl), lw_t7 (List.mem_of_getElem? (i := 189) rfl), lw_t7 (List.mem_of_getElem? (i := 190) rfl)⟩
theorem lw_p100 : lw_okq (⟨"GuildCharterModel", "areGrouped", "(III)Z"⟩, 71) := ⟨⟨by decide +kernel, by decide +kernel⟩, lw_t5 (List.mem_of_getElem? (i := 169) rfl), lw_t7 (List.mem_of_getElem? (i := 193) rfl), lw_t7 (List.mem_of_getElem? (i := 194) rfl)⟩
theorem lw_p101 : lw_okq (⟨"GuildCharterModel", "isBetter", "(IIII)Z"⟩, 71) := ⟨⟨by decide +kernel, by decide +kernel⟩, lw_t5 (List.mem_of_getElem? (i := 169) rfl), lw_t7 (List.mem_of_getElem? (i := 197) rfl), lw_t7 (List.mem_of_getElem? (i := 198) rfl)⟩
theorem lw_p102 : lw_okq (⟨"GuildCharterModel", "gain", "(II)I"⟩, 71) := ⟨⟨by decide +kernel, by decide +kernel⟩, lw_t5 (List.mem_of_getElem? (i := 169) rfl), lw_t7 (List.mem_of_getElem? (i := 201) rfl), lw_t7 (List.mem_of_getElem? (i := 202) rfl)⟩
theorem lw_p103 : lw_okq (⟨"GuildCharterModel", "wordIn", "(II)I"⟩, 71) := ⟨⟨by decide +kernel, by decide +kernel⟩, lw_t5 (List.mem_of_getElem? (i := 169) rfl), lw_t7 (List.mem_of_getElem? (i := 205) rfl), lw_t7 (List.mem_of_getElem? (i := 206) rfl)⟩
theorem lw_p104 : lw_okq (⟨"GuildCharterModel", "gainOf", "(II)I"⟩, 71) := ⟨⟨by decide +kernel, by decide +kernel⟩, lw_t5 (List.mem_of_getElem? (i := 169) rfl), lw_t7 (List.mem_of_getElem? (i := 209) rfl), lw_t7 (List.mem_of_getElem? (i := 210) rfl)⟩
theorem lw_p105 : lw_okq (⟨"GuildCharterModel", "lay", "(I)V"⟩, 71) := ⟨⟨by decide +kernel, by decide +kernel⟩, lw_t5 (List.mem_of_getElem? (i := 169) rfl), lw_t7 (List.mem_of_getElem? (i := 213) rfl), lw_t7 (List.mem_of_getElem? (i := 214) rfl)⟩
theorem lw_p106 : lw_okq (⟨"GuildCharterModel", "heldBy", "(I)I"⟩, 71) := ⟨⟨by decide +kernel, by decide +kernel⟩, lw_t5 (List.mem_of_getElem? (i := 169) rfl), lw_t7 (List.mem_of_getElem? (i := 221) rfl), lw_t7 (List.mem_of_getElem? (i := 222) rfl)⟩
theorem lw_p107 : lw_okq (⟨"GuildCharterModel", "layFromNone", "()Z"⟩, 71) := ⟨⟨by decide +kernel, by decide +kernel⟩, lw_t5 (List.mem_of_getElem? (i := 169) rfl), lw_t8 (List.mem_of_getElem? (i := 7) rfl), lw_t8 (List.mem_of_getElem? (i := 8) rfl)⟩
theorem lw_p108 : lw_okq (⟨"GuildCharterModel", "turnsByOrder", "(I)V"⟩, 71) := ⟨⟨by decide +kernel, by decide +kernel⟩, lw_t5 (List.mem_of_getElem? (i := 169) rfl), lw_t8 (List.mem_of_getElem? (i := 11) rfl), lw_t8 (List.mem_of_getElem? (i := 12) rfl)⟩
theorem lw_p109 : lw_okq (⟨"GuildCharterModel", "layShortest", "()V"⟩, 71) := ⟨⟨by decide +kernel, by decide +kernel⟩, lw_t5 (List.mem_of_getElem? (i := 169) rfl), lw_t8 (List.mem_of_getElem? (i := 19) rfl), lw_t8 (List.mem_of_getElem? (i := 20) rfl)⟩
theorem lw_p110 : lw_okq (⟨"GuildCharterModel", "sumOf", "(I)I"⟩, 71) := ⟨⟨by decide +kernel, by decide +kernel⟩, lw_t5 (List.mem_of_getElem? (i := 169) rfl), lw_t8 (List.mem_of_getElem? (i := 23) rfl), lw_t8 (List.mem_of_getElem? (i := 24) rfl)⟩
theorem lw_p111 : lw_okq (⟨"GuildCharterModel", "unpack", "(I)V"⟩, 71) := ⟨⟨by decide +kernel, by decide +kernel⟩, lw_t5 (List.mem_of_getElem? (i := 169) rfl), lw_t8 (List.mem_of_getElem? (i := 36) rfl), lw_t8 (List.mem_of_getElem? (i := 37) rfl)⟩
def lw_privs_7 : List (MethodName × Nat) := [(⟨"GuildCharterModel", "takeCharter", "()V"⟩, 71), (⟨"GuildCharterModel", "packed", "()I"⟩, 71), (⟨"GuildCharterModel", "turnsNow", "()V"⟩, 71), (⟨"GuildCharterModel", "plays", "(I)I"⟩, 71), (⟨"GuildCharterModel", "areGrouped", "(III)Z"⟩, 71), (⟨"GuildCharterModel", "isBetter", "(IIII)Z"⟩, 71), (⟨"GuildCharterModel", "gain", "(II)I"⟩, 71), (⟨"GuildCharterModel", "wordIn", "(II)I"⟩, 71), (⟨"GuildCharterModel", "gainOf", "(II)I"⟩, 71), (⟨"GuildCharterModel", "lay", "(I)V"⟩, 71), (⟨"GuildCharterModel", "heldBy", "(I)I"⟩, 71), (⟨"GuildCharterModel", "layFromNone", "()Z"⟩, 71), (⟨"GuildCharterModel", "turnsByOrder", "(I)V"⟩, 71), (⟨"GuildCharterModel", "layShortest", "()V"⟩, 71), (⟨"GuildCharterModel", "sumOf", "(I)I"⟩, 71), (⟨"GuildCharterModel", "unpack", "(I)V"⟩, 71)]
theorem lw_r7 : ∀ q ∈ lw_privs_7, lw_okq q := List.forall_mem_cons.mpr ⟨lw_p96, List.forall_mem_cons.mpr ⟨lw_p97, List.forall_mem_cons.mpr ⟨lw_p98, List.forall_mem_cons.mpr ⟨lw_p99, List.forall_mem_cons.mpr ⟨lw_p100, List.forall_mem_cons.mpr ⟨lw_p101, List.forall_mem_cons.mpr ⟨lw_p102, List.forall_mem_cons.mpr ⟨lw_p103, List.forall_mem_cons.mpr ⟨lw_p104, List.forall_mem_cons.mpr ⟨lw_p105, List.forall_mem_cons.mpr ⟨lw_p106, List.forall_mem_cons.mpr ⟨lw_p107, List.forall_mem_cons.mpr ⟨lw_p108, List.forall_mem_cons.mpr ⟨lw_p109, List.forall_mem_cons.mpr ⟨lw_p110, List.forall_mem_cons.mpr ⟨lw_p111, fun _ h => absurd h List.not_mem_nil⟩⟩⟩⟩⟩⟩⟩⟩⟩⟩⟩⟩⟩⟩⟩⟩
theorem lw_p112 : lw_okq (⟨"GuildCharterModel", "tryWithout", "(I)V"⟩, 71) := ⟨⟨by decide +kernel, by decide +kernel⟩, lw_t5 (List.mem_of_getElem? (i := 169) rfl), lw_t8 (List.mem_of_getElem? (i := 57) rfl), lw_t8 (List.mem_of_getElem? (i := 58) rfl)⟩
theorem lw_p113 : lw_okq (⟨"GuildCharterModel", "isSo", "(II)Z"⟩, 71) := ⟨⟨by decide +kernel, by decide +kernel⟩, lw_t5 (List.mem_of_getElem? (i := 169) rfl), lw_t8 (List.mem_of_getElem? (i := 78) rfl), lw_t8 (List.mem_of_getElem? (i := 79) rfl)⟩
def lw_privs_8 : List (MethodName × Nat) := [(⟨"GuildCharterModel", "tryWithout", "(I)V"⟩, 71), (⟨"GuildCharterModel", "isSo", "(II)Z"⟩, 71)]
theorem lw_r8 : ∀ q ∈ lw_privs_8, lw_okq q := List.forall_mem_cons.mpr ⟨lw_p112, List.forall_mem_cons.mpr ⟨lw_p113, fun _ h => absurd h List.not_mem_nil⟩⟩
def lw_privs : List (MethodName × Nat) := lw_privs_1 ++ (lw_privs_2 ++ (lw_privs_3 ++ (lw_privs_4 ++ (lw_privs_5 ++ (lw_privs_6 ++ (lw_privs_7 ++ (lw_privs_8)))))))
def lw_tbl : List Cond := k2_sels lw_privs ++ tables_1
theorem lw_privs_ok : ∀ q ∈ lw_privs, lw_okq q := by
  show ∀ q ∈ lw_privs_1 ++ (lw_privs_2 ++ (lw_privs_3 ++ (lw_privs_4 ++ (lw_privs_5 ++ (lw_privs_6 ++ (lw_privs_7 ++ (lw_privs_8))))))), lw_okq q
  exact List.forall_mem_append.mpr ⟨lw_r1, List.forall_mem_append.mpr ⟨lw_r2, List.forall_mem_append.mpr ⟨lw_r3, List.forall_mem_append.mpr ⟨lw_r4, List.forall_mem_append.mpr ⟨lw_r5, List.forall_mem_append.mpr ⟨lw_r6, List.forall_mem_append.mpr ⟨lw_r7, lw_r8⟩⟩⟩⟩⟩⟩⟩
-- ===== ONE list of words for every method: the tables' words that hold all through a run =====
def lw_all : List Cond := lw_tbl.filter goodWord
/-- a word of the tables by its place: claim/WORDS.tsv -/
theorem lw_w {w : Cond} (i : Nat) (h : lw_tbl[i]? = some w) (g : goodWord w = true) : w ∈ lw_all := List.mem_filter.mpr ⟨List.mem_of_getElem? h, g⟩
theorem lw_all_tbl {w : Cond} (h : w ∈ lw_all) : w ∈ lw_tbl := (List.mem_filter.mp h).1
theorem lw_self : GoodIn lw_all lw_all := fun w h => ⟨h, good_of_word (List.mem_filter.mp h).2⟩
/-- a class's field words, by their places -/
theorem lw_in (ws : List Cond) (ps : List Nat) (hp : ws = ps.filterMap (fun i => lw_tbl[i]?)) (hg : ws.all goodWord = true) : ∀ w ∈ ws, w ∈ lw_all := by
  intro w h
  have h1 := List.all_eq_true.mp hg w h
  rw [hp] at h
  obtain ⟨i, -, hi⟩ := List.mem_filterMap.mp h
  exact lw_w i hi h1
/-- the words of a contract for the method y with code b, L locals, answer r -/
abbrev ws_ (y : MethodName) (b : ByteArray) (L : Nat) (r : Option FieldType) : List Cond := Cond.code y b L r :: lw_all
theorem lw_meth {y : MethodName} {b : ByteArray} {L : Nat} {r : Option FieldType} (h : Cond.code y b L r ∈ lw_all) : GoodIn lw_all (ws_ y b L r) := by
  intro w hw
  rcases List.mem_cons.mp hw with e | e
  · rw [e]
    exact lw_self _ h
  · exact lw_self _ e
theorem lw_app {a c : List Cond} (ha : ∀ w ∈ a, w ∈ lw_all) (hc : GoodIn lw_all c) : GoodIn lw_all (a ++ c) := by
  intro w hw
  rcases List.mem_append.mp hw with e | e
  · exact lw_self w (ha w e)
  · exact hc w e
/-- what a call through an object asks: cwV n hts (lw_V ..) -/
theorem lw_V {own : String} {idx : Nat} {C : String} {y : MethodName} {b : ByteArray} {L : Nat} {r : Option FieldType} (h1 : Cond.methodLink own idx y ∈ lw_all) (h2 : Cond.instanceMethod y ∈ lw_all) (h3 : Cond.selects C y y ∈ lw_all) (h4 : Cond.initialized C ∈ lw_all) (h5 : Cond.code y b L r ∈ lw_all) : GoodIn lw_all (wsV own idx C y (ws_ y b L r)) := by
  refine lw_app ?_ (lw_meth h5)
  intro w hw
  simp only [List.mem_cons, List.not_mem_nil, or_false] at hw
  rcases hw with e | e | e | e
  · rw [e]; exact h1
  · rw [e]; exact h2
  · rw [e]; exact h3
  · rw [e]; exact h4
/-- what a static call asks: va_cwS n hts (lw_S ..) -/
theorem lw_S {own : String} {idx : Nat} {y : MethodName} {b : ByteArray} {L : Nat} {r : Option FieldType} (h1 : Cond.methodLink own idx y ∈ lw_all) (h2 : Cond.static y ∈ lw_all) (h3 : Cond.initialized y.cls ∈ lw_all) (h4 : Cond.code y b L r ∈ lw_all) : GoodIn lw_all (va_wsS own idx y (ws_ y b L r)) := by
  refine lw_app ?_ (lw_meth h4)
  intro w hw
  simp only [List.mem_cons, List.not_mem_nil, or_false] at hw
  rcases hw with e | e | e
  · rw [e]; exact h1
  · rw [e]; exact h2
  · rw [e]; exact h3
/-- the words of a contract for a method WITH HANDLERS (hh: its table) -/
abbrev wsW_ (y : MethodName) (b : ByteArray) (L : Nat) (r : Option FieldType) (hh : List (Nat × Nat × Nat × Nat)) : List Cond := Cond.codeWith y b L r hh :: lw_all
theorem lw_methW {y : MethodName} {b : ByteArray} {L : Nat} {r : Option FieldType} {hh : List (Nat × Nat × Nat × Nat)} (h : Cond.codeWith y b L r hh ∈ lw_all) : GoodIn lw_all (wsW_ y b L r hh) := by
  intro w hw
  rcases List.mem_cons.mp hw with e | e
  · rw [e]
    exact lw_self _ h
  · exact lw_self _ e
/-- any list of words by their places (lw_in), good -/
theorem lw_good {ws : List Cond} (h : ∀ w ∈ ws, w ∈ lw_all) : GoodIn lw_all ws := fun w hw => lw_self w (h w hw)
/-- what a call of a method with handlers asks: vx_cwVW n hts (lw_VW ..), vx_cwSW n hts (lw_SW ..) -/
theorem lw_VW {own : String} {idx : Nat} {C : String} {y : MethodName} {b : ByteArray} {L : Nat} {r : Option FieldType} {hh : List (Nat × Nat × Nat × Nat)} (h1 : Cond.methodLink own idx y ∈ lw_all) (h2 : Cond.instanceMethod y ∈ lw_all) (h3 : Cond.selects C y y ∈ lw_all) (h4 : Cond.initialized C ∈ lw_all) (h5 : Cond.codeWith y b L r hh ∈ lw_all) : GoodIn lw_all (wsV own idx C y (wsW_ y b L r hh)) := by
  refine lw_app ?_ (lw_methW h5)
  intro w hw
  simp only [List.mem_cons, List.not_mem_nil, or_false] at hw
  rcases hw with e | e | e | e
  · rw [e]; exact h1
  · rw [e]; exact h2
  · rw [e]; exact h3
  · rw [e]; exact h4
theorem lw_SW {own : String} {idx : Nat} {y : MethodName} {b : ByteArray} {L : Nat} {r : Option FieldType} {hh : List (Nat × Nat × Nat × Nat)} (h1 : Cond.methodLink own idx y ∈ lw_all) (h2 : Cond.static y ∈ lw_all) (h3 : Cond.initialized y.cls ∈ lw_all) (h4 : Cond.codeWith y b L r hh ∈ lw_all) : GoodIn lw_all (va_wsS own idx y (wsW_ y b L r hh)) := by
  refine lw_app ?_ (lw_methW h4)
  intro w hw
  simp only [List.mem_cons, List.not_mem_nil, or_false] at hw
  rcases hw with e | e | e
  · rw [e]; exact h1
  · rw [e]; exact h2
  · rw [e]; exact h3
/-- a word by its place in its run of the tables -/
theorem lw_at {r : List Cond} (hr : ∀ w ∈ r, w ∈ lw_tbl) {w : Cond} (i : Nat) (h : r[i]? = some w) : w ∈ lw_tbl := hr w (List.mem_of_getElem? h)
theorem lw_g {w : Cond} (h : w ∈ lw_tbl) (g : goodWord w = true) : w ∈ lw_all := List.mem_filter.mpr ⟨h, g⟩
theorem lw_ms : ∀ w ∈ k2_sels lw_privs, w ∈ lw_tbl := fun w h => show w ∈ k2_sels lw_privs ++ tables_1 from List.mem_append_left _ h
theorem lw_m1 : ∀ w ∈ tables_1_1, w ∈ lw_tbl := fun w h => show w ∈ k2_sels lw_privs ++ tables_1 from List.mem_append_right (k2_sels lw_privs) (show w ∈ tables_1 from List.mem_append_left _ h)
theorem lw_m2 : ∀ w ∈ tables_1_2, w ∈ lw_tbl := fun w h => show w ∈ k2_sels lw_privs ++ tables_1 from List.mem_append_right (k2_sels lw_privs) (show w ∈ tables_1 from List.mem_append_right _ (List.mem_append_left _ h))
theorem lw_m3 : ∀ w ∈ tables_1_3, w ∈ lw_tbl := fun w h => show w ∈ k2_sels lw_privs ++ tables_1 from List.mem_append_right (k2_sels lw_privs) (show w ∈ tables_1 from List.mem_append_right _ (List.mem_append_right _ (List.mem_append_left _ h)))
theorem lw_m4 : ∀ w ∈ tables_1_4, w ∈ lw_tbl := fun w h => show w ∈ k2_sels lw_privs ++ tables_1 from List.mem_append_right (k2_sels lw_privs) (show w ∈ tables_1 from List.mem_append_right _ (List.mem_append_right _ (List.mem_append_right _ (List.mem_append_left _ h))))
theorem lw_m5 : ∀ w ∈ tables_1_5, w ∈ lw_tbl := fun w h => show w ∈ k2_sels lw_privs ++ tables_1 from List.mem_append_right (k2_sels lw_privs) (show w ∈ tables_1 from List.mem_append_right _ (List.mem_append_right _ (List.mem_append_right _ (List.mem_append_right _ (List.mem_append_left _ h)))))
theorem lw_m6 : ∀ w ∈ tables_1_6, w ∈ lw_tbl := fun w h => show w ∈ k2_sels lw_privs ++ tables_1 from List.mem_append_right (k2_sels lw_privs) (show w ∈ tables_1 from List.mem_append_right _ (List.mem_append_right _ (List.mem_append_right _ (List.mem_append_right _ (List.mem_append_right _ (List.mem_append_left _ h))))))
theorem lw_m7 : ∀ w ∈ tables_1_7, w ∈ lw_tbl := fun w h => show w ∈ k2_sels lw_privs ++ tables_1 from List.mem_append_right (k2_sels lw_privs) (show w ∈ tables_1 from List.mem_append_right _ (List.mem_append_right _ (List.mem_append_right _ (List.mem_append_right _ (List.mem_append_right _ (List.mem_append_right _ (List.mem_append_left _ h)))))))
theorem lw_m8 : ∀ w ∈ tables_1_8, w ∈ lw_tbl := fun w h => show w ∈ k2_sels lw_privs ++ tables_1 from List.mem_append_right (k2_sels lw_privs) (show w ∈ tables_1 from List.mem_append_right _ (List.mem_append_right _ (List.mem_append_right _ (List.mem_append_right _ (List.mem_append_right _ (List.mem_append_right _ (List.mem_append_right _ h)))))))
theorem qs0 : (Cond.selects "GuildCharter" ⟨"GuildCharter", "begin", "()V"⟩ ⟨"GuildCharter", "begin", "()V"⟩) ∈ lw_all := lw_g (lw_at lw_ms 0 rfl) rfl
theorem qs1 : (Cond.selects "GuildCharter$Reader" ⟨"GuildCharter$Reader", "go", "()V"⟩ ⟨"GuildCharter$Reader", "go", "()V"⟩) ∈ lw_all := lw_g (lw_at lw_ms 1 rfl) rfl
theorem qs2 : (Cond.selects "GuildCharter$Reader" ⟨"GuildCharter$Reader", "here", "(I)I"⟩ ⟨"GuildCharter$Reader", "here", "(I)I"⟩) ∈ lw_all := lw_g (lw_at lw_ms 2 rfl) rfl
theorem qs3 : (Cond.selects "GuildCharter$Reader" ⟨"GuildCharter$Reader", "isLetter", "(I)Z"⟩ ⟨"GuildCharter$Reader", "isLetter", "(I)Z"⟩) ∈ lw_all := lw_g (lw_at lw_ms 3 rfl) rfl
theorem qs4 : (Cond.selects "GuildCharter$Reader" ⟨"GuildCharter$Reader", "isDigit", "(I)Z"⟩ ⟨"GuildCharter$Reader", "isDigit", "(I)Z"⟩) ∈ lw_all := lw_g (lw_at lw_ms 4 rfl) rfl
theorem qs5 : (Cond.selects "GuildCharter$Reader" ⟨"GuildCharter$Reader", "is", "(Ljava/lang/String;)Z"⟩ ⟨"GuildCharter$Reader", "is", "(Ljava/lang/String;)Z"⟩) ∈ lw_all := lw_g (lw_at lw_ms 5 rfl) rfl
theorem qs6 : (Cond.selects "GuildCharter$Reader" ⟨"GuildCharter$Reader", "word", "()V"⟩ ⟨"GuildCharter$Reader", "word", "()V"⟩) ∈ lw_all := lw_g (lw_at lw_ms 6 rfl) rfl
theorem qs7 : (Cond.selects "GuildCharter$Reader" ⟨"GuildCharter$Reader", "newName", "()Ljava/lang/String;"⟩ ⟨"GuildCharter$Reader", "newName", "()Ljava/lang/String;"⟩) ∈ lw_all := lw_g (lw_at lw_ms 7 rfl) rfl
theorem qs8 : (Cond.selects "GuildCharter$Reader" ⟨"GuildCharter$Reader", "isName", "()Z"⟩ ⟨"GuildCharter$Reader", "isName", "()Z"⟩) ∈ lw_all := lw_g (lw_at lw_ms 8 rfl) rfl
theorem qs9 : (Cond.selects "GuildCharter$Reader" ⟨"GuildCharter$Reader", "wrong", "()LGuildCharter$Wrong;"⟩ ⟨"GuildCharter$Reader", "wrong", "()LGuildCharter$Wrong;"⟩) ∈ lw_all := lw_g (lw_at lw_ms 9 rfl) rfl
theorem qs10 : (Cond.selects "java/lang/Throwable" ⟨"java/lang/Throwable", "fillInStackTrace", "(I)Ljava/lang/Throwable;"⟩ ⟨"java/lang/Throwable", "fillInStackTrace", "(I)Ljava/lang/Throwable;"⟩) ∈ lw_all := lw_g (lw_at lw_ms 10 rfl) rfl
theorem qs11 : (Cond.selects "GuildCharter$Reader" ⟨"GuildCharter$Reader", "three", "([II)V"⟩ ⟨"GuildCharter$Reader", "three", "([II)V"⟩) ∈ lw_all := lw_g (lw_at lw_ms 11 rfl) rfl
theorem qs12 : (Cond.selects "GuildCharter$Reader" ⟨"GuildCharter$Reader", "number", "(II)I"⟩ ⟨"GuildCharter$Reader", "number", "(II)I"⟩) ∈ lw_all := lw_g (lw_at lw_ms 12 rfl) rfl
theorem qs13 : (Cond.selects "java/util/ArrayList" ⟨"java/util/ArrayList", "add", "(Ljava/lang/Object;[Ljava/lang/Object;I)V"⟩ ⟨"java/util/ArrayList", "add", "(Ljava/lang/Object;[Ljava/lang/Object;I)V"⟩) ∈ lw_all := lw_g (lw_at lw_ms 13 rfl) rfl
theorem qs14 : (Cond.selects "java/util/ArrayList" ⟨"java/util/ArrayList", "grow", "()[Ljava/lang/Object;"⟩ ⟨"java/util/ArrayList", "grow", "()[Ljava/lang/Object;"⟩) ∈ lw_all := lw_g (lw_at lw_ms 14 rfl) rfl
theorem qs15 : (Cond.selects "java/util/ArrayList" ⟨"java/util/ArrayList", "grow", "(I)[Ljava/lang/Object;"⟩ ⟨"java/util/ArrayList", "grow", "(I)[Ljava/lang/Object;"⟩) ∈ lw_all := lw_g (lw_at lw_ms 15 rfl) rfl
theorem qs16 : (Cond.selects "GuildCharter$Reader" ⟨"GuildCharter$Reader", "pair", "()V"⟩ ⟨"GuildCharter$Reader", "pair", "()V"⟩) ∈ lw_all := lw_g (lw_at lw_ms 16 rfl) rfl
theorem qs17 : (Cond.selects "GuildCharter$Reader" ⟨"GuildCharter$Reader", "old", "()I"⟩ ⟨"GuildCharter$Reader", "old", "()I"⟩) ∈ lw_all := lw_g (lw_at lw_ms 17 rfl) rfl
theorem qs18 : (Cond.selects "GuildCharter$Reader" ⟨"GuildCharter$Reader", "rule", "()V"⟩ ⟨"GuildCharter$Reader", "rule", "()V"⟩) ∈ lw_all := lw_g (lw_at lw_ms 18 rfl) rfl
theorem qs19 : (Cond.selects "GuildCharter$Reader" ⟨"GuildCharter$Reader", "alt", "()LGuildCharter$Alt;"⟩ ⟨"GuildCharter$Reader", "alt", "()LGuildCharter$Alt;"⟩) ∈ lw_all := lw_g (lw_at lw_ms 19 rfl) rfl
theorem qs20 : (Cond.selects "GuildCharter$Reader" ⟨"GuildCharter$Reader", "length", "()V"⟩ ⟨"GuildCharter$Reader", "length", "()V"⟩) ∈ lw_all := lw_g (lw_at lw_ms 20 rfl) rfl
theorem qs21 : (Cond.selects "GuildCharter$Reader" ⟨"GuildCharter$Reader", "turns", "()V"⟩ ⟨"GuildCharter$Reader", "turns", "()V"⟩) ∈ lw_all := lw_g (lw_at lw_ms 21 rfl) rfl
theorem qs22 : (Cond.selects "GuildCharter$Reader" ⟨"GuildCharter$Reader", "bind", "(I)V"⟩ ⟨"GuildCharter$Reader", "bind", "(I)V"⟩) ∈ lw_all := lw_g (lw_at lw_ms 22 rfl) rfl
theorem qs23 : (Cond.selects "GuildCharter$Reader" ⟨"GuildCharter$Reader", "part", "(Ljava/lang/String;I)I"⟩ ⟨"GuildCharter$Reader", "part", "(Ljava/lang/String;I)I"⟩) ∈ lw_all := lw_g (lw_at lw_ms 23 rfl) rfl
theorem qs24 : (Cond.selects "GuildCharter" ⟨"GuildCharter", "isWord", "(I)Z"⟩ ⟨"GuildCharter", "isWord", "(I)Z"⟩) ∈ lw_all := lw_g (lw_at lw_ms 24 rfl) rfl
theorem qs25 : (Cond.selects "GuildCharter" ⟨"GuildCharter", "exchange", "([I)V"⟩ ⟨"GuildCharter", "exchange", "([I)V"⟩) ∈ lw_all := lw_g (lw_at lw_ms 25 rfl) rfl
theorem qs26 : (Cond.selects "GuildCharter" ⟨"GuildCharter", "isPlace", "(I)Z"⟩ ⟨"GuildCharter", "isPlace", "(I)Z"⟩) ∈ lw_all := lw_g (lw_at lw_ms 26 rfl) rfl
theorem qs27 : (Cond.selects "GuildCharter" ⟨"GuildCharter", "canCome", "(I)Z"⟩ ⟨"GuildCharter", "canCome", "(I)Z"⟩) ∈ lw_all := lw_g (lw_at lw_ms 27 rfl) rfl
theorem qs28 : (Cond.selects "GuildCharter" ⟨"GuildCharter", "load", "([II)V"⟩ ⟨"GuildCharter", "load", "([II)V"⟩) ∈ lw_all := lw_g (lw_at lw_ms 28 rfl) rfl
theorem qs29 : (Cond.selects "GuildCharter" ⟨"GuildCharter", "canGoOn", "(I)Z"⟩ ⟨"GuildCharter", "canGoOn", "(I)Z"⟩) ∈ lw_all := lw_g (lw_at lw_ms 29 rfl) rfl
theorem qs30 : (Cond.selects "GuildCharter" ⟨"GuildCharter", "readings", "(I)J"⟩ ⟨"GuildCharter", "readings", "(I)J"⟩) ∈ lw_all := lw_g (lw_at lw_ms 30 rfl) rfl
theorem qs31 : (Cond.selects "GuildCharter" ⟨"GuildCharter", "reads", "(III)J"⟩ ⟨"GuildCharter", "reads", "(III)J"⟩) ∈ lw_all := lw_g (lw_at lw_ms 31 rfl) rfl
theorem qs32 : (Cond.selects "GuildCharter" ⟨"GuildCharter", "act", "()V"⟩ ⟨"GuildCharter", "act", "()V"⟩) ∈ lw_all := lw_g (lw_at lw_ms 32 rfl) rfl
theorem qs33 : (Cond.selects "GuildCharter" ⟨"GuildCharter", "meaning", "([III)I"⟩ ⟨"GuildCharter", "meaning", "([III)I"⟩) ∈ lw_all := lw_g (lw_at lw_ms 33 rfl) rfl
theorem qs34 : (Cond.selects "GuildCharter" ⟨"GuildCharter", "layTree", "([II[I)Z"⟩ ⟨"GuildCharter", "layTree", "([II[I)Z"⟩) ∈ lw_all := lw_g (lw_at lw_ms 34 rfl) rfl
theorem qs35 : (Cond.selects "GuildCharter" ⟨"GuildCharter", "write", "([II[I)I"⟩ ⟨"GuildCharter", "write", "([II[I)I"⟩) ∈ lw_all := lw_g (lw_at lw_ms 35 rfl) rfl
theorem qs36 : (Cond.selects "GuildCharter" ⟨"GuildCharter", "isWhole", "(I)Z"⟩ ⟨"GuildCharter", "isWhole", "(I)Z"⟩) ∈ lw_all := lw_g (lw_at lw_ms 36 rfl) rfl
theorem qs37 : (Cond.selects "GuildCharter" ⟨"GuildCharter", "pathOf", "(I[II)[I"⟩ ⟨"GuildCharter", "pathOf", "(I[II)[I"⟩) ∈ lw_all := lw_g (lw_at lw_ms 37 rfl) rfl
theorem qs38 : (Cond.selects "GuildCharter" ⟨"GuildCharter", "meaningOf", "(I[III)I"⟩ ⟨"GuildCharter", "meaningOf", "(I[III)I"⟩) ∈ lw_all := lw_g (lw_at lw_ms 38 rfl) rfl
theorem qs39 : (Cond.selects "GuildCharter" ⟨"GuildCharter", "layDown", "(I[II)V"⟩ ⟨"GuildCharter", "layDown", "(I[II)V"⟩) ∈ lw_all := lw_g (lw_at lw_ms 39 rfl) rfl
theorem qs40 : (Cond.selects "GuildCharter" ⟨"GuildCharter", "hasTree", "()Z"⟩ ⟨"GuildCharter", "hasTree", "()Z"⟩) ∈ lw_all := lw_g (lw_at lw_ms 40 rfl) rfl
theorem qs41 : (Cond.selects "GuildCharter" ⟨"GuildCharter", "hold", "(I)I"⟩ ⟨"GuildCharter", "hold", "(I)I"⟩) ∈ lw_all := lw_g (lw_at lw_ms 41 rfl) rfl
theorem qs42 : (Cond.selects "GuildCharter" ⟨"GuildCharter", "sumOf", "(II)I"⟩ ⟨"GuildCharter", "sumOf", "(II)I"⟩) ∈ lw_all := lw_g (lw_at lw_ms 42 rfl) rfl
theorem qs43 : (Cond.selects "GuildCharter" ⟨"GuildCharter", "doSwap", "(II)Z"⟩ ⟨"GuildCharter", "doSwap", "(II)Z"⟩) ∈ lw_all := lw_g (lw_at lw_ms 43 rfl) rfl
theorem qs44 : (Cond.selects "GuildCharter" ⟨"GuildCharter", "writtenNow", "()I"⟩ ⟨"GuildCharter", "writtenNow", "()I"⟩) ∈ lw_all := lw_g (lw_at lw_ms 44 rfl) rfl
theorem qs45 : (Cond.selects "GuildCharter" ⟨"GuildCharter", "comesBy", "(III)Z"⟩ ⟨"GuildCharter", "comesBy", "(III)Z"⟩) ∈ lw_all := lw_g (lw_at lw_ms 45 rfl) rfl
theorem qs46 : (Cond.selects "GuildCharter" ⟨"GuildCharter", "layFewest", "()V"⟩ ⟨"GuildCharter", "layFewest", "()V"⟩) ∈ lw_all := lw_g (lw_at lw_ms 46 rfl) rfl
theorem qs47 : (Cond.selects "GuildCharter" ⟨"GuildCharter", "fewestOf", "(LGuildCharter$Alt;)I"⟩ ⟨"GuildCharter", "fewestOf", "(LGuildCharter$Alt;)I"⟩) ∈ lw_all := lw_g (lw_at lw_ms 47 rfl) rfl
theorem qs48 : (Cond.selects "GuildCharter" ⟨"GuildCharter", "comesTo", "(I)I"⟩ ⟨"GuildCharter", "comesTo", "(I)I"⟩) ∈ lw_all := lw_g (lw_at lw_ms 48 rfl) rfl
theorem qs49 : (Cond.selects "GuildCharter" ⟨"GuildCharter", "writeBy", "(I)I"⟩ ⟨"GuildCharter", "writeBy", "(I)I"⟩) ∈ lw_all := lw_g (lw_at lw_ms 49 rfl) rfl
theorem qs50 : (Cond.selects "GuildCharter" ⟨"GuildCharter", "canStrike", "(II)Z"⟩ ⟨"GuildCharter", "canStrike", "(II)Z"⟩) ∈ lw_all := lw_g (lw_at lw_ms 50 rfl) rfl
theorem qs51 : (Cond.selects "GuildCharter" ⟨"GuildCharter", "areSo", "([II)Z"⟩ ⟨"GuildCharter", "areSo", "([II)Z"⟩) ∈ lw_all := lw_g (lw_at lw_ms 51 rfl) rfl
theorem qs52 : (Cond.selects "GuildCharterModel" ⟨"GuildCharterModel", "clearBank", "()V"⟩ ⟨"GuildCharterModel", "clearBank", "()V"⟩) ∈ lw_all := lw_g (lw_at lw_ms 52 rfl) rfl
theorem qs53 : (Cond.selects "GuildCharterModel" ⟨"GuildCharterModel", "begin", "()V"⟩ ⟨"GuildCharterModel", "begin", "()V"⟩) ∈ lw_all := lw_g (lw_at lw_ms 53 rfl) rfl
theorem qs54 : (Cond.selects "GuildCharterModel" ⟨"GuildCharterModel", "toldTurn", "(I)I"⟩ ⟨"GuildCharterModel", "toldTurn", "(I)I"⟩) ∈ lw_all := lw_g (lw_at lw_ms 54 rfl) rfl
theorem qs55 : (Cond.selects "GuildCharterModel" ⟨"GuildCharterModel", "goOn", "()V"⟩ ⟨"GuildCharterModel", "goOn", "()V"⟩) ∈ lw_all := lw_g (lw_at lw_ms 55 rfl) rfl
theorem qs56 : (Cond.selects "GuildCharterModel" ⟨"GuildCharterModel", "sign", "(I)I"⟩ ⟨"GuildCharterModel", "sign", "(I)I"⟩) ∈ lw_all := lw_g (lw_at lw_ms 56 rfl) rfl
theorem qs57 : (Cond.selects "GuildCharterModel" ⟨"GuildCharterModel", "isGood", "()Z"⟩ ⟨"GuildCharterModel", "isGood", "()Z"⟩) ∈ lw_all := lw_g (lw_at lw_ms 57 rfl) rfl
theorem qs58 : (Cond.selects "GuildCharterModel" ⟨"GuildCharterModel", "readLine", "()V"⟩ ⟨"GuildCharterModel", "readLine", "()V"⟩) ∈ lw_all := lw_g (lw_at lw_ms 58 rfl) rfl
theorem qs59 : (Cond.selects "GuildCharterModel" ⟨"GuildCharterModel", "isFull", "()Z"⟩ ⟨"GuildCharterModel", "isFull", "()Z"⟩) ∈ lw_all := lw_g (lw_at lw_ms 59 rfl) rfl
theorem qs60 : (Cond.selects "GuildCharterModel" ⟨"GuildCharterModel", "isWord", "(J)Z"⟩ ⟨"GuildCharterModel", "isWord", "(J)Z"⟩) ∈ lw_all := lw_g (lw_at lw_ms 60 rfl) rfl
theorem qs61 : (Cond.selects "GuildCharterModel" ⟨"GuildCharterModel", "misplaced", "()V"⟩ ⟨"GuildCharterModel", "misplaced", "()V"⟩) ∈ lw_all := lw_g (lw_at lw_ms 61 rfl) rfl
theorem qs62 : (Cond.selects "GuildCharterModel" ⟨"GuildCharterModel", "fails", "(II)V"⟩ ⟨"GuildCharterModel", "fails", "(II)V"⟩) ∈ lw_all := lw_g (lw_at lw_ms 62 rfl) rfl
theorem qs63 : (Cond.selects "GuildCharterModel" ⟨"GuildCharterModel", "readWord", "()V"⟩ ⟨"GuildCharterModel", "readWord", "()V"⟩) ∈ lw_all := lw_g (lw_at lw_ms 63 rfl) rfl
theorem qs64 : (Cond.selects "GuildCharterModel" ⟨"GuildCharterModel", "fresh", "()J"⟩ ⟨"GuildCharterModel", "fresh", "()J"⟩) ∈ lw_all := lw_g (lw_at lw_ms 64 rfl) rfl
theorem qs65 : (Cond.selects "GuildCharterModel" ⟨"GuildCharterModel", "wordOf", "(J)I"⟩ ⟨"GuildCharterModel", "wordOf", "(J)I"⟩) ∈ lw_all := lw_g (lw_at lw_ms 65 rfl) rfl
theorem qs66 : (Cond.selects "GuildCharterModel" ⟨"GuildCharterModel", "ruleOf", "(J)I"⟩ ⟨"GuildCharterModel", "ruleOf", "(J)I"⟩) ∈ lw_all := lw_g (lw_at lw_ms 66 rfl) rfl
theorem qs67 : (Cond.selects "GuildCharterModel" ⟨"GuildCharterModel", "numeral", "(II)I"⟩ ⟨"GuildCharterModel", "numeral", "(II)I"⟩) ∈ lw_all := lw_g (lw_at lw_ms 67 rfl) rfl
theorem qs68 : (Cond.selects "GuildCharterModel" ⟨"GuildCharterModel", "readPair", "()V"⟩ ⟨"GuildCharterModel", "readPair", "()V"⟩) ∈ lw_all := lw_g (lw_at lw_ms 68 rfl) rfl
theorem qs69 : (Cond.selects "GuildCharterModel" ⟨"GuildCharterModel", "known", "()I"⟩ ⟨"GuildCharterModel", "known", "()I"⟩) ∈ lw_all := lw_g (lw_at lw_ms 69 rfl) rfl
theorem qs70 : (Cond.selects "GuildCharterModel" ⟨"GuildCharterModel", "readRule", "()V"⟩ ⟨"GuildCharterModel", "readRule", "()V"⟩) ∈ lw_all := lw_g (lw_at lw_ms 70 rfl) rfl
theorem qs71 : (Cond.selects "GuildCharterModel" ⟨"GuildCharterModel", "isSignHere", "(I)Z"⟩ ⟨"GuildCharterModel", "isSignHere", "(I)Z"⟩) ∈ lw_all := lw_g (lw_at lw_ms 71 rfl) rfl
theorem qs72 : (Cond.selects "GuildCharterModel" ⟨"GuildCharterModel", "must", "(Z)V"⟩ ⟨"GuildCharterModel", "must", "(Z)V"⟩) ∈ lw_all := lw_g (lw_at lw_ms 72 rfl) rfl
theorem qs73 : (Cond.selects "GuildCharterModel" ⟨"GuildCharterModel", "readAlt", "()V"⟩ ⟨"GuildCharterModel", "readAlt", "()V"⟩) ∈ lw_all := lw_g (lw_at lw_ms 73 rfl) rfl
theorem qs74 : (Cond.selects "GuildCharterModel" ⟨"GuildCharterModel", "readTurns", "()V"⟩ ⟨"GuildCharterModel", "readTurns", "()V"⟩) ∈ lw_all := lw_g (lw_at lw_ms 74 rfl) rfl
theorem qs75 : (Cond.selects "GuildCharterModel" ⟨"GuildCharterModel", "settle", "()V"⟩ ⟨"GuildCharterModel", "settle", "()V"⟩) ∈ lw_all := lw_g (lw_at lw_ms 75 rfl) rfl
theorem qs76 : (Cond.selects "GuildCharterModel" ⟨"GuildCharterModel", "isWordOf", "(I)Z"⟩ ⟨"GuildCharterModel", "isWordOf", "(I)Z"⟩) ∈ lw_all := lw_g (lw_at lw_ms 76 rfl) rfl
theorem qs77 : (Cond.selects "GuildCharterModel" ⟨"GuildCharterModel", "pairOf", "(III)I"⟩ ⟨"GuildCharterModel", "pairOf", "(III)I"⟩) ∈ lw_all := lw_g (lw_at lw_ms 77 rfl) rfl
theorem qs78 : (Cond.selects "GuildCharterModel" ⟨"GuildCharterModel", "isPlace", "(I)Z"⟩ ⟨"GuildCharterModel", "isPlace", "(I)Z"⟩) ∈ lw_all := lw_g (lw_at lw_ms 78 rfl) rfl
theorem qs79 : (Cond.selects "GuildCharterModel" ⟨"GuildCharterModel", "longOf", "()I"⟩ ⟨"GuildCharterModel", "longOf", "()I"⟩) ∈ lw_all := lw_g (lw_at lw_ms 79 rfl) rfl
theorem qs80 : (Cond.selects "GuildCharterModel" ⟨"GuildCharterModel", "canCome", "(I)Z"⟩ ⟨"GuildCharterModel", "canCome", "(I)Z"⟩) ∈ lw_all := lw_g (lw_at lw_ms 80 rfl) rfl
theorem qs81 : (Cond.selects "GuildCharterModel" ⟨"GuildCharterModel", "tryRow", "()V"⟩ ⟨"GuildCharterModel", "tryRow", "()V"⟩) ∈ lw_all := lw_g (lw_at lw_ms 81 rfl) rfl
theorem qs82 : (Cond.selects "GuildCharterModel" ⟨"GuildCharterModel", "canGoOn", "(I)Z"⟩ ⟨"GuildCharterModel", "canGoOn", "(I)Z"⟩) ∈ lw_all := lw_g (lw_at lw_ms 82 rfl) rfl
theorem qs83 : (Cond.selects "GuildCharterModel" ⟨"GuildCharterModel", "isRead", "(I)Z"⟩ ⟨"GuildCharterModel", "isRead", "(I)Z"⟩) ∈ lw_all := lw_g (lw_at lw_ms 83 rfl) rfl
theorem qs84 : (Cond.selects "GuildCharterModel" ⟨"GuildCharterModel", "layEnds", "(I)V"⟩ ⟨"GuildCharterModel", "layEnds", "(I)V"⟩) ∈ lw_all := lw_g (lw_at lw_ms 84 rfl) rfl
theorem qs85 : (Cond.selects "GuildCharterModel" ⟨"GuildCharterModel", "doesRead", "(III)Z"⟩ ⟨"GuildCharterModel", "doesRead", "(III)Z"⟩) ∈ lw_all := lw_g (lw_at lw_ms 85 rfl) rfl
theorem qs86 : (Cond.selects "GuildCharterModel" ⟨"GuildCharterModel", "endsBy", "(II)I"⟩ ⟨"GuildCharterModel", "endsBy", "(II)I"⟩) ∈ lw_all := lw_g (lw_at lw_ms 86 rfl) rfl
theorem qs87 : (Cond.selects "GuildCharterModel" ⟨"GuildCharterModel", "readingsOf", "(I)J"⟩ ⟨"GuildCharterModel", "readingsOf", "(I)J"⟩) ∈ lw_all := lw_g (lw_at lw_ms 87 rfl) rfl
theorem qs88 : (Cond.selects "GuildCharterModel" ⟨"GuildCharterModel", "waysBy", "(III)J"⟩ ⟨"GuildCharterModel", "waysBy", "(III)J"⟩) ∈ lw_all := lw_g (lw_at lw_ms 88 rfl) rfl
theorem qs89 : (Cond.selects "GuildCharterModel" ⟨"GuildCharterModel", "meansOf", "(II)I"⟩ ⟨"GuildCharterModel", "meansOf", "(II)I"⟩) ∈ lw_all := lw_g (lw_at lw_ms 89 rfl) rfl
theorem qs90 : (Cond.selects "GuildCharterModel" ⟨"GuildCharterModel", "keepAct", "(II)V"⟩ ⟨"GuildCharterModel", "keepAct", "(II)V"⟩) ∈ lw_all := lw_g (lw_at lw_ms 90 rfl) rfl
theorem qs91 : (Cond.selects "GuildCharterModel" ⟨"GuildCharterModel", "exchange", "(Z)V"⟩ ⟨"GuildCharterModel", "exchange", "(Z)V"⟩) ∈ lw_all := lw_g (lw_at lw_ms 91 rfl) rfl
theorem qs92 : (Cond.selects "GuildCharterModel" ⟨"GuildCharterModel", "layFromRow", "()Z"⟩ ⟨"GuildCharterModel", "layFromRow", "()Z"⟩) ∈ lw_all := lw_g (lw_at lw_ms 92 rfl) rfl
theorem qs93 : (Cond.selects "GuildCharterModel" ⟨"GuildCharterModel", "layList", "(IZ)Z"⟩ ⟨"GuildCharterModel", "layList", "(IZ)Z"⟩) ∈ lw_all := lw_g (lw_at lw_ms 93 rfl) rfl
theorem qs94 : (Cond.selects "GuildCharterModel" ⟨"GuildCharterModel", "keyOf", "(IZ)J"⟩ ⟨"GuildCharterModel", "keyOf", "(IZ)J"⟩) ∈ lw_all := lw_g (lw_at lw_ms 94 rfl) rfl
theorem qs95 : (Cond.selects "GuildCharterModel" ⟨"GuildCharterModel", "isOnPath", "(I)Z"⟩ ⟨"GuildCharterModel", "isOnPath", "(I)Z"⟩) ∈ lw_all := lw_g (lw_at lw_ms 95 rfl) rfl
theorem qs96 : (Cond.selects "GuildCharterModel" ⟨"GuildCharterModel", "takeCharter", "()V"⟩ ⟨"GuildCharterModel", "takeCharter", "()V"⟩) ∈ lw_all := lw_g (lw_at lw_ms 96 rfl) rfl
theorem qs97 : (Cond.selects "GuildCharterModel" ⟨"GuildCharterModel", "packed", "()I"⟩ ⟨"GuildCharterModel", "packed", "()I"⟩) ∈ lw_all := lw_g (lw_at lw_ms 97 rfl) rfl
theorem qs98 : (Cond.selects "GuildCharterModel" ⟨"GuildCharterModel", "turnsNow", "()V"⟩ ⟨"GuildCharterModel", "turnsNow", "()V"⟩) ∈ lw_all := lw_g (lw_at lw_ms 98 rfl) rfl
theorem qs99 : (Cond.selects "GuildCharterModel" ⟨"GuildCharterModel", "plays", "(I)I"⟩ ⟨"GuildCharterModel", "plays", "(I)I"⟩) ∈ lw_all := lw_g (lw_at lw_ms 99 rfl) rfl
theorem qs100 : (Cond.selects "GuildCharterModel" ⟨"GuildCharterModel", "areGrouped", "(III)Z"⟩ ⟨"GuildCharterModel", "areGrouped", "(III)Z"⟩) ∈ lw_all := lw_g (lw_at lw_ms 100 rfl) rfl
theorem qs101 : (Cond.selects "GuildCharterModel" ⟨"GuildCharterModel", "isBetter", "(IIII)Z"⟩ ⟨"GuildCharterModel", "isBetter", "(IIII)Z"⟩) ∈ lw_all := lw_g (lw_at lw_ms 101 rfl) rfl
theorem qs102 : (Cond.selects "GuildCharterModel" ⟨"GuildCharterModel", "gain", "(II)I"⟩ ⟨"GuildCharterModel", "gain", "(II)I"⟩) ∈ lw_all := lw_g (lw_at lw_ms 102 rfl) rfl
theorem qs103 : (Cond.selects "GuildCharterModel" ⟨"GuildCharterModel", "wordIn", "(II)I"⟩ ⟨"GuildCharterModel", "wordIn", "(II)I"⟩) ∈ lw_all := lw_g (lw_at lw_ms 103 rfl) rfl
theorem qs104 : (Cond.selects "GuildCharterModel" ⟨"GuildCharterModel", "gainOf", "(II)I"⟩ ⟨"GuildCharterModel", "gainOf", "(II)I"⟩) ∈ lw_all := lw_g (lw_at lw_ms 104 rfl) rfl
theorem qs105 : (Cond.selects "GuildCharterModel" ⟨"GuildCharterModel", "lay", "(I)V"⟩ ⟨"GuildCharterModel", "lay", "(I)V"⟩) ∈ lw_all := lw_g (lw_at lw_ms 105 rfl) rfl
theorem qs106 : (Cond.selects "GuildCharterModel" ⟨"GuildCharterModel", "heldBy", "(I)I"⟩ ⟨"GuildCharterModel", "heldBy", "(I)I"⟩) ∈ lw_all := lw_g (lw_at lw_ms 106 rfl) rfl
theorem qs107 : (Cond.selects "GuildCharterModel" ⟨"GuildCharterModel", "layFromNone", "()Z"⟩ ⟨"GuildCharterModel", "layFromNone", "()Z"⟩) ∈ lw_all := lw_g (lw_at lw_ms 107 rfl) rfl
theorem qs108 : (Cond.selects "GuildCharterModel" ⟨"GuildCharterModel", "turnsByOrder", "(I)V"⟩ ⟨"GuildCharterModel", "turnsByOrder", "(I)V"⟩) ∈ lw_all := lw_g (lw_at lw_ms 108 rfl) rfl
theorem qs109 : (Cond.selects "GuildCharterModel" ⟨"GuildCharterModel", "layShortest", "()V"⟩ ⟨"GuildCharterModel", "layShortest", "()V"⟩) ∈ lw_all := lw_g (lw_at lw_ms 109 rfl) rfl
theorem qs110 : (Cond.selects "GuildCharterModel" ⟨"GuildCharterModel", "sumOf", "(I)I"⟩ ⟨"GuildCharterModel", "sumOf", "(I)I"⟩) ∈ lw_all := lw_g (lw_at lw_ms 110 rfl) rfl
theorem qs111 : (Cond.selects "GuildCharterModel" ⟨"GuildCharterModel", "unpack", "(I)V"⟩ ⟨"GuildCharterModel", "unpack", "(I)V"⟩) ∈ lw_all := lw_g (lw_at lw_ms 111 rfl) rfl
theorem qs112 : (Cond.selects "GuildCharterModel" ⟨"GuildCharterModel", "tryWithout", "(I)V"⟩ ⟨"GuildCharterModel", "tryWithout", "(I)V"⟩) ∈ lw_all := lw_g (lw_at lw_ms 112 rfl) rfl
theorem qs113 : (Cond.selects "GuildCharterModel" ⟨"GuildCharterModel", "isSo", "(II)Z"⟩ ⟨"GuildCharterModel", "isSo", "(II)Z"⟩) ∈ lw_all := lw_g (lw_at lw_ms 113 rfl) rfl
