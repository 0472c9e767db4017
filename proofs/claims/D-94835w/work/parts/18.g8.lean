/-! ROWS OF G: what the walks take besides -/
set_option maxRecDepth 100000
/-- texts: their constant, their entry in Reader's file -/
def gtx : List (Nat × Nat × String) := [(1, 94, "word"), (2, 95, "pair"), (3, 97, "rule"), (4, 99, "or"), (5, 101, "length"), (6, 103, "turns"), (7, 15, "")]
/-- words that do not ride in the lists -/
def gnw : List Cond := [.fieldLinkNest "GuildCharter$Reader" 35 "GuildCharter" "tape" "[B" "GuildCharter", .fieldLinkNest "GuildCharter$Reader" 32 "GuildCharter" "taped" "I" "GuildCharter", .methodLinkNest "GuildCharter" 163 ⟨"GuildCharter$Port", "<init>", "()V"⟩ "GuildCharter", .methodLinkNest "GuildCharter" 211 ⟨"GuildCharter$Reader", "<init>", "(LGuildCharter;)V"⟩ "GuildCharter", .methodLinkNest "GuildCharter$Reader" 23 ⟨"GuildCharter$Port", "<init>", "()V"⟩ "GuildCharter", .methodLinkNest "GuildCharter$Reader" 194 ⟨"GuildCharter$Alt", "<init>", "()V"⟩ "GuildCharter", .declares ⟨"java/lang/Object", "getClass", "()Ljava/lang/Class;"⟩, .arrayOver (.array .int), .castable "[B" "java/lang/Cloneable", .selects "java/lang/StringBuilder" ⟨"java/lang/AbstractStringBuilder", "ensureCapacityInternal", "(I)V"⟩ ⟨"java/lang/AbstractStringBuilder", "ensureCapacityInternal", "(I)V"⟩]
abbrev gsv (Γ : GG) (C n d : String) (v : Value) : Prop := va_Z C n d v (fun q => Γ.z ≤ q) Γ.s0 Γ.s0.heap
/-- what is known of the start: classes, array classes, words beside the list, texts, statics -/
def GF (Γ : GG) : Prop := va_K Γ.D gcl [] Γ.s0 ∧ gKA Γ ∧ va_AO "java/lang/Object" Γ.s0 ∧ gAny Γ ∧ (∀ q ∈ gtx, ∃ a, Γ.c q.1 = some a ∧ vk_R "GuildCharter$Reader" q.2.1 q.2.2 a Γ.s0) ∧ (∀ s : State, Γ.s0.WarmedH s.vm → ∀ w ∈ gnw, va_Nw w s) ∧ gsv Γ "java/lang/String" "COMPACT_STRINGS" "Z" (.int 1) ∧ gsv Γ "java/lang/Throwable" "UNASSIGNED_STACK" "[Ljava/lang/StackTraceElement;" (va_rf (Γ.c 8)) ∧ gsv Γ "java/lang/Throwable" "SUPPRESSED_SENTINEL" "Ljava/util/List;" (va_rf (Γ.c 9)) ∧ ∃ mi, Γ.c 10 = some mi ∧ va_Mi "[Ljava/lang/Object;" mi Γ.s0
theorem GF.k {Γ : GG} (h : GF Γ) : va_K Γ.D gcl [] Γ.s0 := h.1
theorem GF.a {Γ : GG} (h : GF Γ) : gKA Γ := h.2.1
theorem GF.ao {Γ : GG} (h : GF Γ) : va_AO "java/lang/Object" Γ.s0 := h.2.2.1
theorem GF.any {Γ : GG} (h : GF Γ) : gAny Γ := h.2.2.2.1
theorem GF.str {Γ : GG} (h : GF Γ) {c idx : Nat} {tx : String} (hm : (c, idx, tx) ∈ gtx) : ∃ a, Γ.c c = some a ∧ vk_R "GuildCharter$Reader" idx tx a Γ.s0 := h.2.2.2.2.1 (c, idx, tx) hm
theorem GF.nw {Γ : GG} (h : GF Γ) {s : State} (hW : Γ.s0.WarmedH s.vm) {w : Cond} (hw : w ∈ gnw) : va_Nw w s := h.2.2.2.2.2.1 s hW w hw
theorem GF.cs {Γ : GG} (h : GF Γ) : gsv Γ "java/lang/String" "COMPACT_STRINGS" "Z" (.int 1) := h.2.2.2.2.2.2.1
theorem GF.us {Γ : GG} (h : GF Γ) : gsv Γ "java/lang/Throwable" "UNASSIGNED_STACK" "[Ljava/lang/StackTraceElement;" (va_rf (Γ.c 8)) := h.2.2.2.2.2.2.2.1
theorem GF.ss {Γ : GG} (h : GF Γ) : gsv Γ "java/lang/Throwable" "SUPPRESSED_SENTINEL" "Ljava/util/List;" (va_rf (Γ.c 9)) := h.2.2.2.2.2.2.2.2.1
theorem GF.mi {Γ : GG} (h : GF Γ) : ∃ mi, Γ.c 10 = some mi ∧ va_Mi "[Ljava/lang/Object;" mi Γ.s0 := h.2.2.2.2.2.2.2.2.2
theorem pI_ext {m m1 : MM} {r : Option Nat} {kd k t : Nat} {v : Int32} (h : pI m r kd k t v = some m1) : Ext m m1 := by
  cases r with
  | none => cases h
  | some a =>
    simp only [pI] at h
    split at h
    · cases h; exact Ext.putI _ _ _
    · cases h
theorem pL_ext {m m1 : MM} {r : Option Nat} {kd k : Nat} {v : Int64} (h : pL m r kd k v = some m1) : Ext m m1 := by
  cases r with
  | none => cases h
  | some a =>
    simp only [pL] at h
    split at h
    · cases h; exact Ext.putL _ _ _
    · cases h
theorem pR_ext {m m1 : MM} {r v : Option Nat} {kd k : Nat} (h : pR m r kd k v = some m1) : Ext m m1 := by
  cases r with
  | none => cases h
  | some a =>
    simp only [pR] at h
    split at h
    · cases h; exact Ext.putR _ _ _
    · cases h
theorem sI_ext {m m1 : MM} {t : Nat} {r : Option Nat} {i v : Int32} (h : sI m t r i v = some m1) : Ext m m1 := by
  obtain ⟨a, -, -, -, -, -, rfl⟩ := sI_spec h
  exact Ext.putI _ _ _
theorem sL_ext {m m1 : MM} {r : Option Nat} {i : Int32} {v : Int64} (h : sL m r i v = some m1) : Ext m m1 := by
  obtain ⟨a, -, -, -, -, -, rfl⟩ := sL_spec h
  exact Ext.putL _ _ _
theorem sR_ext {m m1 : MM} {t : Nat} {r v : Option Nat} {i : Int32} (h : sR m t r i v = some m1) : Ext m m1 := by
  obtain ⟨a, -, -, -, -, -, -, rfl⟩ := sR_spec h
  exact Ext.putR _ _ _
theorem nA_ext {m m1 : MM} {t : Nat} {n : Int32} (h : nA m t n = some m1) : Ext m m1 := by
  obtain ⟨-, -, rfl⟩ := nA_spec h
  exact Ext.new _ _ _ _
theorem nO_ext {m m1 : MM} {kd N : Nat} (h : nO m kd N = some m1) : Ext m m1 := by
  cases h
  exact Ext.new _ _ _ _
theorem isK_of {m : MM} {r : Option Nat} {kd a : Nat} (h : isK m r kd = some a) : r = some a ∧ (m.K a).1 = kd := by
  cases r with
  | none => cases h
  | some b =>
    simp only [isK] at h
    split at h
    · cases h; exact ⟨rfl, by assumption⟩
    · cases h
theorem isKz_of {m : MM} {r : Option Nat} {kd a : Nat} (h : isKz m r kd = some a) : r = some a ∧ (m.K a).1 = kd ∧ m.b ≤ a := by
  cases r with
  | none => cases h
  | some b =>
    simp only [isKz] at h
    split at h
    · rename_i c
      cases h; exact ⟨rfl, c.1, c.2⟩
    · cases h
section GM
variable {Γ : GG} {κ κ2 : KM} {cc c2 : ByteArray} {m0 mF : MM} {o : GO} {m m1 : MM} {pc : Nat} {lv : List (Option Value)} {st : List Value}
theorem g_nO (hK : va_K Γ.D gcl [] Γ.s0) {idx ci N : Nat} (F : NL κ.own idx ci N) (ht : ∀ k, k < N → (∃ C, gty ci k = .object C) ∨ (∃ t, gty ci k = .array t) ∨ gty ci k = .int ∨ gty ci k = .long ∨ gty ci k = .byte ∨ gty ci k = .boolean) (ha : nO m (ci + 1) N = some m1) (d : decode cc pc = .ok (.new idx, 3)) (kk : G Γ κ cc m0 mF o m1 (pc + 3) lv (va_rf (some m.n) :: st)) : G Γ κ cc m0 mF o m pc lv st := by
  cases ha
  exact g_new hK F ht d kk
theorem g_callVi (hK : va_K Γ.D gcl [] Γ.s0) {idx n ci b : Nat} {As rest : List Value} {r : Int32} (V : VL κ.own idx κ2 c2 n ci) (hb : (m.K b).1 = ci + 1) (hC : Ct Γ κ2 c2 (.ref b :: As) m (.inl (some (.int r))) m1) (hn : As.length = n) (hs : st = As.reverse ++ .ref b :: rest) (hfr : κ2.fr + 1 ≤ κ.fr) (hlo : 8 + (κ2.nL + 11) + κ2.lo ≤ κ.lo) (hr4 : rest.length ≤ 4) (d : decode cc pc = .ok (.invokevirtual idx, 3)) (kk : G Γ κ cc m0 mF o m1 (pc + 3) lv (.int r :: rest)) : G Γ κ cc m0 mF o m pc lv st := g_callV hK V hb hC hn hs hfr hlo hr4 d kk
theorem g_callSi {idx n : Nat} {As rest : List Value} {r : Int32} (V : SL κ.own idx κ2 c2 n) (hC : Ct Γ κ2 c2 As m (.inl (some (.int r))) m1) (hn : As.length = n) (hs : st = As.reverse ++ rest) (hfr : κ2.fr + 1 ≤ κ.fr) (hlo : 8 + (κ2.nL + 11) + κ2.lo ≤ κ.lo) (hr4 : rest.length ≤ 4) (d : decode cc pc = .ok (.invokestatic idx, 3)) (kk : G Γ κ cc m0 mF o m1 (pc + 3) lv (.int r :: rest)) : G Γ κ cc m0 mF o m pc lv st := g_callS V hC hn hs hfr hlo hr4 d kk
theorem g_callVl (hK : va_K Γ.D gcl [] Γ.s0) {idx n ci b : Nat} {As rest : List Value} {r : Int64} (V : VL κ.own idx κ2 c2 n ci) (hb : (m.K b).1 = ci + 1) (hC : Ct Γ κ2 c2 (.ref b :: As) m (.inl (some (.long r))) m1) (hn : As.length = n) (hs : st = As.reverse ++ .ref b :: rest) (hfr : κ2.fr + 1 ≤ κ.fr) (hlo : 8 + (κ2.nL + 11) + κ2.lo ≤ κ.lo) (hr4 : rest.length ≤ 4) (d : decode cc pc = .ok (.invokevirtual idx, 3)) (kk : G Γ κ cc m0 mF o m1 (pc + 3) lv (.long r :: rest)) : G Γ κ cc m0 mF o m pc lv st := g_callV hK V hb hC hn hs hfr hlo hr4 d kk
theorem g_callSl {idx n : Nat} {As rest : List Value} {r : Int64} (V : SL κ.own idx κ2 c2 n) (hC : Ct Γ κ2 c2 As m (.inl (some (.long r))) m1) (hn : As.length = n) (hs : st = As.reverse ++ rest) (hfr : κ2.fr + 1 ≤ κ.fr) (hlo : 8 + (κ2.nL + 11) + κ2.lo ≤ κ.lo) (hr4 : rest.length ≤ 4) (d : decode cc pc = .ok (.invokestatic idx, 3)) (kk : G Γ κ cc m0 mF o m1 (pc + 3) lv (.long r :: rest)) : G Γ κ cc m0 mF o m pc lv st := g_callS V hC hn hs hfr hlo hr4 d kk
theorem g_callVr (hK : va_K Γ.D gcl [] Γ.s0) {idx n ci b : Nat} {As rest : List Value} {r : Option Nat} (V : VL κ.own idx κ2 c2 n ci) (hb : (m.K b).1 = ci + 1) (hC : Ct Γ κ2 c2 (.ref b :: As) m (.inl (some (va_rf r))) m1) (hn : As.length = n) (hs : st = As.reverse ++ .ref b :: rest) (hfr : κ2.fr + 1 ≤ κ.fr) (hlo : 8 + (κ2.nL + 11) + κ2.lo ≤ κ.lo) (hr4 : rest.length ≤ 4) (d : decode cc pc = .ok (.invokevirtual idx, 3)) (kk : G Γ κ cc m0 mF o m1 (pc + 3) lv (va_rf r :: rest)) : G Γ κ cc m0 mF o m pc lv st := g_callV hK V hb hC hn hs hfr hlo hr4 d kk
theorem g_callSr {idx n : Nat} {As rest : List Value} {r : Option Nat} (V : SL κ.own idx κ2 c2 n) (hC : Ct Γ κ2 c2 As m (.inl (some (va_rf r))) m1) (hn : As.length = n) (hs : st = As.reverse ++ rest) (hfr : κ2.fr + 1 ≤ κ.fr) (hlo : 8 + (κ2.nL + 11) + κ2.lo ≤ κ.lo) (hr4 : rest.length ≤ 4) (d : decode cc pc = .ok (.invokestatic idx, 3)) (kk : G Γ κ cc m0 mF o m1 (pc + 3) lv (va_rf r :: rest)) : G Γ κ cc m0 mF o m pc lv st := g_callS V hC hn hs hfr hlo hr4 d kk
theorem g_callVv (hK : va_K Γ.D gcl [] Γ.s0) {idx n ci b : Nat} {As rest : List Value} (V : VL κ.own idx κ2 c2 n ci) (hb : (m.K b).1 = ci + 1) (hC : Ct Γ κ2 c2 (.ref b :: As) m (.inl none) m1) (hn : As.length = n) (hs : st = As.reverse ++ .ref b :: rest) (hfr : κ2.fr + 1 ≤ κ.fr) (hlo : 8 + (κ2.nL + 11) + κ2.lo ≤ κ.lo) (hr4 : rest.length ≤ 4) (d : decode cc pc = .ok (.invokevirtual idx, 3)) (kk : G Γ κ cc m0 mF o m1 (pc + 3) lv rest) : G Γ κ cc m0 mF o m pc lv st := g_callV hK V hb hC hn hs hfr hlo hr4 d kk
theorem g_callSv {idx n : Nat} {As rest : List Value} (V : SL κ.own idx κ2 c2 n) (hC : Ct Γ κ2 c2 As m (.inl none) m1) (hn : As.length = n) (hs : st = As.reverse ++ rest) (hfr : κ2.fr + 1 ≤ κ.fr) (hlo : 8 + (κ2.nL + 11) + κ2.lo ≤ κ.lo) (hr4 : rest.length ≤ 4) (d : decode cc pc = .ok (.invokestatic idx, 3)) (kk : G Γ κ cc m0 mF o m1 (pc + 3) lv rest) : G Γ κ cc m0 mF o m pc lv st := g_callS V hC hn hs hfr hlo hr4 d kk
theorem va_rf_cat (r : Option Nat) : (va_rf r).category = 1 := by cases r <;> rfl
theorem tab_out {x : Int32} {hi : Int} (lo : Int) (n : Nat) (hl : -2147483648 ≤ lo) (hh : lo + n ≤ 2147483648) (h : ∀ j : Nat, j < n → ¬ x = Int32.ofInt (lo + j)) (e : lo + n = hi + 1) : x.toInt < lo ∨ hi < x.toInt := by
  by_cases h1 : x.toInt < lo
  · exact Or.inl h1
  · by_cases h2 : hi < x.toInt
    · exact Or.inr h2
    · exfalso
      obtain ⟨j, hj⟩ : ∃ j : Nat, x.toInt = lo + j := ⟨(x.toInt - lo).toNat, by omega⟩
      refine h j (by omega) (Int32.toInt_inj.mp ?_)
      rw [hj, Int32.toInt_ofInt_of_le (by omega) (by omega)]
end GM
theorem ty_X0 : ∀ k, k < 34 → (∃ C, gty 0 k = .object C) ∨ (∃ t, gty 0 k = .array t) ∨ gty 0 k = .int ∨ gty 0 k = .long ∨ gty 0 k = .byte ∨ gty 0 k = .boolean := by
  have h : ∀ k, k < 34 → (match gty 0 k with
    | .object _ => true
    | .array _ => true
    | .int => true
    | .long => true
    | .byte => true
    | .boolean => true
    | _ => false) = true := by decide +kernel
  intro k hk
  have h1 := h k hk
  cases hg : gty 0 k <;> simp [hg] at h1 ⊢
theorem ty_X1 : ∀ k, k < 10 → (∃ C, gty 1 k = .object C) ∨ (∃ t, gty 1 k = .array t) ∨ gty 1 k = .int ∨ gty 1 k = .long ∨ gty 1 k = .byte ∨ gty 1 k = .boolean := by
  have h : ∀ k, k < 10 → (match gty 1 k with
    | .object _ => true
    | .array _ => true
    | .int => true
    | .long => true
    | .byte => true
    | .boolean => true
    | _ => false) = true := by decide +kernel
  intro k hk
  have h1 := h k hk
  cases hg : gty 1 k <;> simp [hg] at h1 ⊢
theorem ty_X2 : ∀ k, k < 71 → (∃ C, gty 2 k = .object C) ∨ (∃ t, gty 2 k = .array t) ∨ gty 2 k = .int ∨ gty 2 k = .long ∨ gty 2 k = .byte ∨ gty 2 k = .boolean := by
  have h : ∀ k, k < 71 → (match gty 2 k with
    | .object _ => true
    | .array _ => true
    | .int => true
    | .long => true
    | .byte => true
    | .boolean => true
    | _ => false) = true := by decide +kernel
  intro k hk
  have h1 := h k hk
  cases hg : gty 2 k <;> simp [hg] at h1 ⊢
theorem ty_X3 : ∀ k, k < 7 → (∃ C, gty 3 k = .object C) ∨ (∃ t, gty 3 k = .array t) ∨ gty 3 k = .int ∨ gty 3 k = .long ∨ gty 3 k = .byte ∨ gty 3 k = .boolean := by
  have h : ∀ k, k < 7 → (match gty 3 k with
    | .object _ => true
    | .array _ => true
    | .int => true
    | .long => true
    | .byte => true
    | .boolean => true
    | _ => false) = true := by decide +kernel
  intro k hk
  have h1 := h k hk
  cases hg : gty 3 k <;> simp [hg] at h1 ⊢
theorem ty_X4 : ∀ k, k < 8 → (∃ C, gty 4 k = .object C) ∨ (∃ t, gty 4 k = .array t) ∨ gty 4 k = .int ∨ gty 4 k = .long ∨ gty 4 k = .byte ∨ gty 4 k = .boolean := by
  have h : ∀ k, k < 8 → (match gty 4 k with
    | .object _ => true
    | .array _ => true
    | .int => true
    | .long => true
    | .byte => true
    | .boolean => true
    | _ => false) = true := by decide +kernel
  intro k hk
  have h1 := h k hk
  cases hg : gty 4 k <;> simp [hg] at h1 ⊢
theorem ty_X5 : ∀ k, k < 2 → (∃ C, gty 5 k = .object C) ∨ (∃ t, gty 5 k = .array t) ∨ gty 5 k = .int ∨ gty 5 k = .long ∨ gty 5 k = .byte ∨ gty 5 k = .boolean := by
  have h : ∀ k, k < 2 → (match gty 5 k with
    | .object _ => true
    | .array _ => true
    | .int => true
    | .long => true
    | .byte => true
    | .boolean => true
    | _ => false) = true := by decide +kernel
  intro k hk
  have h1 := h k hk
  cases hg : gty 5 k <;> simp [hg] at h1 ⊢
theorem ty_X6 : ∀ k, k < 3 → (∃ C, gty 6 k = .object C) ∨ (∃ t, gty 6 k = .array t) ∨ gty 6 k = .int ∨ gty 6 k = .long ∨ gty 6 k = .byte ∨ gty 6 k = .boolean := by
  have h : ∀ k, k < 3 → (match gty 6 k with
    | .object _ => true
    | .array _ => true
    | .int => true
    | .long => true
    | .byte => true
    | .boolean => true
    | _ => false) = true := by decide +kernel
  intro k hk
  have h1 := h k hk
  cases hg : gty 6 k <;> simp [hg] at h1 ⊢
theorem ty_X7 : ∀ k, k < 5 → (∃ C, gty 7 k = .object C) ∨ (∃ t, gty 7 k = .array t) ∨ gty 7 k = .int ∨ gty 7 k = .long ∨ gty 7 k = .byte ∨ gty 7 k = .boolean := by
  have h : ∀ k, k < 5 → (match gty 7 k with
    | .object _ => true
    | .array _ => true
    | .int => true
    | .long => true
    | .byte => true
    | .boolean => true
    | _ => false) = true := by decide +kernel
  intro k hk
  have h1 := h k hk
  cases hg : gty 7 k <;> simp [hg] at h1 ⊢
theorem ty_J2 : ∀ k, k < 3 → (∃ C, gty 8 k = .object C) ∨ (∃ t, gty 8 k = .array t) ∨ gty 8 k = .int ∨ gty 8 k = .long ∨ gty 8 k = .byte ∨ gty 8 k = .boolean := by
  have h : ∀ k, k < 3 → (match gty 8 k with
    | .object _ => true
    | .array _ => true
    | .int => true
    | .long => true
    | .byte => true
    | .boolean => true
    | _ => false) = true := by decide +kernel
  intro k hk
  have h1 := h k hk
  cases hg : gty 8 k <;> simp [hg] at h1 ⊢
theorem ty_J4 : ∀ k, k < 4 → (∃ C, gty 9 k = .object C) ∨ (∃ t, gty 9 k = .array t) ∨ gty 9 k = .int ∨ gty 9 k = .long ∨ gty 9 k = .byte ∨ gty 9 k = .boolean := by
  have h : ∀ k, k < 4 → (match gty 9 k with
    | .object _ => true
    | .array _ => true
    | .int => true
    | .long => true
    | .byte => true
    | .boolean => true
    | _ => false) = true := by decide +kernel
  intro k hk
  have h1 := h k hk
  cases hg : gty 9 k <;> simp [hg] at h1 ⊢
theorem ty_J5 : ∀ k, k < 4 → (∃ C, gty 10 k = .object C) ∨ (∃ t, gty 10 k = .array t) ∨ gty 10 k = .int ∨ gty 10 k = .long ∨ gty 10 k = .byte ∨ gty 10 k = .boolean := by
  have h : ∀ k, k < 4 → (match gty 10 k with
    | .object _ => true
    | .array _ => true
    | .int => true
    | .long => true
    | .byte => true
    | .boolean => true
    | _ => false) = true := by decide +kernel
  intro k hk
  have h1 := h k hk
  cases hg : gty 10 k <;> simp [hg] at h1 ⊢
