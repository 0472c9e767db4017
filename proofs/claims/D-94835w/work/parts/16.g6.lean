/-! ROWS OF G: calls -/
set_option maxRecDepth 100000
abbrev gPc (Γ : GG) (av : List Value) (m : MM) : Array Value → State → Prop := fun v U => v = av.toArray ∧ Rep Γ m U.heap ∧ Γ.s0.WarmedH U.vm ∧ m.n = U.heap.size ∧ Γ.z ≤ U.heap.size
theorem MetFree.imp {l : Launch} {x : MethodName} {S : Spec} {P : Array Value → State → Prop} {K : Program → Env → List Frame → State → Array Value → Prop} {Q Q2 : Array Value → State → Outcome → State → Prop} (h : MetFree l x S P K Q) (hQ : ∀ a s o t, Q a s o t → Q2 a s o t) : MetFree l x S P K Q2 := by
  intro p e h1 h2 h3 s m args below h4 h5 h6 h7
  obtain ⟨n, o, a, b, c, d⟩ := h p e h1 h2 h3 s m args below h4 h5 h6 h7
  exact ⟨n, o, a, b, c, hQ _ _ _ _ d⟩
theorem Ct.met {Γ : GG} {κ : KM} {cc : ByteArray} {av : List Value} {m m1 : MM} {v : Option Value} (hh : κ.hh = []) (h : Ct Γ κ cc av m (.inl v) m1) : Met Γ.l κ.y (ws_ κ.y cc κ.nL κ.ret) { frames := κ.fr, cells := m1.n - m.n, slots := m1.s - m.s, locals := κ.lo } (gPc Γ av m) (fun _ st oc t => oc = .returned v ∧ Rep Γ m1 t.heap) (m1.n - m.n) (m1.s - m.s) (fun q => Γ.z ≤ q) :=
  by
  have h2 := h.2
  rw [KM.w0 hh] at h2
  exact MetFree.imp h2 fun a s oc t q => ⟨⟨q.1, q.2.1⟩, by obtain ⟨q1, q2, L, q3, q4, q5⟩ := q; exact ⟨L, ⟨⟨_, q1⟩, q3, q4⟩, q5⟩⟩
theorem gPc_blind {Γ : GG} {av : List Value} {m : MM} : FrameBlind (gPc Γ av m) := fun _ _ _ _ h => h
theorem cat_le (l : List Value) (h : l.length ≤ 4) : (l.map fun v => v.category).sum ≤ 8 := by
  have key : ∀ l : List Value, (l.map fun v => v.category).sum ≤ 2 * l.length := by
    intro l
    induction l with
    | nil => exact Nat.le_refl _
    | cons a l ih =>
      rw [List.map_cons, List.sum_cons, List.length_cons]
      have : a.category ≤ 2 := by rcases lv_cat a with h | h <;> omega
      omega
  have := key l
  omega
/-- the words of a call -/
def VL (own : String) (idx : Nat) (κ2 : KM) (c2 : ByteArray) (n ci : Nat) : Prop := Cond.methodLink own idx κ2.y ∈ lw_all ∧ Cond.instanceMethod κ2.y ∈ lw_all ∧ Cond.selects κ2.y.cls κ2.y κ2.y ∈ lw_all ∧ Cond.initialized κ2.y.cls ∈ lw_all ∧ Cond.code κ2.y c2 κ2.nL κ2.ret ∈ lw_all ∧ (∃ T N, gcl[ci]? = some (κ2.y.cls, T, N)) ∧ ci < 49 ∧ (κ2.y.cls ≠ "java/lang/invoke/MethodHandle" ∧ κ2.y.cls ≠ "java/lang/invoke/VarHandle" ∧ (parseMethodDescriptor κ2.y.desc).map (fun d => d.parameters.length) = some n) ∧ κ2.hh = []
def SL (own : String) (idx : Nat) (κ2 : KM) (c2 : ByteArray) (n : Nat) : Prop := Cond.methodLink own idx κ2.y ∈ lw_all ∧ Cond.static κ2.y ∈ lw_all ∧ Cond.initialized κ2.y.cls ∈ lw_all ∧ Cond.code κ2.y c2 κ2.nL κ2.ret ∈ lw_all ∧ (κ2.y.cls ≠ "java/lang/invoke/MethodHandle" ∧ κ2.y.cls ≠ "java/lang/invoke/VarHandle" ∧ (parseMethodDescriptor κ2.y.desc).map (fun d => d.parameters.length) = some n) ∧ κ2.hh = []
def IL (own : String) (idx : Nat) (κ2 : KM) (c2 : ByteArray) (n : Nat) : Prop := Cond.methodLink own idx κ2.y ∈ lw_all ∧ Cond.instanceMethod κ2.y ∈ lw_all ∧ Cond.initialized κ2.y.cls ∈ lw_all ∧ Cond.code κ2.y c2 κ2.nL κ2.ret ∈ lw_all ∧ κ2.y.name = "<init>" ∧ κ2.ret = none ∧ (κ2.y.cls ≠ "java/lang/invoke/MethodHandle" ∧ κ2.y.cls ≠ "java/lang/invoke/VarHandle" ∧ (parseMethodDescriptor κ2.y.desc).map (fun d => d.parameters.length) = some n) ∧ κ2.hh = []
section GC
variable {Γ : GG} {κ κ2 : KM} {cc c2 : ByteArray} {m0 mF : MM} {o : GO} {m m1 : MM} {pc : Nat} {lv : List (Option Value)} {st : List Value}
theorem g_pre {p : Program} {e : Env} {s : State} {mi : MethodId} {args : Array Value} {below : List Frame} {meth : Method} {c : Code} {R : Room} (X : OkM Γ κ cc m0 mF p e s mi args below meth c R) {H : Heap} {cells : Nat} {av : List Value} (h1 : Rep Γ m H) (h3 : cells + m0.n = m.n) (U : State) (hU : U.heap = H) (hW : s.WarmedH U.vm) : gPc Γ av m av.toArray U := by
  have h6 := X.hn0
  have h7 := X.hz
  have h8 := h1.1
  exact ⟨rfl, by rw [hU]; exact h1, X.hw.trans hW, by rw [hU]; exact h8.symm, by rw [hU, h8]; omega⟩
theorem g_room {p : Program} {e : Env} {s : State} {mi : MethodId} {args : Array Value} {below : List Frame} {meth : Method} {c : Code} {R : Room} (X : OkM Γ κ cc m0 mF p e s mi args below meth c R) {cells slots : Nat} (hE : Ext m m1) (hF : Ext m1 mF) (h3 : cells + m0.n = m.n) (h4 : slots + m0.s = m.s) : cells + (m1.n - m.n) ≤ R.cells ∧ slots + (m1.s - m.s) ≤ R.slots ∧ cells + (m1.n - m.n) + m0.n = m1.n ∧ slots + (m1.s - m.s) + m0.s = m1.s := by
  have a1 := X.hce
  have a2 := X.hsl
  have b1 := hE.1
  have b2 := hE.2.1
  have c1 := hF.1
  have c2 := hF.2.1
  omega
/-- behind a call that returns -/
theorem g_back {rv : Option Value} {rest st0 : List Value} {p : Program} {e : Env} {s : State} {mi : MethodId} {args : Array Value} {below : List Frame} {meth : Method} {c : Code} {R : Room} (X : OkM Γ κ cc m0 mF p e s mi args below meth c R) (hE : Ext m m1) (kk : G Γ κ cc m0 mF o m1 (pc + 3) lv (rv.toList ++ rest)) {H : Heap} {locs : List Loc} {cells slots : Nat} {ls : Array Slot} (h1 : Rep Γ m H) (h2 : ∀ z ∈ locs, Γ.z ≤ z.base) (h3 : cells + m0.n = m.n) (h4 : slots + m0.s = m.s) (h5 : lvO ls κ.nL lv)
    (hr : va_Run p Γ.l e R s mi args below meth c H locs cells slots (m1.n - m.n) (m1.s - m.s) (F0 mi pc ls st0) rest (fun st oc t => oc = .returned rv ∧ Rep Γ m1 t.heap) (fun q => Γ.z ≤ q)) : W p Γ.l e R s mi args below meth c H locs cells slots (gQ Γ m0 mF o s below) (F0 mi pc ls st0) := by
  obtain ⟨-, -, r3, r4⟩ := g_room X hE kk.1 h3 h4
  intro T hT Y
  obtain ⟨v, st₀, t, T', L, e0, Y', hL, e1, e2, ⟨hv, hR⟩, stp⟩ := hr T hT Y
  cases hv
  obtain ⟨t2, a1, b1⟩ := kk.2 p e s mi args below meth c R X T'.heap (locs ++ L) (cells + (m1.n - m.n)) (slots + (m1.s - m.s)) ls (by rw [e1]; exact hR) (fun z hz => by
    rcases List.mem_append.mp hz with h | h
    · exact h2 z h
    · exact hL z h) r3 r4 h5 T' rfl Y'
  exact ⟨t2, stp t2 a1, b1⟩
theorem g_recv (hK : va_K Γ.D gcl [] Γ.s0) {p : Program} {e : Env} {s : State} {mi : MethodId} {args : Array Value} {below : List Frame} {meth : Method} {c : Code} {R : Room} (X : OkM Γ κ cc m0 mF p e s mi args below meth c R) {H : Heap} (h1 : Rep Γ m H) {b ci : Nat} {C : String} (hb : (m.K b).1 = ci + 1) (hci : ci < 49) (hc : ∃ T N, gcl[ci]? = some (C, T, N)) : ∃ cellB : Cell, H[b]? = some cellB ∧ cellB.vm.isStatics = false ∧ s.vm.findClass C = some cellB.cls := by
  obtain ⟨T, N, hc⟩ := hc
  obtain ⟨r, cell, w1, w2, w3, w4, w5, w6, w7⟩ := (h1.2.2.2.2 b).1 ci hb hci
  obtain ⟨hS, hfc, -⟩ := (va_K_s X hK).1 ci _ hc
  exact ⟨cell, w2, ne_isStatics w5, by rw [w3]; exact hfc⟩
theorem g_callV (hK : va_K Γ.D gcl [] Γ.s0) {idx n ci b : Nat} {As rest : List Value} {rv : Option Value} (V : VL κ.own idx κ2 c2 n ci) (hb : (m.K b).1 = ci + 1) (hC : Ct Γ κ2 c2 (.ref b :: As) m (.inl rv) m1) (hn : As.length = n) (hs : st = As.reverse ++ .ref b :: rest) (hfr : κ2.fr + 1 ≤ κ.fr) (hlo : 8 + (κ2.nL + 11) + κ2.lo ≤ κ.lo) (hr4 : rest.length ≤ 4) (d : decode cc pc = .ok (.invokevirtual idx, 3))
    (kk : G Γ κ cc m0 mF o m1 (pc + 3) lv (rv.toList ++ rest)) : G Γ κ cc m0 mF o m pc lv st := by
  refine ⟨hC.1.tr kk.1, fun p e s mi args below meth c R X H locs cells slots ls h1 h2 h3 h4 h5 => ?_⟩
  obtain ⟨r1, r2, r3, r4⟩ := g_room X hC.1 kk.1 h3 h4
  obtain ⟨v1, v2, v3, v4, v5, v6, v7, v8, vh⟩ := V
  exact g_back X hC.1 kk h1 h2 h3 h4 h5 (va_runV (As := As) (rest := rest) ⟨X.hx, X.hb, X.hml, X.hown, X.hts⟩ (hC.met vh) (cwV n X.hts (lw_V v1 v2 v3 v4 v5) rfl rfl rfl ⟨rfl, v8⟩ ⟨Nat.le_trans hfr X.hfr, Nat.le_trans hlo X.hlo⟩) ⟨gPc_blind, g_recv hK X h1 hb v7 v6, fun U hU hW => g_pre X h1 h3 U hU hW⟩ rfl hn h5.1 hs (lv_room (cat_le rest hr4)) d ⟨r1, r2⟩)
theorem g_callS {idx n : Nat} {As rest : List Value} {rv : Option Value} (V : SL κ.own idx κ2 c2 n) (hC : Ct Γ κ2 c2 As m (.inl rv) m1) (hn : As.length = n) (hs : st = As.reverse ++ rest) (hfr : κ2.fr + 1 ≤ κ.fr) (hlo : 8 + (κ2.nL + 11) + κ2.lo ≤ κ.lo) (hr4 : rest.length ≤ 4) (d : decode cc pc = .ok (.invokestatic idx, 3))
    (kk : G Γ κ cc m0 mF o m1 (pc + 3) lv (rv.toList ++ rest)) : G Γ κ cc m0 mF o m pc lv st := by
  refine ⟨hC.1.tr kk.1, fun p e s mi args below meth c R X H locs cells slots ls h1 h2 h3 h4 h5 => ?_⟩
  obtain ⟨r1, r2, r3, r4⟩ := g_room X hC.1 kk.1 h3 h4
  obtain ⟨v1, v2, v3, v4, v5, vh⟩ := V
  exact g_back X hC.1 kk h1 h2 h3 h4 h5 (va_runS (As := As) (rest := rest) ⟨X.hx, X.hb, X.hml, X.hown, X.hts⟩ (hC.met vh) (va_cwS n X.hts (lw_S v1 v2 v3 v4) rfl rfl rfl v5 ⟨Nat.le_trans hfr X.hfr, Nat.le_trans hlo X.hlo⟩) ⟨gPc_blind, fun U hU hW => g_pre X h1 h3 U hU hW⟩ rfl hn h5.1 hs (lv_room (cat_le rest hr4)) d ⟨r1, r2⟩)
theorem g_callI {idx n b : Nat} {As rest : List Value} (V : IL κ.own idx κ2 c2 n) (hC : Ct Γ κ2 c2 (.ref b :: As) m (.inl none) m1) (hn : As.length = n) (hs : st = As.reverse ++ .ref b :: rest) (hfr : κ2.fr + 1 ≤ κ.fr) (hlo : 8 + (κ2.nL + 11) + κ2.lo ≤ κ.lo) (hr4 : rest.length ≤ 4) (d : decode cc pc = .ok (.invokespecial idx, 3))
    (kk : G Γ κ cc m0 mF o m1 (pc + 3) lv rest) : G Γ κ cc m0 mF o m pc lv st := by
  refine ⟨hC.1.tr kk.1, fun p e s mi args below meth c R X H locs cells slots ls h1 h2 h3 h4 h5 => ?_⟩
  obtain ⟨r1, r2, r3, r4⟩ := g_room X hC.1 kk.1 h3 h4
  obtain ⟨v1, v2, v3, v4, v5, v6, v7, vh⟩ := V
  have hM := hC.met vh
  rw [v6] at hM v4
  exact g_back (rv := none) X hC.1 kk h1 h2 h3 h4 h5 (va_runI (As := As) (rest := rest) ⟨X.hx, X.hb, X.hml, X.hown, X.hts⟩ hM (cwI n X.hts (lw_meth v4) rfl rfl rfl (X.hts _ v3) (X.hts _ v1) (X.hts _ v2) v5 v7 ⟨Nat.le_trans hfr X.hfr, Nat.le_trans hlo X.hlo⟩) ⟨gPc_blind, fun U hU hW => g_pre X h1 h3 U hU hW⟩ rfl hn h5.1 hs (lv_room (cat_le rest hr4)) d ⟨r1, r2⟩)
theorem g_objInit {idx b : Nat} (q1 : Cond.methodLink κ.own idx Lib.objectInit ∈ lw_all) (q2 : Cond.instanceMethod Lib.objectInit ∈ lw_all) (q3 : Cond.code Lib.objectInit ⟨#[0xb1]⟩ 1 none ∈ lw_all) (hfr : 1 ≤ κ.fr) (hlo : 20 ≤ κ.lo) (hr4 : st.length ≤ 4) (d : decode cc pc = .ok (.invokespecial idx, 3)) (kk : G Γ κ cc m0 mF o m (pc + 3) lv st) : G Γ κ cc m0 mF o m pc lv (.ref b :: st) :=
  ⟨kk.1, fun p e s mi args below meth c R X H locs cells slots ls h1 h2 h3 h4 h5 => W.objInit X.hx X.hb X.hown (X.hts _ q1) (X.hts _ q2) (X.hts _ q3) rfl (by rw [X.hml]; exact h5.1) rfl d (Nat.le_trans hfr X.hfr) (by
    have := cat_le st hr4
    have := X.hlo
    show 2 * 0 + _ + 12 ≤ _
    omega) (kk.2 p e s mi args below meth c R X H locs cells slots ls h1 h2 h3 h4 h5)⟩
end GC
