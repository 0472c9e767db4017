/-! ROWS OF G: a cast to an array, a handler -/
set_option maxRecDepth 100000
section GV
variable {Γ : GG} {κ κ2 : KM} {cc c2 : ByteArray} {m0 mF : MM} {o : GO} {m m1 : MM} {pc : Nat} {lv : List (Option Value)} {st : List Value}
theorem g_castZ (hΓ : GF Γ) {idx t : Nat} {nm : String} {r : Option Nat} (q : Cond.classLink κ.own idx nm ∈ lw_all) (h50 : 50 ≤ t ∧ t ≤ 55) (hnm : "[" ++ (gat t).toString = nm) (hc : okZ m t r = true) (d : decode cc pc = .ok (.checkcast idx, 3)) (kk : G Γ κ cc m0 mF o m (pc + 3) lv (va_rf r :: st)) : G Γ κ cc m0 mF o m pc lv (va_rf r :: st) := by
  cases r with
  | none => exact lv_castNull d kk
  | some a =>
    have ha : (m.K a).1 = t ∧ m.b ≤ a := by simpa [okZ] using hc
    refine ⟨kk.1, fun p e s mi args below meth c R X H locs cells slots ls h1 h2 h3 h4 h5 => ?_⟩
    have hza : Γ.z ≤ a := by rw [← h1.2.1]; exact ha.2
    obtain ⟨cell, w1, w2, w3, w4, w5, w6⟩ := h1.arrz ha.1 h50.1 hza
    obtain ⟨kA, comp, g1, g2, g3, -⟩ := hΓ.a t h50.1 h50.2
    exact va_castE X.hx X.hb X.hown (X.hts _ q) ⟨cell, w1, ne_isStatics w2.1, by rw [(w4 hza).1, X.hal.findClass, ← hnm]; exact g1⟩ d (kk.2 p e s mi args below meth c R X H locs cells slots ls h1 h2 h3 h4 h5)
/-- a contract of a method with handlers -/
theorem Ct.ofH {Γ : GG} {κ : KM} {cc : ByteArray} {av : List Value} {m m1 : MM} {o : GO} (hy : plainName κ.y.cls = true) (hown : κ.y.cls = κ.own) (hl : (lg_sl av).length ≤ κ.nL) (hh : κ.hh ≠ []) (h : G Γ κ cc m m1 o m 0 (lvE κ.nL av) []) : Ct Γ κ cc av m o m1 := by
  refine ⟨h.1, ?_⟩
  have hw : κ.w cc = Cond.codeWith κ.y cc κ.nL κ.ret κ.hh := by
    unfold KM.w
    cases hq : κ.hh with
    | nil => exact absurd hq hh
    | cons a t => rfl
  rw [hw]
  refine MetFree.of_bodyS (code := cc) (maxLocals := κ.nL) (ret := κ.ret) hy ?_ ?_
  · intro args s mi h hn
    obtain ⟨m9, meth, c, hn9, h1, h2, h3, h4, -, h5, h6, -⟩ := Cond.codeWith_spec (atoms_spec (ws := wsW_ κ.y cc κ.nL κ.ret κ.hh) h _ List.mem_cons_self)
    cases hn.symm.trans hn9
    exact ⟨meth, c, h1, h2, h3, h4, h5, h6⟩
  · intro p e s mi args below meth c s₁ B hml hP _
    obtain ⟨rfl, hR, hal, hn0, hz⟩ := hP
    have hts := atoms_spec (ws := wsW_ κ.y cc κ.nL κ.ret κ.hh) B.pre
    have hts2 : ∀ w ∈ lw_all, w.before _ s = true := fun w h => hts w (List.mem_cons_of_mem _ h)
    have hh0 : s₁.heap = s.heap := by rw [B.state]; rfl
    have hle := h.1
    have X : OkM Γ κ cc m m1 p e s mi av.toArray below meth c { frames := κ.fr, cells := m1.n - m.n, slots := m1.s - m.s, locals := κ.lo } := by
      refine ⟨B.exec, B.bytes, hml, ?_, hts2, hal, B.notSynchronized, B.returns, (name_of_methodNamed B.named B.method).1, Nat.le_refl _, Nat.le_refl _, ?_, ?_, hn0, hz, ?_⟩
      · rw [← hown]; exact findClass_of_methodNamed B.named
      · have := hle.1; show m1.n ≤ m.n + (m1.n - m.n); omega
      · have := hle.2.1; show m1.s ≤ m.s + (m1.s - m.s); omega
      · obtain ⟨m9, meth9, c9, hn9, g1, g2, -, -, g6, -⟩ := Cond.codeWith_spec (hts _ List.mem_cons_self)
        cases Option.some.inj (hn9.symm.trans B.named)
        cases Option.some.inj (g1.symm.trans B.method)
        cases Option.some.inj (g2.symm.trans (Stand.of_body B).code)
        exact g6
    have hent := lv_entry av (n := κ.nL) hl
    have w := h.2 p e s mi av.toArray below meth c _ X s.heap [] 0 0 _ hR (fun z hz => by cases hz) (by omega) (by omega) (lvE_of hent)
    rw [← lg_entry_eq] at w
    obtain ⟨t, a1, oc, L, b1, b2, b3, b4, b5, b6, b7⟩ := w s₁ hh0 (Stand.of_body B)
    exact ⟨t, oc, a1, b1, b2, b3, b4, L, b5, b6, b7⟩
/-- a call that throws a Wrong inside a try: on at the handler (one handler, of that class) -/
theorem g_catV (hΓ : GF Γ) {idx n ci b q h0 h1' hp ct cx : Nat} {As rest : List Value} {nm : String} {T9 : u_T} {N9 : Nat} (hh : κ.hh = [(h0, h1', hp, ct)]) (hcov : h0 ≤ pc ∧ pc < h1') (hct : ct ≠ 0) (hl9 : Cond.classLink κ.own ct nm ∈ lw_all) (hcx : gcl[cx]? = some (nm, T9, N9)) (hc49 : cx < 49) (hq : (m1.K q).1 = cx + 1)
    (V : VL κ.own idx κ2 c2 n ci) (hb : (m.K b).1 = ci + 1) (hC : Ct Γ κ2 c2 (.ref b :: As) m (.inr q) m1) (hn : As.length = n) (hs : st = As.reverse ++ .ref b :: rest) (hfr : κ2.fr + 1 ≤ κ.fr) (hlo : 8 + (κ2.nL + 11) + κ2.lo ≤ κ.lo) (hr4 : rest.length ≤ 4) (d : decode cc pc = .ok (.invokevirtual idx, 3)) (kk : G Γ κ cc m0 mF o m1 hp lv [va_rf (some q)]) : G Γ κ cc m0 mF o m pc lv st := by
  refine ⟨hC.1.tr kk.1, fun p e s mi args below meth c R X H locs cells slots ls h1 h2 h3 h4 h5 => ?_⟩
  intro T hT Y
  obtain ⟨r1, r2, r3, r4⟩ := g_room X hC.1 kk.1 h3 h4
  obtain ⟨T2, locs2, Y2, hR, hl2, stp⟩ := g_thrV hΓ.k V hb hC hn hs hfr hlo hr4 d kk.1 X h1 h2 h3 h4 h5 T hT Y
  have htb := X.hhh
  rw [hh] at htb
  obtain ⟨x, hx1, hx2⟩ : ∃ x, c.exceptionTable.toList = [x] ∧ (x.startPc, x.endPc, x.handlerPc, x.catchType) = (h0, h1', hp, ct) := by
    cases hl : c.exceptionTable.toList with
    | nil => rw [hl] at htb; cases htb
    | cons x l =>
      cases l with
      | nil => rw [hl] at htb; exact ⟨x, rfl, by simpa using htb⟩
      | cons y l => rw [hl] at htb; simp at htb
  obtain ⟨rfl, rfl, rfl, rfl⟩ : h0 = x.startPc ∧ h1' = x.endPc ∧ hp = x.handlerPc ∧ ct = x.catchType := by simpa using hx2.symm
  obtain ⟨r9, cell, w1, w2, w3, w4, w5, w6, w7⟩ := (hR.2.2.2.2 q).1 cx hq hc49
  have hfc : s.vm.findClass nm = some cell.cls := by
    rw [w3]
    exact ((va_K_s X hΓ.k).1 cx _ hcx).2.1
  have hpl : e.platform.magicAccessors = ({} : Platform).magicAccessors := by rw [Y.admits.platform]
  obtain ⟨c5, hc5, hcl5⟩ := Cond.classLink_spec X.hown (X.hts _ hl9) e.platform hpl
  cases Option.some.inj (hfc.symm.trans hc5)
  obtain ⟨vm', Y3, stp2⟩ := Y2.thenCaughtThrough q (g := F0 mi pc ls rest) rfl (Steps.refl _) w2 (ne_isStatics w5) (by obtain ⟨k9, h9, -⟩ := Vm.findClass_spec hfc; exact ⟨k9, h9⟩) [] x [] hx1 (fun z hz => by cases hz) (by unfold covers; simp; exact hcov) (Or.inr ⟨hct, cell.cls, hcl5, ar_self _ _⟩)
  obtain ⟨t, a1, b1⟩ := kk.2 p e s mi args below meth c R X T2.heap locs2 (cells + (m1.n - m.n)) (slots + (m1.s - m.s)) ls hR hl2 r3 r4 h5 (T2.setVm vm') rfl Y3
  exact ⟨t, (stp.trans stp2).trans a1, b1⟩
end GV
/-- a private method of a superclass, on an object of the subclass -/
def VLP (own : String) (idx : Nat) (κ2 : KM) (c2 : ByteArray) (n ci : Nat) : Prop := ∃ C T N, gcl[ci]? = some (C, T, N) ∧ Cond.methodLink own idx κ2.y ∈ lw_all ∧ Cond.instanceMethod κ2.y ∈ lw_all ∧ Cond.selects C κ2.y κ2.y ∈ gnw ∧ Cond.initialized κ2.y.cls ∈ lw_all ∧ Cond.code κ2.y c2 κ2.nL κ2.ret ∈ lw_all ∧ ci < 49 ∧ (κ2.y.cls ≠ "java/lang/invoke/MethodHandle" ∧ κ2.y.cls ≠ "java/lang/invoke/VarHandle" ∧ (parseMethodDescriptor κ2.y.desc).map (fun d => d.parameters.length) = some n) ∧ κ2.hh = []
theorem g_callVPv {Γ : GG} {κ κ2 : KM} {cc c2 : ByteArray} {m0 mF : MM} {o : GO} {m m1 : MM} {pc : Nat} {lv : List (Option Value)} {st : List Value} (hΓ : GF Γ) {idx n ci b : Nat} {As rest : List Value} (V : VLP κ.own idx κ2 c2 n ci) (hb : (m.K b).1 = ci + 1) (hC : Ct Γ κ2 c2 (.ref b :: As) m (.inl none) m1) (hn : As.length = n) (hs : st = As.reverse ++ .ref b :: rest) (hfr : κ2.fr + 1 ≤ κ.fr) (hlo : 8 + (κ2.nL + 11) + κ2.lo ≤ κ.lo) (hr4 : rest.length ≤ 4) (d : decode cc pc = .ok (.invokevirtual idx, 3))
    (kk : G Γ κ cc m0 mF o m1 (pc + 3) lv rest) : G Γ κ cc m0 mF o m pc lv st := by
  refine ⟨hC.1.tr kk.1, fun p e s mi args below meth c R X H locs cells slots ls h1 h2 h3 h4 h5 => ?_⟩
  obtain ⟨r1, r2, r3, r4⟩ := g_room X hC.1 kk.1 h3 h4
  obtain ⟨C, T, N, v0, v1, v2, v3, v4, v5, v7, v8, vh⟩ := V
  exact g_back (rv := none) X hC.1 kk h1 h2 h3 h4 h5 (va_runV (C := C) (As := As) (rest := rest) ⟨X.hx, X.hb, X.hml, X.hown, X.hts⟩ (hC.met vh) ⟨callB_of n X.hts (lw_meth v5) rfl rfl rfl (X.hts _ v4) (X.hts _ v1) v8 ⟨Nat.le_trans hfr X.hfr, Nat.le_trans hlo X.hlo⟩, X.hts _ v2, va_Nw.use rfl (hΓ.nw X.hw v3)⟩ ⟨gPc_blind, g_recv hΓ.k X h1 hb v7 ⟨T, N, v0⟩, fun U hU hW => g_pre X h1 h3 U hU hW⟩ rfl hn h5.1 hs (lv_room (cat_le rest hr4)) d ⟨r1, r2⟩)
/-- a call whose reference names x, that the receiver's class overrides by κ2's method -/
def VLO (own : String) (idx : Nat) (x : MethodName) (κ2 : KM) (c2 : ByteArray) (n ci : Nat) : Prop := ∃ (C : String) (T : u_T) (N : Nat) (b0 : ByteArray) (l0 : Nat) (r0 : Option FieldType), gcl[ci]? = some (C, T, N) ∧ Cond.methodLink own idx x ∈ lw_all ∧ Cond.sameMethod x.cls x.cls x.name x.desc ∈ lw_all ∧ Cond.instanceMethod ⟨x.cls, x.name, x.desc⟩ ∈ lw_all ∧ Cond.selects C x κ2.y ∈ lw_all ∧ Cond.instanceMethod κ2.y ∈ lw_all ∧ Cond.initialized κ2.y.cls ∈ lw_all ∧ Cond.code κ2.y c2 κ2.nL κ2.ret ∈ lw_all ∧ Cond.code ⟨x.cls, x.name, x.desc⟩ b0 l0 r0 ∈ lw_all ∧ ci < 49 ∧ (x.cls ≠ "java/lang/invoke/MethodHandle" ∧ x.cls ≠ "java/lang/invoke/VarHandle" ∧ (parseMethodDescriptor x.desc).map (fun d => d.parameters.length) = some n) ∧ κ2.hh = []
theorem g_callVOi {Γ : GG} {κ κ2 : KM} {cc c2 : ByteArray} {m0 mF : MM} {o : GO} {m m1 : MM} {pc : Nat} {lv : List (Option Value)} {st : List Value} (hΓ : GF Γ) {x : MethodName} {idx n ci b : Nat} {As rest : List Value} {r : Int32} (V : VLO κ.own idx x κ2 c2 n ci) (hb : (m.K b).1 = ci + 1) (hC : Ct Γ κ2 c2 (.ref b :: As) m (.inl (some (.int r))) m1) (hn : As.length = n) (hs : st = As.reverse ++ .ref b :: rest) (hfr : κ2.fr + 1 ≤ κ.fr) (hlo : 8 + (κ2.nL + 11) + κ2.lo ≤ κ.lo) (hr4 : rest.length ≤ 4) (d : decode cc pc = .ok (.invokevirtual idx, 3))
    (kk : G Γ κ cc m0 mF o m1 (pc + 3) lv (.int r :: rest)) : G Γ κ cc m0 mF o m pc lv st := by
  refine ⟨hC.1.tr kk.1, fun p e s mi args below meth c R X H locs cells slots ls h1 h2 h3 h4 h5 => ?_⟩
  obtain ⟨r1, r2, r3, r4⟩ := g_room X hC.1 kk.1 h3 h4
  obtain ⟨C, T, N, b0, l0, r0, v0, v1, v2, v3, v4, v5, v6, v7, v8, v9, v10, vh⟩ := V
  exact g_back (rv := some (.int r)) X hC.1 kk h1 h2 h3 h4 h5 (va_runU (C := C) (owner := x.cls) (x := x) (As := As) (rest := rest) ⟨X.hx, X.hb, X.hml, X.hown, X.hts⟩ (hC.met vh) (va_cwO n X.hts (lw_app (fun w hw => by
      simp only [List.mem_cons, List.not_mem_nil, or_false] at hw
      rcases hw with e | e | e | e | e | e
      · rw [e]; exact v1
      · rw [e]; exact v2
      · rw [e]; exact v3
      · rw [e]; exact v4
      · rw [e]; exact v5
      · rw [e]; exact v6) (lw_meth v7)) rfl rfl rfl v8 v10 ⟨Nat.le_trans hfr X.hfr, Nat.le_trans hlo X.hlo⟩) ⟨gPc_blind, g_recv hΓ.k X h1 hb v9 ⟨T, N, v0⟩, fun U hU hW => g_pre X h1 h3 U hU hW⟩ rfl hn h5.1 hs (lv_room (cat_le rest hr4)) d ⟨r1, r2⟩)
theorem lvC_rf {lv : List (Option Value)} {i : Nat} {r : Option Nat} (h : lv[i]? = some (some (va_rf r))) : lvC lv (i + 1) = true := by
  unfold lvC
  simp only [h, va_rf_cat]
  rfl
section GV2
variable {Γ : GG} {κ κ2 : KM} {cc c2 : ByteArray} {m0 mF : MM} {o : GO} {m m1 : MM} {pc : Nat} {lv : List (Option Value)} {st : List Value}
theorem g_athrowR {q : Nat} {r : Option Nat} (hr : r = some q) (hh : κ.hh = []) (d : decode cc pc = .ok (.athrow, 1)) : G Γ κ cc m0 m (.inr q) m pc lv (va_rf r :: st) := by
  subst hr
  exact g_athrow hh d
theorem g_mmax {idx : Nat} {x y : Int32} (q1 : Cond.methodLink κ.own idx Lib.Math.max.name ∈ lw_all) (q2 : Cond.static Lib.Math.max.name ∈ lw_all) (q3 : Cond.initialized "java/lang/Math" ∈ lw_all) (q4 : Cond.code Lib.Math.max.name Lib.Math.max.code 2 (some .int) ∈ lw_all) (hfr : 1 ≤ κ.fr) (hlo : 60 ≤ κ.lo) (hr4 : st.length ≤ 4) (d : decode cc pc = .ok (.invokestatic idx, 3)) (kk : G Γ κ cc m0 mF o m (pc + 3) lv (.int (ji_max x y) :: st)) : G Γ κ cc m0 mF o m pc lv (.int y :: .int x :: st) := by
  refine ⟨kk.1, fun p e s mi args below meth c R X H locs cells slots ls h1 h2 h3 h4 h5 => ?_⟩
  obtain ⟨r1, r2⟩ := g_roomN (m := m) (a := 0) (b := 0) X h3 h4 kk.1.1 kk.1.2.1
  exact va_mmax X.hx X.hb (X.hml.trans h5.1.symm) X.hown (X.hts _ q1) (X.hts _ q2) (X.hts _ q3) (X.hts _ q4) (Nat.le_trans hfr X.hfr) (by
    have := cat_le st hr4
    have := X.hlo
    omega) r1 r2 d (kk.2 p e s mi args below meth c R X H locs cells slots ls h1 h2 h3 h4 h5)
theorem g_mmin {idx : Nat} {x y : Int32} (q1 : Cond.methodLink κ.own idx Lib.Math.min.name ∈ lw_all) (q2 : Cond.static Lib.Math.min.name ∈ lw_all) (q3 : Cond.initialized "java/lang/Math" ∈ lw_all) (q4 : Cond.code Lib.Math.min.name Lib.Math.min.code 2 (some .int) ∈ lw_all) (hfr : 1 ≤ κ.fr) (hlo : 60 ≤ κ.lo) (hr4 : st.length ≤ 4) (d : decode cc pc = .ok (.invokestatic idx, 3)) (kk : G Γ κ cc m0 mF o m (pc + 3) lv (.int (ji_min x y) :: st)) : G Γ κ cc m0 mF o m pc lv (.int y :: .int x :: st) := by
  refine ⟨kk.1, fun p e s mi args below meth c R X H locs cells slots ls h1 h2 h3 h4 h5 => ?_⟩
  obtain ⟨r1, r2⟩ := g_roomN (m := m) (a := 0) (b := 0) X h3 h4 kk.1.1 kk.1.2.1
  exact va_mmin X.hx X.hb (X.hml.trans h5.1.symm) X.hown (X.hts _ q1) (X.hts _ q2) (X.hts _ q3) (X.hts _ q4) (Nat.le_trans hfr X.hfr) (by
    have := cat_le st hr4
    have := X.hlo
    omega) r1 r2 d (kk.2 p e s mi args below meth c R X H locs cells slots ls h1 h2 h3 h4 h5)
theorem g_mabs {idx : Nat} {x : Int32} (q1 : Cond.methodLink κ.own idx Lib.Math.abs.name ∈ lw_all) (q2 : Cond.static Lib.Math.abs.name ∈ lw_all) (q3 : Cond.initialized "java/lang/Math" ∈ lw_all) (q4 : Cond.code Lib.Math.abs.name Lib.Math.abs.code 1 (some .int) ∈ lw_all) (hfr : 1 ≤ κ.fr) (hlo : 60 ≤ κ.lo) (hr4 : st.length ≤ 4) (d : decode cc pc = .ok (.invokestatic idx, 3)) (kk : G Γ κ cc m0 mF o m (pc + 3) lv (.int (ji_abs x) :: st)) : G Γ κ cc m0 mF o m pc lv (.int x :: st) := by
  refine ⟨kk.1, fun p e s mi args below meth c R X H locs cells slots ls h1 h2 h3 h4 h5 => ?_⟩
  obtain ⟨r1, r2⟩ := g_roomN (m := m) (a := 0) (b := 0) X h3 h4 kk.1.1 kk.1.2.1
  exact va_mabs X.hx X.hb (X.hml.trans h5.1.symm) X.hown (X.hts _ q1) (X.hts _ q2) (X.hts _ q3) (X.hts _ q4) (Nat.le_trans hfr X.hfr) (by
    have := cat_le st hr4
    have := X.hlo
    omega) r1 r2 d (kk.2 p e s mi args below meth c R X H locs cells slots ls h1 h2 h3 h4 h5)
theorem g_mminl {idx : Nat} {x y : Int64} (q1 : Cond.methodLink κ.own idx Lib.MathLoose.min_long.x ∈ lw_all) (q2 : Cond.static Lib.MathLoose.min_long.x ∈ lw_all) (q3 : Cond.initialized "java/lang/Math" ∈ lw_all) (q4 : Cond.code Lib.MathLoose.min_long.x Lib.MathLoose.min_long.code 4 (some .long) ∈ lw_all) (hfr : 1 ≤ κ.fr) (hlo : 60 ≤ κ.lo) (hr4 : st.length ≤ 4) (d : decode cc pc = .ok (.invokestatic idx, 3)) (kk : G Γ κ cc m0 mF o m (pc + 3) lv (.long (jl_min x y) :: st)) : G Γ κ cc m0 mF o m pc lv (.long y :: .long x :: st) := by
  refine ⟨kk.1, fun p e s mi args below meth c R X H locs cells slots ls h1 h2 h3 h4 h5 => ?_⟩
  obtain ⟨r1, r2⟩ := g_roomN (m := m) (a := 0) (b := 0) X h3 h4 kk.1.1 kk.1.2.1
  exact va_mmin_long X.hx X.hb (X.hml.trans h5.1.symm) X.hown (X.hts _ q1) (X.hts _ q2) (X.hts _ q3) (X.hts _ q4) (Nat.le_trans hfr X.hfr) (by
    have := cat_le st hr4
    have := X.hlo
    omega) r1 r2 d (kk.2 p e s mi args below meth c R X H locs cells slots ls h1 h2 h3 h4 h5)
end GV2
