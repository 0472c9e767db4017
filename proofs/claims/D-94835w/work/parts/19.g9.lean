/-! ROWS OF G: statics, texts, casts, references stored, nest mates, what is thrown -/
set_option maxRecDepth 100000
def FLN (own : String) (idx ci k : Nat) (host : String) : Prop := ∃ (C : String) (T : u_T) (N : Nat) (ref : String), gcl[ci]? = some (C, T, N) ∧ (∀ w ∈ u_ws C T N, w ∈ lw_all) ∧ k < N ∧ Cond.fieldLinkNest own idx ref (T k).2.1 (T k).2.2.1 host ∈ gnw ∧ ref = (T k).1 ∧ ci < 49
def ILN (own : String) (idx : Nat) (κ2 : KM) (c2 : ByteArray) (n : Nat) (host : String) : Prop := Cond.methodLinkNest own idx κ2.y host ∈ gnw ∧ Cond.instanceMethod κ2.y ∈ lw_all ∧ Cond.initialized κ2.y.cls ∈ lw_all ∧ Cond.code κ2.y c2 κ2.nL κ2.ret ∈ lw_all ∧ κ2.y.name = "<init>" ∧ κ2.ret = none ∧ (κ2.y.cls ≠ "java/lang/invoke/MethodHandle" ∧ κ2.y.cls ≠ "java/lang/invoke/VarHandle" ∧ (parseMethodDescriptor κ2.y.desc).map (fun d => d.parameters.length) = some n) ∧ κ2.hh = []
/-- a call of an inherited method: C, the receiver's class -/
def VLU (own : String) (idx : Nat) (κ2 : KM) (c2 : ByteArray) (n ci : Nat) : Prop := ∃ C T N, gcl[ci]? = some (C, T, N) ∧ Cond.methodLink own idx κ2.y ∈ lw_all ∧ Cond.instanceMethod κ2.y ∈ lw_all ∧ Cond.selects C κ2.y κ2.y ∈ lw_all ∧ Cond.initialized κ2.y.cls ∈ lw_all ∧ Cond.code κ2.y c2 κ2.nL κ2.ret ∈ lw_all ∧ ci < 49 ∧ (κ2.y.cls ≠ "java/lang/invoke/MethodHandle" ∧ κ2.y.cls ≠ "java/lang/invoke/VarHandle" ∧ (parseMethodDescriptor κ2.y.desc).map (fun d => d.parameters.length) = some n) ∧ κ2.hh = []
/-- super.m(..) -/
def UL (own : String) (idx : Nat) (κ2 : KM) (c2 : ByteArray) (n ci : Nat) : Prop := ∃ C T N, gcl[ci]? = some (C, T, N) ∧ Cond.methodLink own idx κ2.y ∈ lw_all ∧ Cond.sameMethod κ2.y.cls κ2.y.cls κ2.y.name κ2.y.desc ∈ lw_all ∧ Cond.superclass own κ2.y.cls ∈ lw_all ∧ Cond.instanceMethod κ2.y ∈ lw_all ∧ Cond.initialized κ2.y.cls ∈ lw_all ∧ Cond.code κ2.y c2 κ2.nL κ2.ret ∈ lw_all ∧ ci < 49 ∧ (κ2.y.name ≠ "<init>" ∧ (parseMethodDescriptor κ2.y.desc).map (fun d => d.parameters.length) = some n) ∧ κ2.hh = []
section GZ
variable {Γ : GG} {κ κ2 : KM} {cc c2 : ByteArray} {m0 mF : MM} {o : GO} {m m1 : MM} {pc : Nat} {lv : List (Option Value)} {st : List Value}
theorem g_ldcS {c idx : Nat} {tx : String} (h : ∃ a, Γ.c c = some a ∧ vk_R κ.own idx tx a Γ.s0) (d : decode cc pc = .ok (.ldc idx, 2)) (kk : G Γ κ cc m0 mF o m (pc + 2) lv (va_rf (m.c c) :: st)) : G Γ κ cc m0 mF o m pc lv st := by
  obtain ⟨a, e1, hR⟩ := h
  refine ⟨kk.1, fun p e s mi args below meth c R X H locs cells slots ls h1 h2 h3 h4 h5 => ?_⟩
  refine va_ldcS X.hx X.hb X.hown (vk_R.warm X.hw hR) d ?_
  have w := kk.2 p e s mi args below meth c R X H locs cells slots ls h1 h2 h3 h4 h5
  rw [h1.2.2.1, e1] at w
  exact w
theorem g_getsV {C n dd : String} {idx : Nat} {v : Value} (hZ : gsv Γ C n dd v) (q : Cond.fieldLink κ.own idx C n dd ∈ lw_all) (d : decode cc pc = .ok (.getstatic idx, 3)) (kk : G Γ κ cc m0 mF o m (pc + 3) lv (v :: st)) : G Γ κ cc m0 mF o m pc lv st := by
  refine ⟨kk.1, fun p e s mi args below meth c R X H locs cells slots ls h1 h2 h3 h4 h5 => ?_⟩
  obtain ⟨cf, kf, fi, f, a, cell, g1, g2, g3, g4, g5, g6, g7, g8⟩ := va_Z.moved X.hal hZ
  have hl : a < Γ.z := Nat.lt_of_not_le g8
  exact W.gets X.hx X.hb X.hown (X.hts _ q) g1 g2 g3 g4 (by rw [h1.2.2.2.1 a hl]; exact g5) (fun e => by rw [e] at g6; cases g6) g7 rfl d (kk.2 p e s mi args below meth c R X H locs cells slots ls h1 h2 h3 h4 h5)
theorem g_getsI {C n dd : String} {idx : Nat} {v : Int32} (hZ : gsv Γ C n dd (.int v)) (q : Cond.fieldLink κ.own idx C n dd ∈ lw_all) (d : decode cc pc = .ok (.getstatic idx, 3)) (kk : G Γ κ cc m0 mF o m (pc + 3) lv (.int v :: st)) : G Γ κ cc m0 mF o m pc lv st := g_getsV hZ q d kk
theorem g_getsR {C n dd : String} {idx k : Nat} (hZ : gsv Γ C n dd (va_rf (Γ.c k))) (q : Cond.fieldLink κ.own idx C n dd ∈ lw_all) (d : decode cc pc = .ok (.getstatic idx, 3)) (kk : G Γ κ cc m0 mF o m (pc + 3) lv (va_rf (m.c k) :: st)) : G Γ κ cc m0 mF o m pc lv st := by
  refine g_getsV hZ q d ⟨kk.1, fun p e s mi args below meth c R X H locs cells slots ls h1 h2 h3 h4 h5 => ?_⟩
  have w := kk.2 p e s mi args below meth c R X H locs cells slots ls h1 h2 h3 h4 h5
  rw [h1.2.2.1] at w
  exact w
theorem lv_castNull {idx : Nat} (d : decode cc pc = .ok (.checkcast idx, 3)) (kk : G Γ κ cc m0 mF o m (pc + 3) lv (.null :: st)) : G Γ κ cc m0 mF o m pc lv (.null :: st) :=
  G.sk kk fun p e s mi args below meth c R X H locs cells slots ls h w => lv_castN X.hx X.hb d w
/-- checkcast to the class that it is of -/
theorem g_cast (hΓ : GF Γ) {idx ci kd : Nat} {C : String} {r : Option Nat} (q : Cond.classLink κ.own idx C ∈ lw_all) (hk : kd = ci + 1 ∧ ci < 49 ∧ ∃ T N, gcl[ci]? = some (C, T, N)) (hc : okC m kd r = true) (d : decode cc pc = .ok (.checkcast idx, 3)) (kk : G Γ κ cc m0 mF o m (pc + 3) lv (va_rf r :: st)) : G Γ κ cc m0 mF o m pc lv (va_rf r :: st) := by
  obtain ⟨rfl, h49, hcl⟩ := hk
  cases r with
  | none => exact lv_castNull d kk
  | some a =>
    have ha : (m.K a).1 = ci + 1 := by simpa [okC] using hc
    exact ⟨kk.1, fun p e s mi args below meth c R X H locs cells slots ls h1 h2 h3 h4 h5 => va_castE X.hx X.hb X.hown (X.hts _ q) (g_recv hΓ.k X h1 ha h49 hcl) d (kk.2 p e s mi args below meth c R X H locs cells slots ls h1 h2 h3 h4 h5)⟩
theorem g_inst (hΓ : GF Γ) {idx ci kd : Nat} {C : String} {r : Option Nat} {a : Nat} (q : Cond.classLink κ.own idx C ∈ lw_all) (hk : kd = ci + 1 ∧ ci < 49 ∧ ∃ T N, gcl[ci]? = some (C, T, N)) (hc : isK m r kd = some a) (d : decode cc pc = .ok (.instanceof idx, 3)) (kk : G Γ κ cc m0 mF o m (pc + 3) lv (.int 1 :: st)) : G Γ κ cc m0 mF o m pc lv (va_rf r :: st) := by
  obtain ⟨rfl, h49, hcl⟩ := hk
  obtain ⟨rfl, ha⟩ := isK_of hc
  exact ⟨kk.1, fun p e s mi args below meth c R X H locs cells slots ls h1 h2 h3 h4 h5 => va_instE X.hx X.hb X.hown (X.hts _ q) (g_recv hΓ.k X h1 ha h49 hcl) d (kk.2 p e s mi args below meth c R X H locs cells slots ls h1 h2 h3 h4 h5)⟩
/-- a nest mate's field -/
theorem g_getfN (hΓ : GF Γ) {idx ci k a : Nat} {host : String} (F : FLN κ.own idx ci k host) (ha : (m.K a).1 = ci + 1) (d : decode cc pc = .ok (.getfield idx, 3)) (kk : G Γ κ cc m0 mF o m (pc + 3) lv (gv m (gtc (gty ci k)) a k :: st)) : G Γ κ cc m0 mF o m pc lv (.ref a :: st) := by
  refine ⟨kk.1, fun p e s mi args below meth c R X H locs cells slots ls h1 h2 h3 h4 h5 => ?_⟩
  obtain ⟨C, T, N, ref, f1, f2, f3, f4, f5, f8⟩ := F
  obtain ⟨r, cell, w1, w2, w3, w4, w5, w6, w7⟩ := (h1.2.2.2.2 a).1 ci ha f8
  cases f1.symm.trans w1
  obtain ⟨hS, hfc, kC, hkC, hkind⟩ := (va_K_s X hΓ.k).1 ci _ f1
  obtain ⟨cf, kf, fi, f, hi, hsl⟩ := hS k f3
  refine va_Wgetf X.hx X.hb X.hown (va_Nw.use rfl (hΓ.nw X.hw f4)) (by rw [f5]; exact hi) (u_facts hfc hkC (u_lays X.hts f2 f3) hi).1 w2 w4 ?_ rfl rfl d (kk.2 p e s mi args below meth c R X H locs cells slots ls h1 h2 h3 h4 h5)
  rw [hsl]
  exact w7 k f3
theorem g_fIN (hΓ : GF Γ) {idx ci k : Nat} {host : String} {r : Option Nat} {v : Int32} (F : FLN κ.own idx ci k host) (ht : gtc (gty ci k) = 0) (ha : gI m r (ci + 1) k = some v) (d : decode cc pc = .ok (.getfield idx, 3)) (kk : G Γ κ cc m0 mF o m (pc + 3) lv (.int v :: st)) : G Γ κ cc m0 mF o m pc lv (va_rf r :: st) := by
  cases r with
  | none => cases ha
  | some a =>
    simp only [gI] at ha
    split at ha
    · cases ha
      exact g_getfN hΓ F (by assumption) d (by rw [ht]; exact kk)
    · cases ha
theorem g_fRN (hΓ : GF Γ) {idx ci k : Nat} {host : String} {r v : Option Nat} (F : FLN κ.own idx ci k host) (ht : gtc (gty ci k) = 2) (ha : gR m r (ci + 1) k = some v) (d : decode cc pc = .ok (.getfield idx, 3)) (kk : G Γ κ cc m0 mF o m (pc + 3) lv (va_rf v :: st)) : G Γ κ cc m0 mF o m pc lv (va_rf r :: st) := by
  cases r with
  | none => cases ha
  | some a =>
    simp only [gR] at ha
    split at ha
    · cases ha
      exact g_getfN hΓ F (by assumption) d (by rw [ht]; exact kk)
    · cases ha
/-- a nest mate's constructor -/
theorem g_callIN (hΓ : GF Γ) {idx n b : Nat} {host : String} {As rest : List Value} (V : ILN κ.own idx κ2 c2 n host) (hC : Ct Γ κ2 c2 (.ref b :: As) m (.inl none) m1) (hn : As.length = n) (hs : st = As.reverse ++ .ref b :: rest) (hfr : κ2.fr + 1 ≤ κ.fr) (hlo : 8 + (κ2.nL + 11) + κ2.lo ≤ κ.lo) (hr4 : rest.length ≤ 4) (d : decode cc pc = .ok (.invokespecial idx, 3))
    (kk : G Γ κ cc m0 mF o m1 (pc + 3) lv rest) : G Γ κ cc m0 mF o m pc lv st := by
  refine ⟨hC.1.tr kk.1, fun p e s mi args below meth c R X H locs cells slots ls h1 h2 h3 h4 h5 => ?_⟩
  obtain ⟨r1, r2, r3, r4⟩ := g_room X hC.1 kk.1 h3 h4
  obtain ⟨v1, v2, v3, v4, v5, v6, v7, vh⟩ := V
  have hM := hC.met vh
  rw [v6] at hM v4
  exact g_back (rv := none) X hC.1 kk h1 h2 h3 h4 h5 (va_runIN (As := As) (rest := rest) ⟨X.hx, X.hb, X.hml, X.hown, X.hts⟩ hM ⟨va_cnB n X.hts (lw_meth v4) rfl rfl rfl (hΓ.nw X.hw v1) (X.hts _ v3) v7 ⟨Nat.le_trans hfr X.hfr, Nat.le_trans hlo X.hlo⟩, v5, X.hts _ v2⟩ ⟨gPc_blind, fun U hU hW => g_pre X h1 h3 U hU hW⟩ rfl hn h5.1 hs (lv_room (cat_le rest hr4)) d ⟨r1, r2⟩)
/-- an inherited method -/
theorem g_callVU (hK : va_K Γ.D gcl [] Γ.s0) {idx n ci b : Nat} {As rest : List Value} {rv : Option Value} (V : VLU κ.own idx κ2 c2 n ci) (hb : (m.K b).1 = ci + 1) (hC : Ct Γ κ2 c2 (.ref b :: As) m (.inl rv) m1) (hn : As.length = n) (hs : st = As.reverse ++ .ref b :: rest) (hfr : κ2.fr + 1 ≤ κ.fr) (hlo : 8 + (κ2.nL + 11) + κ2.lo ≤ κ.lo) (hr4 : rest.length ≤ 4) (d : decode cc pc = .ok (.invokevirtual idx, 3))
    (kk : G Γ κ cc m0 mF o m1 (pc + 3) lv (rv.toList ++ rest)) : G Γ κ cc m0 mF o m pc lv st := by
  refine ⟨hC.1.tr kk.1, fun p e s mi args below meth c R X H locs cells slots ls h1 h2 h3 h4 h5 => ?_⟩
  obtain ⟨r1, r2, r3, r4⟩ := g_room X hC.1 kk.1 h3 h4
  obtain ⟨C, T, N, v0, v1, v2, v3, v4, v5, v7, v8, vh⟩ := V
  exact g_back X hC.1 kk h1 h2 h3 h4 h5 (va_runV (C := C) (As := As) (rest := rest) ⟨X.hx, X.hb, X.hml, X.hown, X.hts⟩ (hC.met vh) ⟨callB_of n X.hts (lw_meth v5) rfl rfl rfl (X.hts _ v4) (X.hts _ v1) v8 ⟨Nat.le_trans hfr X.hfr, Nat.le_trans hlo X.hlo⟩, X.hts _ v2, X.hts _ v3⟩ ⟨gPc_blind, g_recv hK X h1 hb v7 ⟨T, N, v0⟩, fun U hU hW => g_pre X h1 h3 U hU hW⟩ rfl hn h5.1 hs (lv_room (cat_le rest hr4)) d ⟨r1, r2⟩)
theorem g_callVUi (hK : va_K Γ.D gcl [] Γ.s0) {idx n ci b : Nat} {As rest : List Value} {r : Int32} (V : VLU κ.own idx κ2 c2 n ci) (hb : (m.K b).1 = ci + 1) (hC : Ct Γ κ2 c2 (.ref b :: As) m (.inl (some (.int r))) m1) (hn : As.length = n) (hs : st = As.reverse ++ .ref b :: rest) (hfr : κ2.fr + 1 ≤ κ.fr) (hlo : 8 + (κ2.nL + 11) + κ2.lo ≤ κ.lo) (hr4 : rest.length ≤ 4) (d : decode cc pc = .ok (.invokevirtual idx, 3)) (kk : G Γ κ cc m0 mF o m1 (pc + 3) lv (.int r :: rest)) : G Γ κ cc m0 mF o m pc lv st := g_callVU hK V hb hC hn hs hfr hlo hr4 d kk
theorem g_callVUr (hK : va_K Γ.D gcl [] Γ.s0) {idx n ci b : Nat} {As rest : List Value} {r : Option Nat} (V : VLU κ.own idx κ2 c2 n ci) (hb : (m.K b).1 = ci + 1) (hC : Ct Γ κ2 c2 (.ref b :: As) m (.inl (some (va_rf r))) m1) (hn : As.length = n) (hs : st = As.reverse ++ .ref b :: rest) (hfr : κ2.fr + 1 ≤ κ.fr) (hlo : 8 + (κ2.nL + 11) + κ2.lo ≤ κ.lo) (hr4 : rest.length ≤ 4) (d : decode cc pc = .ok (.invokevirtual idx, 3)) (kk : G Γ κ cc m0 mF o m1 (pc + 3) lv (va_rf r :: rest)) : G Γ κ cc m0 mF o m pc lv st := g_callVU hK V hb hC hn hs hfr hlo hr4 d kk
theorem g_callVUv (hK : va_K Γ.D gcl [] Γ.s0) {idx n ci b : Nat} {As rest : List Value} (V : VLU κ.own idx κ2 c2 n ci) (hb : (m.K b).1 = ci + 1) (hC : Ct Γ κ2 c2 (.ref b :: As) m (.inl none) m1) (hn : As.length = n) (hs : st = As.reverse ++ .ref b :: rest) (hfr : κ2.fr + 1 ≤ κ.fr) (hlo : 8 + (κ2.nL + 11) + κ2.lo ≤ κ.lo) (hr4 : rest.length ≤ 4) (d : decode cc pc = .ok (.invokevirtual idx, 3)) (kk : G Γ κ cc m0 mF o m1 (pc + 3) lv rest) : G Γ κ cc m0 mF o m pc lv st := g_callVU hK V hb hC hn hs hfr hlo hr4 d kk
/-- super.m(..) -/
theorem g_callUr (hK : va_K Γ.D gcl [] Γ.s0) {idx n ci b : Nat} {As rest : List Value} {r : Option Nat} (V : UL κ.own idx κ2 c2 n ci) (hb : (m.K b).1 = ci + 1) (hC : Ct Γ κ2 c2 (.ref b :: As) m (.inl (some (va_rf r))) m1) (hn : As.length = n) (hs : st = As.reverse ++ .ref b :: rest) (hfr : κ2.fr + 1 ≤ κ.fr) (hlo : 8 + (κ2.nL + 11) + κ2.lo ≤ κ.lo) (hr4 : rest.length ≤ 4) (d : decode cc pc = .ok (.invokespecial idx, 3))
    (kk : G Γ κ cc m0 mF o m1 (pc + 3) lv (va_rf r :: rest)) : G Γ κ cc m0 mF o m pc lv st := by
  refine ⟨hC.1.tr kk.1, fun p e s mi args below meth c R X H locs cells slots ls h1 h2 h3 h4 h5 => ?_⟩
  obtain ⟨r1, r2, r3, r4⟩ := g_room X hC.1 kk.1 h3 h4
  obtain ⟨C, T, N, v0, v1, v2, v3, v4, v5, v6, v7, v8, vh⟩ := V
  have hcA : ClassAt s C (Γ.D.1 ci) := ((va_K_s X hK).1 ci _ v0).2
  exact g_back (rv := some (va_rf r)) X hC.1 kk h1 h2 h3 h4 h5 (va_runSU (C := C) (As := As) (rest := rest) hcA ⟨X.hx, X.hb, X.hml, X.hown, X.hts⟩ (hC.met vh) (va_cwSU n X.hts (lw_app (fun w hw => by
      simp only [List.mem_cons, List.not_mem_nil, or_false] at hw
      rcases hw with e | e | e | e | e
      · rw [e]; exact v1
      · rw [e]; exact v2
      · rw [e]; exact v3
      · rw [e]; exact v4
      · rw [e]; exact v5) (lw_meth v6)) rfl rfl rfl v8 ⟨Nat.le_trans hfr X.hfr, Nat.le_trans hlo X.hlo⟩) ⟨gPc_blind, g_recv hK X h1 hb v7 ⟨T, N, v0⟩, fun U hU hW => g_pre X h1 h3 U hU hW⟩ rfl hn h5.1 hs (lv_room (cat_le rest hr4)) d ⟨r1, r2⟩)
theorem g_callUi (hK : va_K Γ.D gcl [] Γ.s0) {idx n ci b : Nat} {As rest : List Value} {r : Int32} (V : UL κ.own idx κ2 c2 n ci) (hb : (m.K b).1 = ci + 1) (hC : Ct Γ κ2 c2 (.ref b :: As) m (.inl (some (.int r))) m1) (hn : As.length = n) (hs : st = As.reverse ++ .ref b :: rest) (hfr : κ2.fr + 1 ≤ κ.fr) (hlo : 8 + (κ2.nL + 11) + κ2.lo ≤ κ.lo) (hr4 : rest.length ≤ 4) (d : decode cc pc = .ok (.invokespecial idx, 3))
    (kk : G Γ κ cc m0 mF o m1 (pc + 3) lv (.int r :: rest)) : G Γ κ cc m0 mF o m pc lv st := by
  refine ⟨hC.1.tr kk.1, fun p e s mi args below meth c R X H locs cells slots ls h1 h2 h3 h4 h5 => ?_⟩
  obtain ⟨r1, r2, r3, r4⟩ := g_room X hC.1 kk.1 h3 h4
  obtain ⟨C, T, N, v0, v1, v2, v3, v4, v5, v6, v7, v8, vh⟩ := V
  have hcA : ClassAt s C (Γ.D.1 ci) := ((va_K_s X hK).1 ci _ v0).2
  exact g_back (rv := some (.int r)) X hC.1 kk h1 h2 h3 h4 h5 (va_runSU (C := C) (As := As) (rest := rest) hcA ⟨X.hx, X.hb, X.hml, X.hown, X.hts⟩ (hC.met vh) (va_cwSU n X.hts (lw_app (fun w hw => by
      simp only [List.mem_cons, List.not_mem_nil, or_false] at hw
      rcases hw with e | e | e | e | e
      · rw [e]; exact v1
      · rw [e]; exact v2
      · rw [e]; exact v3
      · rw [e]; exact v4
      · rw [e]; exact v5) (lw_meth v6)) rfl rfl rfl v8 ⟨Nat.le_trans hfr X.hfr, Nat.le_trans hlo X.hlo⟩) ⟨gPc_blind, g_recv hK X h1 hb v7 ⟨T, N, v0⟩, fun U hU hW => g_pre X h1 h3 U hU hW⟩ rfl hn h5.1 hs (lv_room (cat_le rest hr4)) d ⟨r1, r2⟩)
end GZ
