/-! ROWS OF G: what is thrown -/
set_option maxRecDepth 100000
/-- the outcome of a method that answers nothing, an int, a reference, or throws -/
def ocv (r : Unit ⊕ Nat) : GO := match r with
  | .inl _ => .inl none
  | .inr q => .inr q
def oci (r : Int32 ⊕ Nat) : GO := match r with
  | .inl v => .inl (some (.int v))
  | .inr q => .inr q
def oca (r : (Option Nat) ⊕ Nat) : GO := match r with
  | .inl v => .inl (some (va_rf v))
  | .inr q => .inr q
section GT
variable {Γ : GG} {κ κ2 : KM} {cc c2 : ByteArray} {m0 mF : MM} {o : GO} {m m1 : MM} {pc : Nat} {lv : List (Option Value)} {st : List Value}
/-- a throwing frame's end: the method has no handlers -/
theorem g_leave {q : Nat} {p : Program} {e : Env} {s : State} {mi : MethodId} {args : Array Value} {below : List Frame} {meth : Method} {c : Code} {R : Room} (X : OkM Γ κ cc m0 mF p e s mi args below meth c R) (hh : κ.hh = []) {H : Heap} {locs : List Loc} {cells slots pc : Nat} {ls : Array Slot} {rest : List Value} (h1 : Rep Γ mF H) (h2 : ∀ z ∈ locs, Γ.z ≤ z.base) (h3 : cells + m0.n = mF.n) (h4 : slots + m0.s = mF.s) (T : State) (hT : T.heap = H) (Y : Stand p Γ.l e R s mi args below meth c T locs cells slots) : ∃ t, Steps p.tables e below ((T.setTop (F0 mi pc ls rest)).pushFrame (.throwing q)) t ∧ gQ Γ m0 mF (.inr q) s below t := by
  obtain ⟨st1, hrun, hend, hW, hsm⟩ := Y.leaveThrown q (g := F0 mi pc ls rest) rfl rfl rfl (fun x hx => absurd hx (fun h => X.noh hh x h)) X.hlk
  have e1 : mF.n - m0.n = cells := by omega
  have e2 : mF.s - m0.s = slots := by omega
  refine ⟨_, st1, .threw q, locs, hrun, hend, rfl, ?_, hW, by rw [e1, e2]; exact hsm, h2⟩
  show Rep Γ mF T.heap
  rw [hT]
  exact h1
theorem g_athrow {q : Nat} (hh : κ.hh = []) (d : decode cc pc = .ok (.athrow, 1)) : G Γ κ cc m0 m (.inr q) m pc lv (va_rf (some q) :: st) := by
  refine ⟨Ext.rf m, fun p e s mi args below meth c R X H locs cells slots ls h1 h2 h3 h4 h5 => ?_⟩
  intro T hT Y
  obtain ⟨t, a1, b1⟩ := g_leave (pc := pc) (ls := ls) (rest := st) (q := q) X hh h1 h2 h3 h4 T hT Y
  refine ⟨t, ?_, b1⟩
  have hdg' : decode c.code pc = .ok (.athrow, 1) := by rw [X.hb]; exact d
  have hexec := X.hx
  show Steps p.tables e below (T.setTop (F0 mi pc ls (.ref q :: st))) t
  jvm_step Y.here [Y.here.top, hexec, hdg', athrow.wp_sem]
  exact a1
abbrev gPre (Γ : GG) (R : Room) (av : List Value) (m m1 : MM) : Pt → Array Value → Prop := fun A a => A.cells + (m1.n - m.n) ≤ R.cells ∧ A.slots + (m1.s - m.s) ≤ R.slots ∧ gPc Γ av m a A.U
abbrev gPost (Γ : GG) (m m1 : MM) (q : Nat) : Pt → Array Value → Addr → Pt → Prop := fun A _ x B => x = q ∧ Rep Γ m1 B.U.heap ∧ ∃ L, B.locs = A.locs ++ L ∧ (∀ z ∈ L, Γ.z ≤ z.base) ∧ B.cells = A.cells + (m1.n - m.n) ∧ B.slots = A.slots + (m1.s - m.s)
/-- a callee that throws, for a caller -/
theorem Ct.backT {av : List Value} {q : Nat} (hh : κ2.hh = []) (hC : Ct Γ κ2 c2 av m (.inr q) m1) {p : Program} {e : Env} {s : State} {below : List Frame} {sargs : Array Value} {R : Room} (hfr : κ2.fr + 1 ≤ R.frames) (hlo : 8 + (κ2.nL + 11) + κ2.lo ≤ R.locals) (hts : ∀ w ∈ lw_all, w.before sargs s = true) (hcode : Cond.code κ2.y c2 κ2.nL κ2.ret ∈ lw_all) (hini : Cond.initialized κ2.y.cls ∈ lw_all) :
    BackT Γ.l R p e below s sargs κ2.y 3 8 (gPre Γ R av m m1) (gPost Γ m m1 q) := by
  have h2 := hC.2
  rw [KM.w0 hh] at h2
  have hpay := pay_in hts (lw_meth hcode)
  refine BackT.of_free (bytes := c2) (maxL := κ2.nL) (ret := κ2.ret) (E := fun _ _ oc t L k n => oc = .threw q ∧ Rep Γ m1 t.heap ∧ (∀ z ∈ L, Γ.z ≤ z.base) ∧ k = m1.n - m.n ∧ n = m1.s - m.s) h2 hfr hlo ?_ ?_ (fun _ _ _ _ _ _ _ _ _ => trivial) ?_ ?_
  · intro mm meth c A a X hp
    exact ⟨atoms_intro fun w hw => hpay w hw _ _ X.warmed, hpay _ List.mem_cons_self _ _ X.warmed, word_at X.warmed (Or.inl (by first | rfl | simp [Cond.onTables, Cond.keeps, Cond.steady])) (hts _ hini), hp.1, hp.2.1⟩
  · intro mm meth c A a g mk X hp
    exact hp.2.2
  · intro a first oc t ⟨q1, q2, L, q3, q4, q5⟩
    exact ⟨L, m1.n - m.n, m1.s - m.s, ⟨⟨q, q1⟩, q3, q4⟩, q1, q2, q5, rfl, rfl⟩
  · intro mm meth c A a g mk v t L k n X hp hq hF ⟨q1, q2, q5, e1, e2⟩
    cases q1
    exact ⟨rfl, q2, L, rfl, q5, by rw [e1], by rw [e2]⟩
/-- a call that throws: the machine comes to the caller's frame with q over it -/
theorem g_thrV (hK : va_K Γ.D gcl [] Γ.s0) {idx n ci b q : Nat} {As rest : List Value} (V : VL κ.own idx κ2 c2 n ci) (hb : (m.K b).1 = ci + 1) (hC : Ct Γ κ2 c2 (.ref b :: As) m (.inr q) m1) (hn : As.length = n) (hs : st = As.reverse ++ .ref b :: rest) (hfr : κ2.fr + 1 ≤ κ.fr) (hlo : 8 + (κ2.nL + 11) + κ2.lo ≤ κ.lo) (hr4 : rest.length ≤ 4) (d : decode cc pc = .ok (.invokevirtual idx, 3)) (hF : Ext m1 mF)
    {p : Program} {e : Env} {s : State} {mi : MethodId} {args : Array Value} {below : List Frame} {meth : Method} {c : Code} {R : Room} (X : OkM Γ κ cc m0 mF p e s mi args below meth c R) {H : Heap} {locs : List Loc} {cells slots : Nat} {ls : Array Slot} (h1 : Rep Γ m H) (h2 : ∀ z ∈ locs, Γ.z ≤ z.base) (h3 : cells + m0.n = m.n) (h4 : slots + m0.s = m.s) (h5 : lvO ls κ.nL lv) (T : State) (hT : T.heap = H) (Y : Stand p Γ.l e R s mi args below meth c T locs cells slots) :
    ∃ (T2 : State) (locs2 : List Loc), Stand p Γ.l e R s mi args below meth c T2 locs2 (cells + (m1.n - m.n)) (slots + (m1.s - m.s)) ∧ Rep Γ m1 T2.heap ∧ (∀ z ∈ locs2, Γ.z ≤ z.base) ∧ Steps p.tables e below (T.setTop (F0 mi pc ls st)) ((T2.setTop (F0 mi pc ls rest)).pushFrame (.throwing q)) := by
  obtain ⟨r1, r2, r3, r4⟩ := g_room X hC.1 hF h3 h4
  obtain ⟨v1, v2, v3, v4, v5, v6, v7, v8, vh⟩ := V
  have hB := hC.backT (p := p) (e := e) (s := s) (below := below) (sargs := args) (R := R) vh (Nat.le_trans hfr X.hfr) (Nat.le_trans hlo X.hlo) X.hts v5 v4
  obtain ⟨cellB, hcB, hoB, hclB⟩ := g_recv hK X h1 hb v7 v6
  have hinst := X.hts _ v2
  have hsel := X.hts _ v3
  have hcode := X.hts _ v5
  obtain ⟨mk, methM, hnamed, hmethM, hstM, habM⟩ := Cond.instanceMethod_spec hinst
  obtain ⟨methM', cM, hmethM', -, -, -, -, -, -, hsigM⟩ := Cond.code_spec hnamed hcode
  cases hmethM.symm.trans hmethM'
  obtain ⟨c9, q9, m9, q1, q2, q3, q4, kP, hkP, hkPi⟩ := Cond.selects_spec hsel
  cases hclB.symm.trans q1
  cases (State.methodFound?_of_named hnamed ⟨v8.1, v8.2.1⟩).symm.trans q2
  cases hnamed.symm.trans q3
  have hselP : selectMethod e.platform s.vm cellB.cls mk = .method mk := by rw [Launch.admits_selectMethod Y.admits]; exact q4
  have hlen : As.length = methM.sig.parameters.length := by
    have h9 := v8.2.2
    rw [hsigM] at h9
    simp at h9
    omega
  obtain ⟨vm₁, X₁, hstep₁⟩ := Y.invokevirtual X.hx X.hown (X.hts _ v1) hnamed hmethM hstM hkP hkPi ⟨v8.1, v8.2.1⟩ (a := b) (cell := cellB) (by rw [hT]; exact hcB)
    (fun z h => by rw [h] at hoB; cases hoB) hselP hmethM habM hkP hkPi (g := F0 mi pc ls st) rfl (argsL := As) (rest := rest) hlen hs (by rw [X.hb]; exact d)
  obtain ⟨x, B, X', ⟨rfl, hR, L, e1, e2, e3, e4⟩, hsteps⟩ := hB mi meth c ⟨T.setVm vm₁, locs, cells, slots⟩ (F0 mi pc ls rest) (.invokevirtual idx) mk (Value.ref b :: As).toArray X₁ rfl (by show ls.size = _; rw [X.hml]; exact h5.1) (by rw [X.hb]; exact d) (by
    exact lv_room (cat_le rest hr4)) (X₁.named hnamed) ⟨r1, r2, g_pre X h1 h3 (T.setVm vm₁) hT X₁.warmed⟩
  obtain ⟨U', l2, k2, s2⟩ := B
  dsimp only [Pt.U, Pt.locs, Pt.cells, Pt.slots] at X' e1 e3 e4 hsteps hR
  subst e1; subst e3; subst e4
  refine ⟨U', _, X', hR, fun z hz => ?_, hstep₁ _ fun acts => by rw [doInvoke_state]; exact hsteps⟩
  rcases List.mem_append.mp hz with h | h
  · exact h2 z h
  · exact e2 z h
/-- a call that throws leaves the method -/
theorem g_outV (hK : va_K Γ.D gcl [] Γ.s0) {idx n ci b q : Nat} {As rest : List Value} (hh : κ.hh = []) (V : VL κ.own idx κ2 c2 n ci) (hb : (m.K b).1 = ci + 1) (hC : Ct Γ κ2 c2 (.ref b :: As) m (.inr q) m1) (hn : As.length = n) (hs : st = As.reverse ++ .ref b :: rest) (hfr : κ2.fr + 1 ≤ κ.fr) (hlo : 8 + (κ2.nL + 11) + κ2.lo ≤ κ.lo) (hr4 : rest.length ≤ 4) (d : decode cc pc = .ok (.invokevirtual idx, 3)) : G Γ κ cc m0 m1 (.inr q) m pc lv st := by
  refine ⟨hC.1, fun p e s mi args below meth c R X H locs cells slots ls h1 h2 h3 h4 h5 => ?_⟩
  intro T hT Y
  obtain ⟨r1, r2, r3, r4⟩ := g_room X hC.1 (Ext.rf m1) h3 h4
  obtain ⟨T2, locs2, Y2, hR, hl2, stp⟩ := g_thrV hK V hb hC hn hs hfr hlo hr4 d (Ext.rf m1) X h1 h2 h3 h4 h5 T hT Y
  obtain ⟨t, a1, b1⟩ := g_leave (pc := pc) (ls := ls) (rest := rest) (q := q) X hh hR hl2 r3 r4 T2 rfl Y2
  exact ⟨t, stp.trans a1, b1⟩
end GT
