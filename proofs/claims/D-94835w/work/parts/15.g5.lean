/-! ROWS OF G: returns, contracts, calls -/
set_option maxRecDepth 100000
/-- the word of a method's code -/
def KM.w (κ : KM) (cc : ByteArray) : Cond := match κ.hh with
  | [] => Cond.code κ.y cc κ.nL κ.ret
  | h :: t => Cond.codeWith κ.y cc κ.nL κ.ret (h :: t)
/-- a method's contract at m, arguments av: it comes to the outcome o with the memory m1 -/
def Ct (Γ : GG) (κ : KM) (cc : ByteArray) (av : List Value) (m : MM) (o : GO) (m1 : MM) : Prop :=
  Ext m m1 ∧ MetFree Γ.l κ.y (headSpec (κ.w cc :: lw_all) { frames := κ.fr, cells := m1.n - m.n, slots := m1.s - m.s, locals := κ.lo }) (fun v U => v = av.toArray ∧ Rep Γ m U.heap ∧ Γ.s0.WarmedH U.vm ∧ m.n = U.heap.size ∧ Γ.z ≤ U.heap.size) (fun _ _ _ _ _ => True)
    (fun _ st oc t => (match o with
      | .inl v => oc = .returned v
      | .inr q => oc = .threw q) ∧ Rep Γ m1 t.heap ∧ ∃ L, st.WarmedH t.vm ∧ st.sameButNew ({ t with vm := st.vm } : State) L (m1.n - m.n) (m1.s - m.s) ∧ ∀ z ∈ L, Γ.z ≤ z.base)
/-- locals at the entry -/
def lvE (n : Nat) (av : List Value) : List (Option Value) := (List.range n).map fun i => match (lv_args 0 av).find? (fun q => q.1 == i) with
  | some q => some q.2
  | none => none
theorem lvE_of {n : Nat} {av : List Value} {ls : Array Slot} (h : lv_has ls n (lv_args 0 av)) : lvO ls n (lvE n av) := by
  refine lvO_of h fun i v hv => ?_
  unfold lvE at hv
  rw [List.getElem?_map] at hv
  cases hr : (List.range n)[i]? with
  | none => rw [hr] at hv; cases hv
  | some j =>
    have hj : j = i := by
      obtain ⟨h1, h2⟩ := List.getElem?_eq_some_iff.mp hr
      rw [List.getElem_range] at h2
      exact h2.symm
    subst hj
    rw [hr] at hv
    cases hf : (lv_args 0 av).find? (fun q => q.1 == j) with
    | none => simp [hf] at hv
    | some q =>
      simp [hf] at hv
      subst hv
      have h1 := List.mem_of_find?_eq_some hf
      have h2 := List.find?_some hf
      have h3 : q.1 = j := by simpa using h2
      rw [← h3]
      exact h1
/-- a contract out of a walk from the entry -/
theorem KM.w0 {κ : KM} {cc : ByteArray} (h : κ.hh = []) : κ.w cc = Cond.code κ.y cc κ.nL κ.ret := by
  unfold KM.w
  rw [h]
theorem Ct.of {Γ : GG} {κ : KM} {cc : ByteArray} {av : List Value} {m m1 : MM} {o : GO} (hy : plainName κ.y.cls = true) (hown : κ.y.cls = κ.own) (hl : (lg_sl av).length ≤ κ.nL) (hh : κ.hh = []) (h : G Γ κ cc m m1 o m 0 (lvE κ.nL av) []) : Ct Γ κ cc av m o m1 := by
  refine ⟨h.1, ?_⟩
  rw [KM.w0 hh]
  refine MetFree.of_bodyS (code := cc) (maxLocals := κ.nL) (ret := κ.ret) hy ?_ ?_
  · intro args s mi h hn
    obtain ⟨meth, c, h1, h2, h3, h4, h5, h6, -, -⟩ := Cond.code_spec hn (atoms_spec (ws := ws_ κ.y cc κ.nL κ.ret) h _ List.mem_cons_self)
    exact ⟨meth, c, h1, h2, h3, h4, h5, h6⟩
  · intro p e s mi args below meth c s₁ B hml hP _
    obtain ⟨rfl, hR, hal, hn0, hz⟩ := hP
    have hts := atoms_spec (ws := ws_ κ.y cc κ.nL κ.ret) B.pre
    have hts2 : ∀ w ∈ lw_all, w.before _ s = true := fun w h => hts w (List.mem_cons_of_mem _ h)
    have hh0 : s₁.heap = s.heap := by rw [B.state]; rfl
    have hle := h.1
    have X : OkM Γ κ cc m m1 p e s mi av.toArray below meth c { frames := κ.fr, cells := m1.n - m.n, slots := m1.s - m.s, locals := κ.lo } := by
      refine ⟨B.exec, B.bytes, hml, ?_, hts2, hal, B.notSynchronized, B.returns, (name_of_methodNamed B.named B.method).1, Nat.le_refl _, Nat.le_refl _, ?_, ?_, hn0, hz, ?_⟩
      · rw [← hown]; exact findClass_of_methodNamed B.named
      · have := hle.1; show m1.n ≤ m.n + (m1.n - m.n); omega
      · have := hle.2.1; show m1.s ≤ m.s + (m1.s - m.s); omega
      · obtain ⟨meth9, c9, g1, g2, -, -, -, -, g7, -⟩ := Cond.code_spec B.named (atoms_spec (ws := ws_ κ.y cc κ.nL κ.ret) B.pre _ List.mem_cons_self)
        cases Option.some.inj (g1.symm.trans B.method)
        cases Option.some.inj (g2.symm.trans (Stand.of_body B).code)
        rw [Array.isEmpty_iff.mp g7, hh]
        rfl
    have hent := lv_entry av (n := κ.nL) hl
    have w := h.2 p e s mi av.toArray below meth c _ X s.heap [] 0 0 _ hR (fun z hz => by cases hz) (by omega) (by omega) (lvE_of hent)
    rw [← lg_entry_eq] at w
    obtain ⟨t, a1, oc, L, b1, b2, b3, b4, b5, b6, b7⟩ := w s₁ hh0 (Stand.of_body B)
    exact ⟨t, oc, a1, b1, b2, b3, b4, L, b5, b6, b7⟩
section GC
variable {Γ : GG} {κ : KM} {cc : ByteArray} {m0 mF : MM} {o : GO} {m : MM} {pc : Nat} {lv : List (Option Value)} {st : List Value}
theorem gQ_of {Γ : GG} {κ : KM} {cc : ByteArray} {m0 mF : MM} {v : Option Value} {p : Program} {e : Env} {s : State} {mi : MethodId} {args : Array Value} {below : List Frame} {meth : Method} {c : Code} {R : Room} {H : Heap} {locs : List Loc} {cells slots : Nat} {g : JFrame} (h1 : Rep Γ mF H) (h2 : ∀ z ∈ locs, Γ.z ≤ z.base) (h3 : cells + m0.n = mF.n) (h4 : slots + m0.s = mF.s)
    (w : W p Γ.l e R s mi args below meth c H locs cells slots (MQ below (fun _ _ oc t => oc = .returned v ∧ t.heap = H) args s cells slots (fun q => Γ.z ≤ q)) g) : W p Γ.l e R s mi args below meth c H locs cells slots (gQ Γ m0 mF (.inl v) s below) g := by
  intro T hT X
  obtain ⟨t, a1, oc, b1, b2, ⟨b3, b4⟩, L, ⟨-, b6, b7⟩, b8⟩ := w T hT X
  have e1 : mF.n - m0.n = cells := by omega
  have e2 : mF.s - m0.s = slots := by omega
  exact ⟨t, a1, oc, L, b1, b2, b3, by rw [b4]; exact h1, b6, by rw [e1, e2]; exact b7, b8⟩
theorem g_iret {v : Int32} (hr : κ.ret = some .int) (d : decode cc pc = .ok (.ireturn, 1)) : G Γ κ cc m0 m (.inl (some (.int v))) m pc lv [.int v] :=
  ⟨Ext.rf m, fun p e s mi args below meth c R X H locs cells slots ls h1 h2 h3 h4 h5 => gQ_of (κ := κ) (cc := cc) h1 h2 h3 h4 (W.iret X.hx X.hb (X.hrt.trans hr) (fun t ht _ => ⟨rfl, ht⟩) h2 d (hlocks := X.hlk))⟩
theorem g_zret {v : Int32} (hr : κ.ret = some .boolean) (hv : fitT 52 v = true) (d : decode cc pc = .ok (.ireturn, 1)) : G Γ κ cc m0 m (.inl (some (.int v))) m pc lv [.int v] :=
  ⟨Ext.rf m, fun p e s mi args below meth c R X H locs cells slots ls h1 h2 h3 h4 h5 => gQ_of (κ := κ) (cc := cc) h1 h2 h3 h4 (W.zret X.hx X.hb (X.hrt.trans hr) (fit_narrow (Or.inr (Or.inr ⟨rfl, rfl⟩)) hv).1 (fun t ht _ => ⟨rfl, ht⟩) h2 d (hlocks := X.hlk))⟩
theorem g_bret {v : Int32} (hr : κ.ret = some .byte) (hv : fitT 51 v = true) (d : decode cc pc = .ok (.ireturn, 1)) : G Γ κ cc m0 m (.inl (some (.int v))) m pc lv [.int v] :=
  ⟨Ext.rf m, fun p e s mi args below meth c R X H locs cells slots ls h1 h2 h3 h4 h5 => gQ_of (κ := κ) (cc := cc) h1 h2 h3 h4 (W.zret X.hx X.hb (X.hrt.trans hr) (fit_narrow (Or.inr (Or.inl ⟨rfl, rfl⟩)) hv).1 (fun t ht _ => ⟨rfl, ht⟩) h2 d (hlocks := X.hlk))⟩
theorem g_lret {v : Int64} (hr : κ.ret = some .long) (d : decode cc pc = .ok (.lreturn, 1)) : G Γ κ cc m0 m (.inl (some (.long v))) m pc lv [.long v] :=
  ⟨Ext.rf m, fun p e s mi args below meth c R X H locs cells slots ls h1 h2 h3 h4 h5 => gQ_of (κ := κ) (cc := cc) h1 h2 h3 h4 (W.lret X.hx X.hb (X.hrt.trans hr) (fun t ht _ => ⟨rfl, ht⟩) h2 d (hlocks := X.hlk))⟩
theorem g_vret (hr : κ.ret = none) (d : decode cc pc = .ok (.return_, 1)) : G Γ κ cc m0 m (.inl none) m pc lv [] :=
  ⟨Ext.rf m, fun p e s mi args below meth c R X H locs cells slots ls h1 h2 h3 h4 h5 => gQ_of (κ := κ) (cc := cc) h1 h2 h3 h4 (W.vret X.hx X.hb (X.hrt.trans hr) (fun t ht _ => ⟨rfl, ht⟩) h2 d (hlocks := X.hlk))⟩
theorem g_aret {r : Option Nat} {rt : FieldType} (hr : κ.ret = some rt) (hrt : (∃ n, rt = .object n) ∨ ∃ t, rt = .array t) (d : decode cc pc = .ok (.areturn, 1)) : G Γ κ cc m0 m (.inl (some (va_rf r))) m pc lv [va_rf r] :=
  ⟨Ext.rf m, fun p e s mi args below meth c R X H locs cells slots ls h1 h2 h3 h4 h5 => gQ_of (κ := κ) (cc := cc) h1 h2 h3 h4 (W.aret X.hx X.hb (X.hrt.trans hr) hrt (by cases r with
    | none => exact Or.inl rfl
    | some a => exact Or.inr ⟨a, rfl⟩) (fun t ht _ => ⟨rfl, ht⟩) h2 d (hlocks := X.hlk))⟩
end GC
