/-! ROWS OF G: a call of a method with handlers -/
set_option maxRecDepth 100000
theorem Ct.metW {Γ : GG} {κ : KM} {cc : ByteArray} {av : List Value} {m m1 : MM} {v : Option Value} (hh : κ.hh ≠ []) (h : Ct Γ κ cc av m (.inl v) m1) : Met Γ.l κ.y (wsW_ κ.y cc κ.nL κ.ret κ.hh) { frames := κ.fr, cells := m1.n - m.n, slots := m1.s - m.s, locals := κ.lo } (gPc Γ av m) (fun _ st oc t => oc = .returned v ∧ Rep Γ m1 t.heap) (m1.n - m.n) (m1.s - m.s) (fun q => Γ.z ≤ q) := by
  have h2 := h.2
  have hw : κ.w cc = Cond.codeWith κ.y cc κ.nL κ.ret κ.hh := by
    unfold KM.w
    cases hq : κ.hh with
    | nil => exact absurd hq hh
    | cons a t => rfl
  rw [hw] at h2
  exact MetFree.imp h2 fun a s oc t q => ⟨⟨q.1, q.2.1⟩, by obtain ⟨q1, q2, L, q3, q4, q5⟩ := q; exact ⟨L, ⟨⟨_, q1⟩, q3, q4⟩, q5⟩⟩
theorem g_callVHi {Γ : GG} {κ κ2 : KM} {cc c2 : ByteArray} {m0 mF : MM} {o : GO} {m m1 : MM} {pc : Nat} {lv : List (Option Value)} {st : List Value} (hΓ : GF Γ) {idx n ci b : Nat} {As rest : List Value} {r : Int32} (v1 : Cond.methodLink κ.own idx κ2.y ∈ lw_all) (v2 : Cond.instanceMethod κ2.y ∈ lw_all) (v3 : Cond.selects κ2.y.cls κ2.y κ2.y ∈ lw_all) (v4 : Cond.initialized κ2.y.cls ∈ lw_all) (v5 : Cond.codeWith κ2.y c2 κ2.nL κ2.ret κ2.hh ∈ lw_all) (v6 : ∃ T N, gcl[ci]? = some (κ2.y.cls, T, N)) (v7 : ci < 49) (v8 : κ2.y.cls ≠ "java/lang/invoke/MethodHandle" ∧ κ2.y.cls ≠ "java/lang/invoke/VarHandle" ∧ (parseMethodDescriptor κ2.y.desc).map (fun d => d.parameters.length) = some n) (vh : κ2.hh ≠ [])
    (hb : (m.K b).1 = ci + 1) (hC : Ct Γ κ2 c2 (.ref b :: As) m (.inl (some (.int r))) m1) (hn : As.length = n) (hs : st = As.reverse ++ .ref b :: rest) (hfr : κ2.fr + 1 ≤ κ.fr) (hlo : 8 + (κ2.nL + 11) + κ2.lo ≤ κ.lo) (hr4 : rest.length ≤ 4) (d : decode cc pc = .ok (.invokevirtual idx, 3)) (kk : G Γ κ cc m0 mF o m1 (pc + 3) lv (.int r :: rest)) : G Γ κ cc m0 mF o m pc lv st := by
  refine ⟨hC.1.tr kk.1, fun p e s mi args below meth c R X H locs cells slots ls h1 h2 h3 h4 h5 => ?_⟩
  obtain ⟨r1, r2, r3, r4⟩ := g_room X hC.1 kk.1 h3 h4
  have hB : Back Γ.l R p e below s args κ2.y 3 8 (PreOf R (m1.n - m.n) (m1.s - m.s) (gPc Γ (.ref b :: As) m)) (PostOf (fun _ st oc t => oc = .returned (some (.int r)) ∧ Rep Γ m1 t.heap) (m1.n - m.n) (m1.s - m.s) (fun q => Γ.z ≤ q)) :=
    va_backW (bytes := c2) (maxL := κ2.nL) (ret := κ2.ret) (hh := κ2.hh) (hC.metW vh) gPc_blind rfl rfl (Nat.le_trans hfr X.hfr) (Nat.le_trans hlo X.hlo) (pay_in X.hts (lw_methW v5)) List.mem_cons_self (fun a' U hW => word_at hW (Or.inl (by first | rfl | simp [Cond.onTables, Cond.keeps, Cond.steady])) (X.hts _ v4))
  obtain ⟨cellB, hcB, hoB, hclB⟩ := g_recv hΓ.k X h1 hb v7 v6
  refine g_back (rv := some (.int r)) X hC.1 kk h1 h2 h3 h4 h5 ?_
  intro T hT Y
  obtain ⟨mk, methM, hnamed, hmethM, hstM, habM⟩ := Cond.instanceMethod_spec (X.hts _ v2)
  obtain ⟨m9, methM', c9, hn9, hmethM', -, -, -, -, -, -, hsigM⟩ := Cond.codeWith_spec (X.hts _ v5)
  cases hnamed.symm.trans hn9
  cases hmethM.symm.trans hmethM'
  obtain ⟨c9, q9, m9, q1, q2, q3, q4, kP, hkP, hkPi⟩ := Cond.selects_spec (X.hts _ v3)
  cases hclB.symm.trans q1
  cases (State.methodFound?_of_named hnamed ⟨v8.1, v8.2.1⟩).symm.trans q2
  cases hnamed.symm.trans q3
  have hselP : selectMethod e.platform s.vm cellB.cls mk = .method mk := by rw [Launch.admits_selectMethod Y.admits]; exact q4
  have hlen : As.length = methM.sig.parameters.length := by
    have h9 := v8.2.2
    rw [hsigM] at h9
    simp at h9
    omega
  obtain ⟨vm₁, X₁, hstep₁⟩ := Y.invokevirtual X.hx X.hown (X.hts _ v1) hnamed hmethM hstM hkP hkPi ⟨v8.1, v8.2.1⟩ (a := b) (cell := cellB) (by rw [hT]; exact hcB)
    (fun z h => by rw [h] at hoB; cases hoB) hselP hmethM habM hkP hkPi (g := F0 mi pc ls st) rfl (argsL := As) (rest := rest) hlen hs (by rw [X.hb]; exact d)
  obtain ⟨v, B, X', ⟨g', mk', t, L, e1, e2, hq, e3, hL, e4, e5⟩, hsteps⟩ := hB mi meth c ⟨T.setVm vm₁, locs, cells, slots⟩ (F0 mi pc ls rest) (.invokevirtual idx) mk (Value.ref b :: As).toArray X₁ rfl (by show ls.size = _; rw [X.hml]; exact h5.1) (by rw [X.hb]; exact d) (lv_room (cat_le rest hr4)) (X₁.named hnamed) ⟨r1, r2, g_pre X h1 h3 (T.setVm vm₁) hT X₁.warmed⟩
  obtain ⟨U', l2, k2, s2⟩ := B
  dsimp only [Pt.U, Pt.locs, Pt.cells, Pt.slots] at X' e1 e2 e3 e4 e5 hsteps
  subst e3; subst e4; subst e5
  exact ⟨v, (T.setVm vm₁).calling g' mk' (Value.ref b :: As).toArray, t, U', L, hT, X', hL, e1, e2, hq, fun target h => hstep₁ _ fun acts => by rw [doInvoke_state]; exact hsteps.trans h⟩
