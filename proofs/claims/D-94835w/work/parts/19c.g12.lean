/-! ROWS OF G: System.arraycopy, clone, arrays of arrays, classes -/
set_option maxRecDepth 100000
theorem pairs_slot (at_ : Nat) : ∀ (xs : List Value) (i : Nat) (c : Cell) (j : Nat), (c.storePairs at_ (xs.zipIdx i)).slots[j]? = if at_ + i ≤ j ∧ j < at_ + i + xs.length ∧ j < c.slots.size then some (xs.getD (j - (at_ + i)) .null) else c.slots[j]?
  | [], i, c, j => by
    rw [if_neg (by simp only [List.length_nil]; omega)]
    rfl
  | x :: xs, i, c, j => by
    rw [List.zipIdx_cons]
    show ((c.setSlot (at_ + i) x).storePairs at_ (xs.zipIdx (i + 1))).slots[j]? = _
    rw [pairs_slot at_ xs (i + 1), k2_slotsz]
    by_cases hj : j = at_ + i
    · subst hj
      rw [if_neg (by omega)]
      show (c.slots.setIfInBounds (at_ + i) x)[at_ + i]? = _
      by_cases hs : at_ + i < c.slots.size
      · rw [if_pos ⟨Nat.le_refl _, by simp only [List.length_cons]; omega, hs⟩]
        simp [Array.getElem?_setIfInBounds, hs]
      · rw [if_neg (by omega)]
        simp [Array.getElem?_setIfInBounds, hs]
    · have e2 : (c.setSlot (at_ + i) x).slots[j]? = c.slots[j]? := by
        show (c.slots.setIfInBounds (at_ + i) x)[j]? = _
        rw [Array.getElem?_setIfInBounds_ne (Ne.symm hj)]
      rw [e2]
      by_cases h : at_ + (i + 1) ≤ j ∧ j < at_ + (i + 1) + xs.length ∧ j < c.slots.size
      · rw [if_pos h, if_pos (by simp only [List.length_cons]; omega)]
        have e : j - (at_ + i) = (j - (at_ + (i + 1))) + 1 := by omega
        rw [e, List.getD_cons_succ]
      · rw [if_neg h, if_neg (by simp only [List.length_cons]; omega)]
theorem run_slot {cs cd : Cell} {sp dp n j : Nat} {V : Nat → Value} {N : Nat} (hV : ∀ k, k < N → cs.slots[k]? = some (V k)) (hs : sp + n ≤ N) (hj : j < cd.slots.size) : (cd.storeRun dp (cs.stretch sp n)).slots[j]? = if dp ≤ j ∧ j < dp + n then some (V (sp + (j - dp))) else cd.slots[j]? := by
  have e : cs.stretch sp n = (List.range n).map (fun i => V (sp + i)) := by
    unfold Cell.stretch
    apply List.map_congr_left
    intro i hi
    have hi' := List.mem_range.mp hi
    rw [Array.getD_eq_getD_getElem?, hV _ (by omega)]
    rfl
  rw [e, Cell.storeRun, pairs_slot]
  simp only [List.length_map, List.length_range, Nat.add_zero]
  by_cases h : dp ≤ j ∧ j < dp + n
  · rw [if_pos ⟨h.1, h.2, hj⟩, if_pos h, List.getD_eq_getElem?_getD, List.getElem?_map, List.getElem?_range (by omega)]
    rfl
  · rw [if_neg (fun q => h ⟨q.1, q.2.1⟩), if_neg h]
section GP
variable {Γ : GG} {κ κ2 : KM} {cc c2 : ByteArray} {m0 mF : MM} {o : GO} {m m1 : MM} {pc : Nat} {lv : List (Option Value)} {st : List Value}
theorem nn_clamp (z : Int32) (hz : ¬ z < 0) : z.toInt = (z.toNatClampNeg : Int) := by
  have hz0 : (0 : Int) ≤ z.toInt := by
    have := Int32.not_lt.mp hz
    simpa using Int32.le_iff_toInt_le.mp this
  show z.toInt = ((z.toInt.toNat : Nat) : Int)
  omega
/-- a copy between arrays of one kind -/
theorem g_cpy {t idx : Nat} {a b : Nat} {sp dp n : Int32} (hKA : gKA Γ) (ht : t = 50 ∨ t = 51 ∨ t = 54 ∨ t = 55) (q1 : Cond.methodLink κ.own idx arraycopyName ∈ lw_all) (hfr : 1 ≤ κ.fr) (hlo : 60 ≤ κ.lo) (hr4 : st.length ≤ 4) (q2 : Cond.native arraycopyName ∈ lw_all) (q3 : Cond.static arraycopyName ∈ lw_all) (q4 : Cond.initialized "java/lang/System" ∈ lw_all)
    (k1 : (m.K a).1 = t) (k2 : (m.K b).1 = t) (h1 : ¬ sp < 0) (h2 : ¬ dp < 0) (h3 : ¬ n < 0) (h4 : sp.toNatClampNeg + n.toNatClampNeg ≤ (m.K a).2) (h5 : dp.toNatClampNeg + n.toNatClampNeg ≤ (m.K b).2) (hz : m.b ≤ b)
    (hv : ∀ H, Rep Γ m H → ∀ comp, (∃ kA : Class, Γ.s0.vm.classes[Γ.ca t]? = some kA ∧ kA.kind = .array comp (gat t)) → ∀ (T : State), T.heap = H → Γ.s0.vm.Alike T.vm → ∀ i, i < n.toNatClampNeg → fits (gat t) (gv m (gtt t) a (sp.toNatClampNeg + i)) = true ∧ T.takes comp (gv m (gtt t) a (sp.toNatClampNeg + i)))
    (e1 : m1.n = m.n) (e0 : m1.s = m.s) (e2 : m1.b = m.b) (e3 : m1.c = m.c) (e4 : m1.K = m.K) (ho : ∀ q, q ≠ b → ∀ tc k, gv m1 tc q k = gv m tc q k)
    (hg : ∀ j, gv m1 (gtt t) b j = if dp.toNatClampNeg ≤ j ∧ j < dp.toNatClampNeg + n.toNatClampNeg then gv m (gtt t) a (sp.toNatClampNeg + (j - dp.toNatClampNeg)) else gv m (gtt t) b j)
    (d : decode cc pc = .ok (.invokestatic idx, 3)) (kk : G Γ κ cc m0 mF o m1 (pc + 3) lv st) : G Γ κ cc m0 mF o m pc lv (.int n :: .int dp :: .ref b :: .int sp :: .ref a :: st) := by
  have hE : Ext m m1 := ⟨by rw [e1]; exact Nat.le_refl _, by rw [e0]; exact Nat.le_refl _, e2, e3, fun q _ => by rw [e4]⟩
  refine ⟨hE.tr kk.1, fun p e s mi args below meth c R X H locs cells slots ls r1 r2 r3 r4 r5 => ?_⟩
  have h50 : 50 ≤ t := by omega
  have h55 : t ≤ 55 := by omega
  obtain ⟨cs, a1, a2, a3, a4, a5, a6⟩ := r1.arr k1 h50
  have hza : Γ.z ≤ b := by rw [← r1.2.1]; exact hz
  obtain ⟨cd, b1, b2, b3, b4, b5, b6⟩ := r1.arrz k2 h50 hza
  obtain ⟨as1, ks, hks, sc, hsk⟩ := State.isArrayOf_alike X.hal a2
  obtain ⟨bs1, kd, hkd, dc, hdk⟩ := State.isArrayOf_alike X.hal b2
  obtain ⟨kA, comp, g1, g2, g3, -⟩ := hKA t h50 h55
  have hdc : dc = comp := by
    obtain ⟨kA', hkA', he⟩ := X.hal.2.2 _ _ g2
    rw [(b4 hza).1] at hkd
    cases hkA'.symm.trans hkd
    rw [he, g3] at hdk
    cases hdk
    rfl
  subst hdc
  intro T hT Y
  obtain ⟨vm', Y', step⟩ := Y.arraycopy X.hx X.hown (X.hts _ q1) (X.hts _ q2) (X.hts _ q3) (X.hts _ q4) (src := a) (dst := b) (cs := cs) (cd := cd) (srcPos := sp) (destPos := dp) (n := n) (by rw [hT]; exact a1) (by rw [hT]; exact b1) as1 bs1 a3 b3 hks hkd hsk hdk (by rcases ht with rfl | rfl | rfl | rfl <;> rfl) h1 h2 h3
    (by rw [nn_clamp sp h1, nn_clamp n h3]; have := a5.1; omega) (by rw [nn_clamp dp h2, nn_clamp n h3, b5]; omega)
    (fun vm₁ hal i hi => by
      have ev : cs.slots.getD (sp.toNatClampNeg + i) .null = gv m (gtt t) a (sp.toNatClampNeg + i) := by
        rw [Array.getD_eq_getD_getElem?, a6 _ (by omega)]
        rfl
      rw [ev]
      exact hv H r1 dc ⟨kA, g2, g3⟩ (T.setVm vm₁) hT (X.hal.trans hal) i hi)
    (g := F0 mi pc ls (.int n :: .int dp :: .ref b :: .int sp :: .ref a :: st)) rfl (by rw [X.hml]; exact r5.1) (rest := st) rfl (by rw [X.hb]; exact d) (Nat.le_trans hfr X.hfr) (by
      have := cat_le st hr4
      have := X.hlo
      have hw : nativeFrameWords "java/lang/System" "arraycopy" 5 ≤ 20 := by decide
      show 2 * 0 + _ + _ ≤ _
      omega)
  have hl : b < H.size := (Array.getElem?_eq_some_iff.mp b1).1
  have hheap : ((T.setVm vm').setCell b (copied cs cd sp dp n)).heap = H.setIfInBounds b (copied cs cd sp dp n) := by rw [← hT]; rfl
  obtain ⟨f1, f2, f3, -⟩ := Cell.storePairs_facts cd dp.toNatClampNeg (cs.stretch sp.toNatClampNeg n.toNatClampNeg).zipIdx
  have hR : Rep Γ m1 (H.setIfInBounds b (copied cs cd sp dp n)) := by
    refine r1.at e1 e2 e3 e4 hza (by simp) (fun q hq => by simp [Array.getElem?_setIfInBounds, Ne.symm hq]) ho (fun ci c1 c2 => by omega) (fun _ => ?_)
    rw [k2]
    refine ⟨copied cs cd sp dp n, by simp [Array.getElem?_setIfInBounds, hl], ?_, ?_, fun hz9 => ?_, ?_, fun j hj => ?_⟩
    · refine ⟨fun k h9 => b2.1 k (f2.symm.trans h9), ?_⟩
      have : (copied cs cd sp dp n).cls = cd.cls := f1
      rw [this]
      exact b2.2
    · exact fun h9 => b3 (f2.symm.trans h9)
    · exact ⟨f1.trans (b4 hz9).1, f2.trans (b4 hz9).2⟩
    · exact wsz.of (f3.trans b5)
    · rw [hg]
      show (cd.storeRun dp.toNatClampNeg (cs.stretch sp.toNatClampNeg n.toNatClampNeg)).slots[j]? = _
      rw [run_slot (V := gv m (gtt t) a) a6 h4 (by rw [b5]; exact hj)]
      by_cases hr : dp.toNatClampNeg ≤ j ∧ j < dp.toNatClampNeg + n.toNatClampNeg
      · rw [if_pos hr, if_pos hr]
      · rw [if_neg hr, if_neg hr]
        exact b6 j hj
  obtain ⟨t2, w1, w2⟩ := kk.2 p e s mi args below meth c R X _ _ cells slots ls hR (fun z hz9 => by
    rcases List.mem_append.mp hz9 with h | h
    · exact r2 z h
    · obtain ⟨y, -, hy⟩ := List.mem_map.mp h
      rw [← hy]
      exact hza) (by rw [e1]; exact r3) (by rw [e0]; exact r4) r5 _ hheap Y'
  exact ⟨t2, step t2 w1, w2⟩
theorem cI_spec {m m1 : MM} {t : Nat} {r q : Option Nat} {sp dp n : Int32} (h : cI m t r sp q dp n = some m1) : ∃ a b, r = some a ∧ q = some b ∧ (m.K a).1 = t ∧ (m.K b).1 = t ∧ ¬ sp < 0 ∧ ¬ dp < 0 ∧ ¬ n < 0 ∧ sp.toNatClampNeg + n.toNatClampNeg ≤ (m.K a).2 ∧ dp.toNatClampNeg + n.toNatClampNeg ≤ (m.K b).2 ∧ m.b ≤ b ∧ (∀ i, i < n.toNatClampNeg → fitT t (m.I a (sp.toNatClampNeg + i)) = true) ∧ m1 = m.putI b (cpyF (m.I a) (m.I b) sp.toNatClampNeg dp.toNatClampNeg n.toNatClampNeg) := by
  cases r with
  | none => cases h
  | some a =>
    cases q with
    | none => cases h
    | some b =>
      simp only [cI] at h
      split at h
      · rename_i c
        cases h
        exact ⟨a, b, rfl, rfl, c.1, c.2.1, Int32.not_lt.mpr c.2.2.1, Int32.not_lt.mpr c.2.2.2.1, Int32.not_lt.mpr c.2.2.2.2.1, c.2.2.2.2.2.1, c.2.2.2.2.2.2.1, c.2.2.2.2.2.2.2.1, fun i hi => List.all_eq_true.mp c.2.2.2.2.2.2.2.2 i (List.mem_range.mpr hi), rfl⟩
      · cases h
theorem cR_spec {m m1 : MM} {t : Nat} {r q : Option Nat} {sp dp n : Int32} (h : cR m t r sp q dp n = some m1) : ∃ a b, r = some a ∧ q = some b ∧ (m.K a).1 = t ∧ (m.K b).1 = t ∧ ¬ sp < 0 ∧ ¬ dp < 0 ∧ ¬ n < 0 ∧ sp.toNatClampNeg + n.toNatClampNeg ≤ (m.K a).2 ∧ dp.toNatClampNeg + n.toNatClampNeg ≤ (m.K b).2 ∧ m.b ≤ b ∧ (∀ i, i < n.toNatClampNeg → okR m t (m.R a (sp.toNatClampNeg + i)) = true) ∧ m1 = m.putR b (cpyF (m.R a) (m.R b) sp.toNatClampNeg dp.toNatClampNeg n.toNatClampNeg) := by
  cases r with
  | none => cases h
  | some a =>
    cases q with
    | none => cases h
    | some b =>
      simp only [cR] at h
      split at h
      · rename_i c
        cases h
        exact ⟨a, b, rfl, rfl, c.1, c.2.1, Int32.not_lt.mpr c.2.2.1, Int32.not_lt.mpr c.2.2.2.1, Int32.not_lt.mpr c.2.2.2.2.1, c.2.2.2.2.2.1, c.2.2.2.2.2.2.1, c.2.2.2.2.2.2.2.1, fun i hi => List.all_eq_true.mp c.2.2.2.2.2.2.2.2 i (List.mem_range.mpr hi), rfl⟩
      · cases h
theorem cI_ext {m m1 : MM} {t : Nat} {r q : Option Nat} {sp dp n : Int32} (h : cI m t r sp q dp n = some m1) : Ext m m1 := by
  obtain ⟨a, b, -, -, -, -, -, -, -, -, -, -, -, rfl⟩ := cI_spec h
  exact Ext.putI _ _ _
theorem cR_ext {m m1 : MM} {t : Nat} {r q : Option Nat} {sp dp n : Int32} (h : cR m t r sp q dp n = some m1) : Ext m m1 := by
  obtain ⟨a, b, -, -, -, -, -, -, -, -, -, -, -, rfl⟩ := cR_spec h
  exact Ext.putR _ _ _
theorem cpy_gvI {m : MM} {f : Nat → Int32} {b sp dp n : Nat} (j : Nat) : gv (m.putI b (cpyF f (m.I b) sp dp n)) 0 b j = if dp ≤ j ∧ j < dp + n then .int (f (sp + (j - dp))) else gv m 0 b j := by
  show Value.int (up m.I b _ b j) = _
  rw [up_s]
  unfold cpyF
  by_cases h : dp ≤ j ∧ j < dp + n
  · rw [if_pos h, if_pos h]
  · rw [if_neg h, if_neg h]; rfl
theorem cpy_gvR {m : MM} {f : Nat → Option Nat} {b sp dp n : Nat} (j : Nat) : gv (m.putR b (cpyF f (m.R b) sp dp n)) 2 b j = if dp ≤ j ∧ j < dp + n then va_rf (f (sp + (j - dp))) else gv m 2 b j := by
  show va_rf (up m.R b _ b j) = _
  rw [up_s]
  unfold cpyF
  by_cases h : dp ≤ j ∧ j < dp + n
  · rw [if_pos h, if_pos h]
  · rw [if_neg h, if_neg h]; rfl
theorem g_copy50 (hΓ : GF Γ) {idx : Nat} {r q : Option Nat} {sp dp n : Int32} (q1 : Cond.methodLink κ.own idx arraycopyName ∈ lw_all) (hfr : 1 ≤ κ.fr) (hlo : 60 ≤ κ.lo) (hr4 : st.length ≤ 4) (ha : cI m 50 r sp q dp n = some m1) (d : decode cc pc = .ok (.invokestatic idx, 3)) (kk : G Γ κ cc m0 mF o m1 (pc + 3) lv st) : G Γ κ cc m0 mF o m pc lv (.int n :: .int dp :: va_rf q :: .int sp :: va_rf r :: st) := by
  obtain ⟨a, b, rfl, rfl, k1, k2, h1, h2, h3, h4, h5, hz, hfit, rfl⟩ := cI_spec ha
  exact g_cpy (t := 50) hΓ.a (by decide) q1 hfr hlo hr4 q479 q478 q129 k1 k2 h1 h2 h3 h4 h5 hz (fun H _ comp _ T _ _ i hi => ⟨by show fits _ (Value.int _) = true; exact rfl, trivial⟩) (m1 := m.putI b _) rfl rfl rfl rfl rfl (fun q9 h9 tc k => gv_putI h9 tc k) (fun j => cpy_gvI j) d kk
theorem g_copy51 (hΓ : GF Γ) {idx : Nat} {r q : Option Nat} {sp dp n : Int32} (q1 : Cond.methodLink κ.own idx arraycopyName ∈ lw_all) (hfr : 1 ≤ κ.fr) (hlo : 60 ≤ κ.lo) (hr4 : st.length ≤ 4) (ha : cI m 51 r sp q dp n = some m1) (d : decode cc pc = .ok (.invokestatic idx, 3)) (kk : G Γ κ cc m0 mF o m1 (pc + 3) lv st) : G Γ κ cc m0 mF o m pc lv (.int n :: .int dp :: va_rf q :: .int sp :: va_rf r :: st) := by
  obtain ⟨a, b, rfl, rfl, k1, k2, h1, h2, h3, h4, h5, hz, hfit, rfl⟩ := cI_spec ha
  exact g_cpy (t := 51) hΓ.a (by decide) q1 hfr hlo hr4 q479 q478 q129 k1 k2 h1 h2 h3 h4 h5 hz (fun H _ comp _ T _ _ i hi => ⟨by show fits _ (Value.int _) = true; exact (fit_narrow (Or.inr (Or.inl ⟨rfl, rfl⟩)) (hfit i hi)).2, trivial⟩) (m1 := m.putI b _) rfl rfl rfl rfl rfl (fun q9 h9 tc k => gv_putI h9 tc k) (fun j => cpy_gvI j) d kk
theorem g_copy54 (hΓ : GF Γ) {idx : Nat} {r q : Option Nat} {sp dp n : Int32} (q1 : Cond.methodLink κ.own idx arraycopyName ∈ lw_all) (hfr : 1 ≤ κ.fr) (hlo : 60 ≤ κ.lo) (hr4 : st.length ≤ 4) (ha : cR m 54 r sp q dp n = some m1) (d : decode cc pc = .ok (.invokestatic idx, 3)) (kk : G Γ κ cc m0 mF o m1 (pc + 3) lv st) : G Γ κ cc m0 mF o m pc lv (.int n :: .int dp :: va_rf q :: .int sp :: va_rf r :: st) := by
  obtain ⟨a, b, rfl, rfl, k1, k2, h1, h2, h3, h4, h5, hz, hfit, rfl⟩ := cR_spec ha
  refine g_cpy (t := 54) hΓ.a (by decide) q1 hfr hlo hr4 q479 q478 q129 k1 k2 h1 h2 h3 h4 h5 hz (fun H hR comp hcomp T hT hal i hi => ?_) (m1 := m.putR b _) rfl rfl rfl rfl rfl (fun q9 h9 tc k => gv_putR h9 tc k) (fun j => cpy_gvR j) d kk
  show fits _ (va_rf (m.R a _)) = true ∧ T.takes comp (va_rf (m.R a _))
  have hok := hfit i hi
  cases hy : m.R a (sp.toNatClampNeg + i) with
  | none => exact ⟨rfl, trivial⟩
  | some y =>
    rw [hy] at hok
    have hq : (m.K y).1 ≠ 0 ∧ (m.K y).1 < 50 := by simpa [okR] using hok
    obtain ⟨ci, c1, c2, r9, cellV, v1, v2, v3, v4, v5, -⟩ := hR.obj hq.1 hq.2
    obtain ⟨kA, comp', g1, g2, g3, g4, -⟩ := hΓ.a 54 (Nat.le_of_ble_eq_true rfl) (Nat.le_of_ble_eq_true rfl)
    obtain ⟨kA', e1, e2⟩ := hcomp
    cases g2.symm.trans e1
    cases g3.symm.trans e2
    obtain ⟨hS, hfc, kC, hkC, hkind⟩ := (va_K.moved hal hΓ.k).1 ci _ v1
    obtain ⟨kE, hkE, -⟩ := Vm.findClass_spec (g4 rfl)
    obtain ⟨kE', hkE', -⟩ := hal.2.2 _ _ hkE
    exact ⟨rfl, cellV, by rw [hT]; exact v2, v5, ⟨kC, by rw [v3]; exact hkC⟩, ⟨kE', hkE'⟩, by rw [v3, hal.assignable]; exact hΓ.any ci _ v1 comp (g4 rfl)⟩
theorem g_copy55 (hΓ : GF Γ) {idx : Nat} {r q : Option Nat} {sp dp n : Int32} (q1 : Cond.methodLink κ.own idx arraycopyName ∈ lw_all) (hfr : 1 ≤ κ.fr) (hlo : 60 ≤ κ.lo) (hr4 : st.length ≤ 4) (ha : cR m 55 r sp q dp n = some m1) (d : decode cc pc = .ok (.invokestatic idx, 3)) (kk : G Γ κ cc m0 mF o m1 (pc + 3) lv st) : G Γ κ cc m0 mF o m pc lv (.int n :: .int dp :: va_rf q :: .int sp :: va_rf r :: st) := by
  obtain ⟨a, b, rfl, rfl, k1, k2, h1, h2, h3, h4, h5, hz, hfit, rfl⟩ := cR_spec ha
  refine g_cpy (t := 55) hΓ.a (by decide) q1 hfr hlo hr4 q479 q478 q129 k1 k2 h1 h2 h3 h4 h5 hz (fun H hR comp hcomp T hT hal i hi => ?_) (m1 := m.putR b _) rfl rfl rfl rfl rfl (fun q9 h9 tc k => gv_putR h9 tc k) (fun j => cpy_gvR j) d kk
  show fits _ (va_rf (m.R a _)) = true ∧ T.takes comp (va_rf (m.R a _))
  have hok := hfit i hi
  cases hy : m.R a (sp.toNatClampNeg + i) with
  | none => exact ⟨rfl, trivial⟩
  | some y =>
    rw [hy] at hok
    have hq : (m.K y).1 = 50 ∧ m.b ≤ y := by simpa [okR] using hok
    have hzy : Γ.z ≤ y := by rw [← hR.2.1]; exact hq.2
    obtain ⟨cellV, v1, v2, v3, v4, v5, v6⟩ := hR.arr hq.1 (Nat.le_of_ble_eq_true rfl)
    obtain ⟨kA, comp', g1, g2, g3, -, g4⟩ := hΓ.a 55 (Nat.le_of_ble_eq_true rfl) (Nat.le_of_ble_eq_true rfl)
    obtain ⟨kA', e1, e2⟩ := hcomp
    cases g2.symm.trans e1
    cases g3.symm.trans e2
    obtain ⟨hst, kV, hkV, compV, hkindV⟩ := State.isArrayOf_alike hal v2
    have hcl := (v4 hzy).1
    refine ⟨rfl, cellV, by rw [hT]; exact v1, hst, ⟨kV, hkV⟩, ⟨kV, ?_⟩, ?_⟩
    · rw [g4 rfl, ← hcl]; exact hkV
    · rw [g4 rfl, ← hcl]; exact ar_self _ _
end GP
