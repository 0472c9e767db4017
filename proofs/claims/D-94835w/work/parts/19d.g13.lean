/-! ROWS OF G: clone, arrays of arrays, classes -/
set_option maxRecDepth 100000
theorem Rep.new2 {Γ : GG} {m m1 : MM} {H : Heap} {kd len : Nat} {cell : Cell} (h : Rep Γ m H) (e1 : m1.n = m.n + 1) (e2 : m1.b = m.b) (e3 : m1.c = m.c) (e4 : m1.K = up m.K m.n (kd, len)) (hz : Γ.z ≤ m.n) (hv : ∀ q, q ≠ m.n → ∀ tc k, gv m1 tc q k = gv m tc q k) (hO : ∀ ci, kd = ci + 1 → ci < 49 → watO Γ m1 (H.push cell) m.n ci) (hA : 50 ≤ kd → watA Γ m1 (H.push cell) m.n kd len) : Rep Γ m1 (H.push cell) := by
  obtain ⟨h1, h2, h3, h4, h5⟩ := h
  have hp : ∀ q, q < H.size → (H.push cell)[q]? = H[q]? := fun q hq => by rw [Array.getElem?_push_lt hq, Array.getElem?_eq_getElem hq]
  refine ⟨by rw [Array.size_push, h1, e1], e2.trans h2, e3.trans h3, fun q hq => by rw [hp q (by omega)]; exact h4 q hq, fun q => ?_⟩
  rw [e4]
  by_cases hq : q = m.n
  · subst hq
    rw [up_s]
    exact ⟨hO, hA⟩
  · rw [up_n hq]
    refine ⟨fun ci c1 c2 => ?_, fun c1 => ?_⟩
    · have hl := K_lt (m := m) (a := q) (by omega)
      exact ((h5 q).1 ci c1 c2).keep (hp q (by omega)) (hv q hq)
    · have hl := K_lt (m := m) (a := q) (by omega)
      exact ((h5 q).2 c1).keep (hp q (by omega)) (hv q hq)
section GL
variable {Γ : GG} {κ κ2 : KM} {cc c2 : ByteArray} {m0 mF : MM} {o : GO} {m m1 : MM} {pc : Nat} {lv : List (Option Value)} {st : List Value}
theorem clB_spec {m m1 : MM} {r : Option Nat} (h : clB m r = some m1) : ∃ a, r = some a ∧ (m.K a).1 = 51 ∧ m.b ≤ a ∧ (∀ i, i < (m.K a).2 → fitT 51 (m.I a i) = true) ∧ m1 = (m.new 51 (m.K a).2 (m.K a).2).putI m.n (m.I a) := by
  cases r with
  | none => cases h
  | some a =>
    simp only [clB] at h
    split at h
    · rename_i c
      cases h
      exact ⟨a, rfl, c.1, c.2.1, fun i hi => List.all_eq_true.mp c.2.2 i (List.mem_range.mpr hi), rfl⟩
    · cases h
theorem clB_ext {m m1 : MM} {r : Option Nat} (h : clB m r = some m1) : Ext m m1 := by
  obtain ⟨a, -, -, -, -, rfl⟩ := clB_spec h
  exact (Ext.new _ _ _ _).tr (Ext.putI _ _ _)
theorem g_clone (hΓ : GF Γ) {idx : Nat} {r : Option Nat} (q1 : Cond.methodLink κ.own idx ⟨"[B", "clone", "()Ljava/lang/Object;"⟩ ∈ lw_all) (q2 : Cond.sameMethod "[B" "java/lang/Object" "clone" "()Ljava/lang/Object;" ∈ lw_all) (q3 : Cond.native ⟨"java/lang/Object", "clone", "()Ljava/lang/Object;"⟩ ∈ lw_all) (q4 : Cond.instanceMethod ⟨"java/lang/Object", "clone", "()Ljava/lang/Object;"⟩ ∈ lw_all) (q5 : Cond.selects "[B" ⟨"[B", "clone", "()Ljava/lang/Object;"⟩ ⟨"java/lang/Object", "clone", "()Ljava/lang/Object;"⟩ ∈ lw_all) (hfr : 1 ≤ κ.fr) (hlo : 60 ≤ κ.lo) (hr4 : st.length ≤ 4) (ha : clB m r = some m1) (d : decode cc pc = .ok (.invokevirtual idx, 3)) (kk : G Γ κ cc m0 mF o m1 (pc + 3) lv (va_rf (some m.n) :: st)) : G Γ κ cc m0 mF o m pc lv (va_rf r :: st) := by
  have hE := clB_ext ha
  obtain ⟨a, rfl, hk, hz, hfit, rfl⟩ := clB_spec ha
  refine ⟨hE.tr kk.1, fun p e s mi args below meth c R X H locs cells slots ls h1 h2 h3 h4 h5 => ?_⟩
  obtain ⟨r1, r2⟩ := g_roomN (m := m) (a := 1) (b := (m.K a).2) X h3 h4 kk.1.1 kk.1.2.1
  have hza : Γ.z ≤ a := by rw [← h1.2.1]; exact hz
  obtain ⟨cell, w1, w2, w3, w4, w5, w6⟩ := h1.arrz hk (Nat.le_of_ble_eq_true rfl) hza
  obtain ⟨hcls, hvm⟩ := w4 hza
  obtain ⟨kA, comp, g1, g2, g3, -⟩ := hΓ.a 51 (Nat.le_of_ble_eq_true rfl) (Nat.le_of_ble_eq_true rfl)
  have hnm : s.vm.findClass "[B" = some cell.cls := by rw [hcls, X.hal.findClass]; exact g1
  obtain ⟨c0, t0', f1, f2, f3⟩ := Cond.castable_spec (va_Nw.use (A := args) rfl (hΓ.nw (w := .castable "[B" "java/lang/Cloneable") X.hw (by decide)))
  cases hnm.symm.trans f1
  intro T hT Y
  have hcellT : T.heap[a]? = some cell := by rw [hT]; exact w1
  obtain ⟨-, kA2, hkA, comp2, hkind⟩ := State.isArrayOf_alike Y.warmed.alike (State.isArrayOf_alike X.hal w2)
  obtain ⟨-, kS, hkS, compS, hkindS⟩ := State.isArrayOf_alike X.hal w2
  obtain ⟨vm', Y', stp⟩ := Y.cloneArray X.hx X.hown (X.hts _ q1) (X.hts _ q2) (X.hts _ q3) (X.hts _ q4) (X.hts _ q5) (a := a) (cell := cell) hcellT w2.1 w3 hnm f2 f3
    (fun i v hv => by
      have hk' : T.vm.classes[cell.cls]? = some kA2 := hkA
      have hi : i < (m.K a).2 := by rw [← w5]; exact (Array.getElem?_eq_some_iff.mp hv).1
      rw [w6 i hi] at hv
      cases hv
      have hg : gat 51 = .byte := rfl
      have hgv : gv m (gtt 51) a i = .int (m.I a i) := rfl
      rw [hgv]
      have := (fit_narrow (Or.inr (Or.inl ⟨rfl, rfl⟩)) (hfit i hi)).2
      simpa [State.fitsSlot, State.slotType?, hk', hkind, hg] using this)
    (g := F0 mi pc ls (.ref a :: st)) rfl (by rw [X.hml]; exact h5.1) rfl (by rw [X.hb]; exact d) (Nat.le_trans hfr X.hfr) (by
      have := cat_le st hr4
      have := X.hlo
      show 2 * 0 + _ + 14 ≤ _
      omega) r1 (by rw [w5]; exact r2) (hloader := Vm.clonesLoader_of_array hkS hkindS)
  rw [w5] at Y'
  have hWA : watA Γ ((m.new 51 (m.K a).2 (m.K a).2).putI m.n (m.I a)) (H.push { cls := cell.cls, slots := cell.slots }) m.n 51 (m.K a).2 := by
    refine ⟨{ cls := cell.cls, slots := cell.slots }, by rw [← h1.1]; exact Array.getElem?_push_size, ⟨(fun k e => by cases e), w2.2⟩, (fun e => by cases e), (fun _ => ⟨hcls, rfl⟩), wsz.of w5, fun j hj => ?_⟩
    have e9 : gv ((m.new 51 (m.K a).2 (m.K a).2).putI m.n (m.I a)) (gtt 51) m.n j = .int (m.I a j) := by
      show Value.int (up (m.new 51 (m.K a).2 (m.K a).2).I m.n (m.I a) m.n j) = _
      rw [up_s]
    rw [e9]
    exact w6 j hj
  obtain ⟨t, b1, b2⟩ := kk.2 p e s mi args below meth c R X (H.push { cls := cell.cls, slots := cell.slots }) locs (cells + 1) (slots + (m.K a).2) ls (h1.new2 (kd := 51) (len := (m.K a).2) rfl rfl rfl (by show ((m.new 51 _ _).putI m.n _).K = _; rw [putI_K, new_K]) (g_zn X h3) (fun q hq tc k => by rw [gv_putI hq]; exact gv_put (m1 := m.new 51 _ _) (m := m) (q := q) (up_n hq) (up_n hq) (up_n hq) tc k) (fun ci c1 c2 => by omega) (fun _ => hWA)) h2 (by show _ = m.n + 1; omega) (by show _ = m.s + _; omega) h5 ((T.setVm vm').pushCell { cls := cell.cls, slots := cell.slots }) (by rw [← hT]; rfl) Y'
  refine ⟨t, stp t ?_, b2⟩
  rw [hT, h1.1]
  exact b1
/-- Object.getClass of an array of Object -/
theorem g_getC (hΓ : GF Γ) {idx : Nat} {r : Option Nat} {a : Nat} (q1 : Cond.methodLink κ.own idx ⟨"java/lang/Object", "getClass", "()Ljava/lang/Class;"⟩ ∈ lw_all) (q2 : Cond.selects "[Ljava/lang/Object;" ⟨"java/lang/Object", "getClass", "()Ljava/lang/Class;"⟩ ⟨"java/lang/Object", "getClass", "()Ljava/lang/Class;"⟩ ∈ lw_all) (q3 : Cond.instanceMethod ⟨"java/lang/Object", "getClass", "()Ljava/lang/Class;"⟩ ∈ lw_all) (q4 : Cond.native ⟨"java/lang/Object", "getClass", "()Ljava/lang/Class;"⟩ ∈ lw_all) (hfr : 1 ≤ κ.fr) (hlo : 60 ≤ κ.lo) (hr4 : st.length ≤ 4) (ha : isKz m r 54 = some a) (d : decode cc pc = .ok (.invokevirtual idx, 3)) (kk : G Γ κ cc m0 mF o m (pc + 3) lv (va_rf (m.c 10) :: st)) : G Γ κ cc m0 mF o m pc lv (va_rf r :: st) := by
  refine ⟨kk.1, fun p e s mi args below meth c R X H locs cells slots ls h1 h2 h3 h4 h5 => ?_⟩
  obtain ⟨rfl, hk, hz⟩ := isKz_of ha
  have hza : Γ.z ≤ a := by rw [← h1.2.1]; exact hz
  obtain ⟨cell, w1, w2, w3, w4, w5, w6⟩ := h1.arrz hk (Nat.le_of_ble_eq_true rfl) hza
  obtain ⟨kA, comp, g1, g2, g3, -⟩ := hΓ.a 54 (Nat.le_of_ble_eq_true rfl) (Nat.le_of_ble_eq_true rfl)
  obtain ⟨mi9, c1, hM⟩ := hΓ.mi
  have w := kk.2 p e s mi args below meth c R X H locs cells slots ls h1 h2 h3 h4 h5
  rw [h1.2.2.1, c1] at w
  exact va_getC X.hx X.hb (X.hml.trans h5.1.symm) X.hown (X.hts _ q1) (va_Nw.use (A := args) rfl (hΓ.nw (w := .declares ⟨"java/lang/Object", "getClass", "()Ljava/lang/Class;"⟩) X.hw (by decide))) (X.hts _ q2) (X.hts _ q3) (X.hts _ q4) (hM.moved X.hal) ⟨cell, w1, ne_isStatics w2.1, by rw [(w4 hza).1, X.hal.findClass]; exact g1⟩ (Nat.le_trans hfr X.hfr) (by
    have := cat_le st hr4
    have := X.hlo
    omega) d w
theorem g_ldcM (hΓ : GF Γ) {idx : Nat} (q1 : Cond.classLink κ.own idx "[Ljava/lang/Object;" ∈ lw_all) (d : decode cc pc = .ok (.ldc idx, 2)) (kk : G Γ κ cc m0 mF o m (pc + 2) lv (va_rf (m.c 10) :: st)) : G Γ κ cc m0 mF o m pc lv st := by
  refine ⟨kk.1, fun p e s mi args below meth c R X H locs cells slots ls h1 h2 h3 h4 h5 => ?_⟩
  obtain ⟨mi9, c1, hM⟩ := hΓ.mi
  have w := kk.2 p e s mi args below meth c R X H locs cells slots ls h1 h2 h3 h4 h5
  rw [h1.2.2.1, c1] at w
  exact va_ldcM X.hx X.hb X.hown (X.hts _ q1) (hM.moved X.hal) d w
end GL
