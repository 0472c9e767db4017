/-! ROWS OF G: references stored in arrays, copies, clones, arrays of arrays, classes -/
set_option maxRecDepth 100000
section GS
variable {Γ : GG} {κ κ2 : KM} {cc c2 : ByteArray} {m0 mF : MM} {o : GO} {m m1 : MM} {pc : Nat} {lv : List (Option Value)} {st : List Value}
theorem Rep.obj {m : MM} {H : Heap} (h : Rep Γ m H) {a : Nat} (h0 : (m.K a).1 ≠ 0) (h5 : (m.K a).1 < 50) : ∃ ci, (m.K a).1 = ci + 1 ∧ ci < 49 ∧ watO Γ m H a ci := by
  obtain ⟨ci, hci⟩ := Nat.exists_eq_succ_of_ne_zero h0
  exact ⟨ci, hci, by omega, (h.2.2.2.2 a).1 ci hci (by omega)⟩
theorem aast_rep {t a j : Nat} {v : Option Nat} {H H1 : Heap} {cell : Cell} (ht : t = 54 ∨ t = 55) (h1 : Rep Γ m H) (hk : (m.K a).1 = t) (hlt : j < (m.K a).2) (hza : Γ.z ≤ a) (w1 : H[a]? = some cell) (g1 : H1[a]? = some (cell.setSlot j (va_rf v))) (g2 : H1.size = H.size) (g3 : ∀ q, q ≠ a → H1[q]? = H[q]?) : Rep Γ (m.putR a (up (m.R a) j v)) H1 := by
  have e2 : gtt t = 2 := by rcases ht with rfl | rfl <;> rfl
  refine h1.sto (m1 := m.putR a _) (v := va_rf v) hk (by omega) hlt hza rfl rfl rfl rfl (fun q hq tc k => gv_putR hq tc k) (fun i hi => ?_) ?_ w1 g1 g2 g3
  · rw [e2]
    show va_rf (up m.R a _ a i) = va_rf _
    rw [up_s, up_n hi]
  · rw [e2]
    show va_rf (up m.R a _ a j) = _
    rw [up_s, up_s]
theorem g_aastN {r : Option Nat} {i : Int32} (ha : sR m 54 r i none = some m1) (d : decode cc pc = .ok (.aastore, 1)) (kk : G Γ κ cc m0 mF o m1 (pc + 1) lv st) : G Γ κ cc m0 mF o m pc lv (.null :: .int i :: va_rf r :: st) := by
  obtain ⟨a, rfl, hk, hin, hlt, hz, -, rfl⟩ := sR_spec ha
  refine ⟨(Ext.putR m a _).tr kk.1, fun p e s mi args below meth c R X H locs cells slots ls h1 h2 h3 h4 h5 => ?_⟩
  have hza : Γ.z ≤ a := by rw [← h1.2.1]; exact hz
  obtain ⟨cell, w1, w2, w3, w4, w5, w6⟩ := h1.arrz hk (Nat.le_of_ble_eq_true rfl) hza
  refine va_WaastN (C := "java/lang/Object") X.hx X.hb w1 (State.isArrayOf_alike X.hal w2) w3 (by rw [w5]; exact hin) rfl rfl d fun H1 g1 g2 g3 => ?_
  exact kk.2 p e s mi args below meth c R X H1 _ cells slots ls (aast_rep (v := none) (Or.inl rfl) h1 hk hlt hza w1 g1 g2 g3) (locs_put h2 hza) h3 h4 h5
theorem g_aast54 (hΓ : GF Γ) {r v : Option Nat} {i : Int32} (ha : sR m 54 r i v = some m1) (d : decode cc pc = .ok (.aastore, 1)) (kk : G Γ κ cc m0 mF o m1 (pc + 1) lv st) : G Γ κ cc m0 mF o m pc lv (va_rf v :: .int i :: va_rf r :: st) := by
  cases v with
  | none => exact g_aastN ha d kk
  | some q =>
    obtain ⟨a, rfl, hk, hin, hlt, hz, hok, rfl⟩ := sR_spec ha
    refine ⟨(Ext.putR m a _).tr kk.1, fun p e s mi args below meth c R X H locs cells slots ls h1 h2 h3 h4 h5 => ?_⟩
    have hza : Γ.z ≤ a := by rw [← h1.2.1]; exact hz
    obtain ⟨cell, w1, w2, w3, w4, w5, w6⟩ := h1.arrz hk (Nat.le_of_ble_eq_true rfl) hza
    have hq : (m.K q).1 ≠ 0 ∧ (m.K q).1 < 50 := by simpa [okR] using hok
    obtain ⟨ci, c1, c2, r9, cellV, v1, v2, v3, v4, v5, -⟩ := h1.obj hq.1 hq.2
    obtain ⟨kA, comp, k1, k2, k3, k4, -⟩ := hΓ.a 54 (Nat.le_of_ble_eq_true rfl) (Nat.le_of_ble_eq_true rfl)
    have k4 := k4 rfl
    have hcls := (w4 hza).1
    obtain ⟨kA', hkA', he⟩ := X.hal.2.2 _ _ k2
    obtain ⟨hS, hfc, kC, hkC, hkind⟩ := (va_K_s X hΓ.k).1 ci _ v1
    obtain ⟨kE, hkE, -⟩ := Vm.findClass_spec k4
    obtain ⟨kE', hkE', -⟩ := X.hal.2.2 _ _ hkE
    refine W.aast X.hx X.hb w1 w2.1 w3 (k := kA') (comp := comp) (t := .object "java/lang/Object") (kcomp := kE') (by rw [hcls]; exact hkA') (by rw [he]; exact k3) rfl hkE' (by rw [w5]; exact ⟨fun q => hin (Or.inl q), hlt⟩) v2 v5 (kv := kC) (by rw [v3]; exact hkC) (by rw [v3, X.hal.assignable]; exact hΓ.any ci _ v1 comp k4) rfl rfl d fun H1 g1 g2 g3 => ?_
    exact kk.2 p e s mi args below meth c R X H1 _ cells slots ls (aast_rep (v := some q) (Or.inl rfl) h1 hk hlt hza w1 g1 g2 g3) (locs_put h2 hza) h3 h4 h5
theorem g_aast55 (hΓ : GF Γ) {r v : Option Nat} {i : Int32} (ha : sR m 55 r i v = some m1) (d : decode cc pc = .ok (.aastore, 1)) (kk : G Γ κ cc m0 mF o m1 (pc + 1) lv st) : G Γ κ cc m0 mF o m pc lv (va_rf v :: .int i :: va_rf r :: st) := by
  cases v with
  | none =>
    obtain ⟨a, -, -, -, -, -, hok, -⟩ := sR_spec ha
    exact absurd hok (by simp [okR])
  | some q =>
    obtain ⟨a, rfl, hk, hin, hlt, hz, hok, rfl⟩ := sR_spec ha
    refine ⟨(Ext.putR m a _).tr kk.1, fun p e s mi args below meth c R X H locs cells slots ls h1 h2 h3 h4 h5 => ?_⟩
    have hza : Γ.z ≤ a := by rw [← h1.2.1]; exact hz
    obtain ⟨cell, w1, w2, w3, w4, w5, w6⟩ := h1.arrz hk (Nat.le_of_ble_eq_true rfl) hza
    have hq2 : (m.K q).1 = 50 ∧ m.b ≤ q := by simpa [okR] using hok
    have hq := hq2.1
    have hzq : Γ.z ≤ q := by rw [← h1.2.1]; exact hq2.2
    obtain ⟨cellV, v1, v2, v3, v4, v5, v6⟩ := h1.arr hq (Nat.le_of_ble_eq_true rfl)
    obtain ⟨kA, comp, k1, k2, k3, -, k4⟩ := hΓ.a 55 (Nat.le_of_ble_eq_true rfl) (Nat.le_of_ble_eq_true rfl)
    have k4 := k4 rfl
    obtain ⟨kE, kc9, -, hkE, -⟩ := hΓ.a 50 (Nat.le_of_ble_eq_true rfl) (Nat.le_of_ble_eq_true rfl)
    have hcls := (w4 hza).1
    obtain ⟨kA', hkA', he⟩ := X.hal.2.2 _ _ k2
    obtain ⟨hst, kV, hkV, compV, hkindV⟩ := State.isArrayOf_alike X.hal v2
    obtain ⟨kE', hkE', -⟩ := X.hal.2.2 _ _ hkE
    have hasg : s.vm.assignable cellV.cls comp = true := by
      rw [(v4 hzq).1, k4]
      exact ar_self _ _
    refine W.aast X.hx X.hb w1 w2.1 w3 (k := kA') (comp := comp) (t := .array .int) (kcomp := kE') (by rw [hcls]; exact hkA') (by rw [he]; exact k3) rfl (by rw [k4]; exact hkE') (by rw [w5]; exact ⟨fun q => hin (Or.inl q), hlt⟩) v1 hst (kv := kV) hkV hasg rfl rfl d fun H1 g1 g2 g3 => ?_
    exact kk.2 p e s mi args below meth c R X H1 _ cells slots ls (aast_rep (v := some q) (Or.inr rfl) h1 hk hlt hza w1 g1 g2 g3) (locs_put h2 hza) h3 h4 h5
end GS
