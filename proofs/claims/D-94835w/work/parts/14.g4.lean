/-! ROWS OF G: arrays -/
set_option maxRecDepth 100000
section GA
variable {Γ : GG} {κ : KM} {cc : ByteArray} {m0 mF : MM} {o : GO} {m : MM} {pc : Nat} {lv : List (Option Value)} {st : List Value}
theorem aI_spec {m : MM} {t : Nat} {r : Option Nat} {i v : Int32} (h : aI m t r i = some v) : ∃ a, r = some a ∧ (m.K a).1 = t ∧ ¬ (i < 0 ∨ (m.K a).2 ≤ i.toNatClampNeg) ∧ i.toNatClampNeg < (m.K a).2 ∧ v = m.I a i.toNatClampNeg := by
  cases r with
  | none => cases h
  | some a =>
    simp only [aI] at h
    split at h
    · rename_i c
      cases h
      refine ⟨a, rfl, c.1, fun q => ?_, c.2.2, rfl⟩
      rcases q with q | q
      · exact absurd q (Int32.not_lt.mpr c.2.1)
      · omega
    · cases h
theorem aL_spec {m : MM} {r : Option Nat} {i : Int32} {v : Int64} (h : aL m r i = some v) : ∃ a, r = some a ∧ (m.K a).1 = 53 ∧ ¬ (i < 0 ∨ (m.K a).2 ≤ i.toNatClampNeg) ∧ i.toNatClampNeg < (m.K a).2 ∧ v = m.L a i.toNatClampNeg := by
  cases r with
  | none => cases h
  | some a =>
    simp only [aL] at h
    split at h
    · rename_i c
      cases h
      refine ⟨a, rfl, c.1, fun q => ?_, c.2.2, rfl⟩
      rcases q with q | q
      · exact absurd q (Int32.not_lt.mpr c.2.1)
      · omega
    · cases h
theorem aR_spec {m : MM} {t : Nat} {r : Option Nat} {i : Int32} {v : Option Nat} (h : aR m t r i = some v) : ∃ a, r = some a ∧ (m.K a).1 = t ∧ ¬ (i < 0 ∨ (m.K a).2 ≤ i.toNatClampNeg) ∧ i.toNatClampNeg < (m.K a).2 ∧ v = m.R a i.toNatClampNeg := by
  cases r with
  | none => cases h
  | some a =>
    simp only [aR] at h
    split at h
    · rename_i c
      cases h
      refine ⟨a, rfl, c.1, fun q => ?_, c.2.2, rfl⟩
      rcases q with q | q
      · exact absurd q (Int32.not_lt.mpr c.2.1)
      · omega
    · cases h
theorem Rep.arr {m : MM} {H : Heap} (h : Rep Γ m H) {a t : Nat} (ht : (m.K a).1 = t) (h50 : 50 ≤ t) : watA Γ m H a t (m.K a).2 := by
  have := (h.2.2.2.2 a).2 (by omega)
  rw [ht] at this
  exact this
theorem Rep.arrz {m : MM} {H : Heap} (h : Rep Γ m H) {a t : Nat} (ht : (m.K a).1 = t) (h50 : 50 ≤ t) (hz : Γ.z ≤ a) : ∃ cell : Cell, H[a]? = some cell ∧ Γ.s0.isArrayOf cell (gat t) ∧ cell.vm ≠ .unknown ∧ (Γ.z ≤ a → cell.cls = Γ.ca t ∧ cell.vm = .none) ∧ cell.slots.size = (m.K a).2 ∧ ∀ j, j < (m.K a).2 → cell.slots[j]? = some (gv m (gtt t) a j) := by
  obtain ⟨cell, w1, w2, w3, w4, w5, w6⟩ := h.arr ht h50
  exact ⟨cell, w1, w2, w3, w4, w5.2.2 hz, w6⟩
theorem g_iald {r : Option Nat} {i v : Int32} (ha : aI m 50 r i = some v) (d : decode cc pc = .ok (.iaload, 1)) (kk : G Γ κ cc m0 mF o m (pc + 1) lv (.int v :: st)) : G Γ κ cc m0 mF o m pc lv (.int i :: va_rf r :: st) := by
  refine ⟨kk.1, fun p e s mi args below meth c R X H locs cells slots ls h1 h2 h3 h4 h5 => ?_⟩
  obtain ⟨a, rfl, hk, hin, hlt, rfl⟩ := aI_spec ha
  obtain ⟨cell, w1, w2, w3, w4, w5, w6⟩ := h1.arr hk (Nat.le_of_ble_eq_true rfl)
  exact W.iald X.hx X.hb w1 (State.isArrayOf_alike X.hal w2) w3 (w5.inn hin) (w6 _ hlt) rfl rfl d (kk.2 p e s mi args below meth c R X H locs cells slots ls h1 h2 h3 h4 h5)
theorem g_bald {r : Option Nat} {i v : Int32} (ha : aI m 51 r i = some v) (d : decode cc pc = .ok (.baload, 1)) (kk : G Γ κ cc m0 mF o m (pc + 1) lv (.int v :: st)) : G Γ κ cc m0 mF o m pc lv (.int i :: va_rf r :: st) := by
  refine ⟨kk.1, fun p e s mi args below meth c R X H locs cells slots ls h1 h2 h3 h4 h5 => ?_⟩
  obtain ⟨a, rfl, hk, hin, hlt, rfl⟩ := aI_spec ha
  obtain ⟨cell, w1, w2, w3, w4, w5, w6⟩ := h1.arr hk (Nat.le_of_ble_eq_true rfl)
  exact W.bald X.hx X.hb w1 (State.isArrayOf_alike X.hal w2) w3 (w5.inn hin) (w6 _ hlt) rfl rfl d (kk.2 p e s mi args below meth c R X H locs cells slots ls h1 h2 h3 h4 h5)
theorem g_zald {r : Option Nat} {i v : Int32} (ha : aI m 52 r i = some v) (d : decode cc pc = .ok (.baload, 1)) (kk : G Γ κ cc m0 mF o m (pc + 1) lv (.int v :: st)) : G Γ κ cc m0 mF o m pc lv (.int i :: va_rf r :: st) := by
  refine ⟨kk.1, fun p e s mi args below meth c R X H locs cells slots ls h1 h2 h3 h4 h5 => ?_⟩
  obtain ⟨a, rfl, hk, hin, hlt, rfl⟩ := aI_spec ha
  obtain ⟨cell, w1, w2, w3, w4, w5, w6⟩ := h1.arr hk (Nat.le_of_ble_eq_true rfl)
  exact W.zald X.hx X.hb w1 (State.isArrayOf_alike X.hal w2) w3 (w5.inn hin) (w6 _ hlt) rfl rfl d (kk.2 p e s mi args below meth c R X H locs cells slots ls h1 h2 h3 h4 h5)
theorem g_lald {r : Option Nat} {i : Int32} {v : Int64} (ha : aL m r i = some v) (d : decode cc pc = .ok (.laload, 1)) (kk : G Γ κ cc m0 mF o m (pc + 1) lv (.long v :: st)) : G Γ κ cc m0 mF o m pc lv (.int i :: va_rf r :: st) := by
  refine ⟨kk.1, fun p e s mi args below meth c R X H locs cells slots ls h1 h2 h3 h4 h5 => ?_⟩
  obtain ⟨a, rfl, hk, hin, hlt, rfl⟩ := aL_spec ha
  obtain ⟨cell, w1, w2, w3, w4, w5, w6⟩ := h1.arr hk (Nat.le_of_ble_eq_true rfl)
  exact W.lald X.hx X.hb w1 (State.isArrayOf_alike X.hal w2) w3 (w5.inn hin) (w6 _ hlt) rfl rfl d (kk.2 p e s mi args below meth c R X H locs cells slots ls h1 h2 h3 h4 h5)
theorem g_aald {t : Nat} {r v : Option Nat} {i : Int32} (ht : t = 54 ∨ t = 55) (ha : aR m t r i = some v) (d : decode cc pc = .ok (.aaload, 1)) (kk : G Γ κ cc m0 mF o m (pc + 1) lv (va_rf v :: st)) : G Γ κ cc m0 mF o m pc lv (.int i :: va_rf r :: st) := by
  refine ⟨kk.1, fun p e s mi args below meth c R X H locs cells slots ls h1 h2 h3 h4 h5 => ?_⟩
  obtain ⟨a, rfl, hk, hin, hlt, rfl⟩ := aR_spec ha
  obtain ⟨cell, w1, w2, w3, w4, w5, w6⟩ := h1.arr hk (by omega)
  have w7 := w6 _ hlt
  have ge : gv m (gtt t) a i.toNatClampNeg = va_rf (m.R a i.toNatClampNeg) := by rcases ht with rfl | rfl <;> rfl
  rw [ge] at w7
  refine W.aald X.hx X.hb w1 (State.isArrayOf_alike X.hal w2) ?_ w3 (w5.inn hin) w7 rfl rfl d (kk.2 p e s mi args below meth c R X H locs cells slots ls h1 h2 h3 h4 h5)
  rcases ht with rfl | rfl <;> rfl
theorem g_alen {t : Nat} {r : Option Nat} {v : Int32} (h50 : 50 ≤ t) (ha : aN m t r = some v) (d : decode cc pc = .ok (.arraylength, 1)) (kk : G Γ κ cc m0 mF o m (pc + 1) lv (.int v :: st)) : G Γ κ cc m0 mF o m pc lv (va_rf r :: st) := by
  refine ⟨kk.1, fun p e s mi args below meth c R X H locs cells slots ls h1 h2 h3 h4 h5 => ?_⟩
  cases r with
  | none => cases ha
  | some a =>
    simp only [aN] at ha
    split at ha
    · rename_i hk
      cases ha
      obtain ⟨cell, w1, w2, w3, w4, w5, w6⟩ := h1.arr hk h50
      exact W.alen X.hx X.hb w1 (State.isArrayOf_alike X.hal w2) (w5.2.1) rfl rfl d (kk.2 p e s mi args below meth c R X H locs cells slots ls h1 h2 h3 h4 h5)
    · cases ha
theorem Rep.sto {m m1 : MM} {H H1 : Heap} {a t j : Nat} {v : Value} {cell : Cell} (h : Rep Γ m H) (hk : (m.K a).1 = t) (h50 : 50 ≤ t) (hj : j < (m.K a).2) (hz : Γ.z ≤ a) (e1 : m1.n = m.n) (e2 : m1.b = m.b) (e3 : m1.c = m.c) (e4 : m1.K = m.K) (hv : ∀ q, q ≠ a → ∀ tc k, gv m1 tc q k = gv m tc q k) (hw : ∀ i, i ≠ j → gv m1 (gtt t) a i = gv m (gtt t) a i) (hwj : gv m1 (gtt t) a j = v) (hc : H[a]? = some cell) (g1 : H1[a]? = some (cell.setSlot j v)) (g2 : H1.size = H.size) (g3 : ∀ q, q ≠ a → H1[q]? = H[q]?) : Rep Γ m1 H1 := by
  refine h.at e1 e2 e3 e4 hz g2 g3 hv (fun ci k1 k2 => by omega) (fun _ => ?_)
  obtain ⟨cell', w1, w2, w3, w4, w5, w6⟩ := h.arrz hk h50 hz
  cases hc.symm.trans w1
  rw [hk]
  refine ⟨_, g1, w2, w3, w4, wsz.of (by rw [k2_slotsz]; exact w5), fun i hi => ?_⟩
  by_cases hij : i = j
  · subst hij
    rw [hwj]
    show (cell.slots.setIfInBounds i v)[i]? = some v
    simp [Array.getElem?_setIfInBounds, w5, hi]
  · rw [hw i hij]
    show (cell.slots.setIfInBounds j v)[i]? = _
    rw [Array.getElem?_setIfInBounds_ne (Ne.symm hij)]
    exact w6 i hi
theorem sI_spec {m m1 : MM} {t : Nat} {r : Option Nat} {i v : Int32} (h : sI m t r i v = some m1) : ∃ a, r = some a ∧ (m.K a).1 = t ∧ ¬ (i < 0 ∨ (m.K a).2 ≤ i.toNatClampNeg) ∧ i.toNatClampNeg < (m.K a).2 ∧ m.b ≤ a ∧ m1 = m.putI a (up (m.I a) i.toNatClampNeg (narT t v)) := by
  cases r with
  | none => cases h
  | some a =>
    simp only [sI] at h
    split at h
    · rename_i c
      cases h
      refine ⟨a, rfl, c.1, fun q => ?_, c.2.2.1, c.2.2.2, rfl⟩
      rcases q with q | q
      · exact absurd q (Int32.not_lt.mpr c.2.1)
      · omega
    · cases h
theorem sL_spec {m m1 : MM} {r : Option Nat} {i : Int32} {v : Int64} (h : sL m r i v = some m1) : ∃ a, r = some a ∧ (m.K a).1 = 53 ∧ ¬ (i < 0 ∨ (m.K a).2 ≤ i.toNatClampNeg) ∧ i.toNatClampNeg < (m.K a).2 ∧ m.b ≤ a ∧ m1 = m.putL a (up (m.L a) i.toNatClampNeg v) := by
  cases r with
  | none => cases h
  | some a =>
    simp only [sL] at h
    split at h
    · rename_i c
      cases h
      refine ⟨a, rfl, c.1, fun q => ?_, c.2.2.1, c.2.2.2, rfl⟩
      rcases q with q | q
      · exact absurd q (Int32.not_lt.mpr c.2.1)
      · omega
    · cases h
theorem sR_spec {m m1 : MM} {t : Nat} {r v : Option Nat} {i : Int32} (h : sR m t r i v = some m1) : ∃ a, r = some a ∧ (m.K a).1 = t ∧ ¬ (i < 0 ∨ (m.K a).2 ≤ i.toNatClampNeg) ∧ i.toNatClampNeg < (m.K a).2 ∧ m.b ≤ a ∧ okR m t v = true ∧ m1 = m.putR a (up (m.R a) i.toNatClampNeg v) := by
  cases r with
  | none => cases h
  | some a =>
    simp only [sR] at h
    split at h
    · rename_i c
      cases h
      refine ⟨a, rfl, c.1, fun q => ?_, c.2.2.1, c.2.2.2.1, c.2.2.2.2, rfl⟩
      rcases q with q | q
      · exact absurd q (Int32.not_lt.mpr c.2.1)
      · omega
    · cases h
theorem Ext.putI (m : MM) (a : Nat) (f : Nat → Int32) : Ext m (m.putI a f) := ⟨Nat.le_refl _, Nat.le_refl _, rfl, rfl, fun _ _ => rfl⟩
theorem Ext.putL (m : MM) (a : Nat) (f : Nat → Int64) : Ext m (m.putL a f) := ⟨Nat.le_refl _, Nat.le_refl _, rfl, rfl, fun _ _ => rfl⟩
theorem Ext.putR (m : MM) (a : Nat) (f : Nat → Option Nat) : Ext m (m.putR a f) := ⟨Nat.le_refl _, Nat.le_refl _, rfl, rfl, fun _ _ => rfl⟩
theorem locs_put {z : Nat} {locs : List Loc} {a k : Nat} (h : ∀ q ∈ locs, z ≤ q.base) (ha : z ≤ a) : ∀ q ∈ locs ++ [(⟨a, k⟩ : Loc)], z ≤ q.base := by
  intro q hq
  rcases List.mem_append.mp hq with h1 | h1
  · exact h q h1
  · rw [List.mem_singleton.mp h1]; exact ha
theorem g_iast {r : Option Nat} {i v : Int32} {m1 : MM} (ha : sI m 50 r i v = some m1) (d : decode cc pc = .ok (.iastore, 1)) (kk : G Γ κ cc m0 mF o m1 (pc + 1) lv st) : G Γ κ cc m0 mF o m pc lv (.int v :: .int i :: va_rf r :: st) := by
  obtain ⟨a, rfl, hk, hin, hlt, hz, rfl⟩ := sI_spec ha
  refine ⟨(Ext.putI m a _).tr kk.1, fun p e s mi args below meth c R X H locs cells slots ls h1 h2 h3 h4 h5 => ?_⟩
  have hza : Γ.z ≤ a := by rw [← h1.2.1]; exact hz
  obtain ⟨cell, w1, w2, w3, w4, w5, w6⟩ := h1.arrz hk (Nat.le_of_ble_eq_true rfl) hza
  refine W.iast X.hx X.hb w1 (State.isArrayOf_alike X.hal w2) w3 (by rw [w5]; exact hin) rfl rfl d fun H1 g1 g2 g3 => ?_
  exact kk.2 p e s mi args below meth c R X H1 _ cells slots ls (h1.sto (m1 := m.putI a _) (v := .int v) hk (Nat.le_of_ble_eq_true rfl) hlt hza rfl rfl rfl rfl (fun q hq tc k => gv_putI hq tc k) (fun j hj => by show Value.int (up m.I a _ a j) = Value.int _; rw [up_s, up_n hj]) (by show Value.int (up m.I a _ a _) = _; rw [up_s, up_s]; rfl) w1 g1 g2 g3) (locs_put h2 hza) h3 h4 h5
theorem g_bast {r : Option Nat} {i v : Int32} {m1 : MM} (ha : sI m 51 r i v = some m1) (d : decode cc pc = .ok (.bastore, 1)) (kk : G Γ κ cc m0 mF o m1 (pc + 1) lv st) : G Γ κ cc m0 mF o m pc lv (.int v :: .int i :: va_rf r :: st) := by
  obtain ⟨a, rfl, hk, hin, hlt, hz, rfl⟩ := sI_spec ha
  refine ⟨(Ext.putI m a _).tr kk.1, fun p e s mi args below meth c R X H locs cells slots ls h1 h2 h3 h4 h5 => ?_⟩
  have hza : Γ.z ≤ a := by rw [← h1.2.1]; exact hz
  obtain ⟨cell, w1, w2, w3, w4, w5, w6⟩ := h1.arrz hk (Nat.le_of_ble_eq_true rfl) hza
  refine W.bast X.hx X.hb w1 (State.isArrayOf_alike X.hal w2) w3 (by rw [w5]; exact hin) rfl rfl d fun H1 g1 g2 g3 => ?_
  exact kk.2 p e s mi args below meth c R X H1 _ cells slots ls (h1.sto (m1 := m.putI a _) (v := .int v.toInt8.toInt32) hk (Nat.le_of_ble_eq_true rfl) hlt hza rfl rfl rfl rfl (fun q hq tc k => gv_putI hq tc k) (fun j hj => by show Value.int (up m.I a _ a j) = Value.int _; rw [up_s, up_n hj]) (by show Value.int (up m.I a _ a _) = _; rw [up_s, up_s]; rfl) w1 g1 g2 g3) (locs_put h2 hza) h3 h4 h5
theorem g_zast {r : Option Nat} {i v : Int32} {m1 : MM} (ha : sI m 52 r i v = some m1) (d : decode cc pc = .ok (.bastore, 1)) (kk : G Γ κ cc m0 mF o m1 (pc + 1) lv st) : G Γ κ cc m0 mF o m pc lv (.int v :: .int i :: va_rf r :: st) := by
  obtain ⟨a, rfl, hk, hin, hlt, hz, rfl⟩ := sI_spec ha
  refine ⟨(Ext.putI m a _).tr kk.1, fun p e s mi args below meth c R X H locs cells slots ls h1 h2 h3 h4 h5 => ?_⟩
  have hza : Γ.z ≤ a := by rw [← h1.2.1]; exact hz
  obtain ⟨cell, w1, w2, w3, w4, w5, w6⟩ := h1.arrz hk (Nat.le_of_ble_eq_true rfl) hza
  refine W.zast X.hx X.hb w1 (State.isArrayOf_alike X.hal w2) w3 (by rw [w5]; exact hin) rfl rfl d fun H1 g1 g2 g3 => ?_
  exact kk.2 p e s mi args below meth c R X H1 _ cells slots ls (h1.sto (m1 := m.putI a _) (v := .int (v &&& 1)) hk (Nat.le_of_ble_eq_true rfl) hlt hza rfl rfl rfl rfl (fun q hq tc k => gv_putI hq tc k) (fun j hj => by show Value.int (up m.I a _ a j) = Value.int _; rw [up_s, up_n hj]) (by show Value.int (up m.I a _ a _) = _; rw [up_s, up_s]; rfl) w1 g1 g2 g3) (locs_put h2 hza) h3 h4 h5
theorem g_last {r : Option Nat} {i : Int32} {v : Int64} {m1 : MM} (ha : sL m r i v = some m1) (d : decode cc pc = .ok (.lastore, 1)) (kk : G Γ κ cc m0 mF o m1 (pc + 1) lv st) : G Γ κ cc m0 mF o m pc lv (.long v :: .int i :: va_rf r :: st) := by
  obtain ⟨a, rfl, hk, hin, hlt, hz, rfl⟩ := sL_spec ha
  refine ⟨(Ext.putL m a _).tr kk.1, fun p e s mi args below meth c R X H locs cells slots ls h1 h2 h3 h4 h5 => ?_⟩
  have hza : Γ.z ≤ a := by rw [← h1.2.1]; exact hz
  obtain ⟨cell, w1, w2, w3, w4, w5, w6⟩ := h1.arrz hk (Nat.le_of_ble_eq_true rfl) hza
  refine W.last X.hx X.hb w1 (State.isArrayOf_alike X.hal w2) w3 (by rw [w5]; exact hin) rfl rfl d fun H1 g1 g2 g3 => ?_
  exact kk.2 p e s mi args below meth c R X H1 _ cells slots ls (h1.sto (m1 := m.putL a _) (v := .long v) hk (Nat.le_of_ble_eq_true rfl) hlt hza rfl rfl rfl rfl (fun q hq tc k => gv_putL hq tc k) (fun j hj => by show Value.long (up m.L a _ a j) = Value.long _; rw [up_s, up_n hj]) (by show Value.long (up m.L a _ a _) = _; rw [up_s, up_s]) w1 g1 g2 g3) (locs_put h2 hza) h3 h4 h5
/-- every object of a known class may lie in an array of Object -/
def gAny (Γ : GG) : Prop := ∀ ci r, gcl[ci]? = some r → ∀ comp, Γ.s0.vm.findClass "java/lang/Object" = some comp → Γ.s0.vm.assignable (Γ.D.1 ci) comp = true
theorem ar_self (vm : Vm) (c : ClassId) : vm.assignable c c = true := by
  first
  | exact Vm.assignable_self vm c
  | exact assignable_self vm c
  | exact Jvm.Lib.assignable_self vm c
end GA
