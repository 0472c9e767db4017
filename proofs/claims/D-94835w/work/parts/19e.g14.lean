/-! ROWS OF G: arrays of arrays -/
set_option maxRecDepth 100000
theorem outerC_slot (c : ClassId) (N h0 : Nat) : ∀ (i : Nat), i ≤ N → ∀ j, j < N → (Jvm.Free.Multi.outerC c N h0 i).slots[j]? = some (if j < i then .ref (h0 + 1 + j) else .null)
  | 0, _, j, hj => by
    rw [if_neg (Nat.not_lt_zero j)]
    simp [Jvm.Free.Multi.outerC, hj]
  | i + 1, hi, j, hj => by
    have ih := outerC_slot c N h0 i (by omega) j hj
    have hs := (Jvm.Free.Multi.outerC_facts c N h0 i).2.2
    show ((Jvm.Free.Multi.outerC c N h0 i).slots.setIfInBounds i (.ref (h0 + 1 + i)))[j]? = _
    by_cases h : j = i
    · subst h
      rw [if_pos (by omega)]
      simp [Array.getElem?_setIfInBounds, hs, hj]
    · rw [Array.getElem?_setIfInBounds_ne (Ne.symm h), ih]
      by_cases h2 : j < i
      · rw [if_pos h2, if_pos (by omega)]
      · rw [if_neg h2, if_neg (by omega)]
theorem ao_use {ty : FieldType} {U : State} {A : Array Value} (h : (Cond.arrayOver ty).before #[] U = true) : (Cond.arrayOver ty).before A U = true := h
section GQ2
variable {Γ : GG} {κ κ2 : KM} {cc c2 : ByteArray} {m0 mF : MM} {o : GO} {m m1 : MM} {pc : Nat} {lv : List (Option Value)} {st : List Value}
theorem nM_spec {m m1 : MM} {n k : Int32} (h : nM m n k = some m1) : ¬ n < 0 ∧ ¬ k < 0 ∧ n.toNatClampNeg ≤ 1000 ∧ k.toNatClampNeg ≤ 1000 ∧ m1 = nMg m n.toNatClampNeg k.toNatClampNeg := by
  simp only [nM] at h
  split at h
  · rename_i c
    cases h
    exact ⟨Int32.not_lt.mpr c.1, Int32.not_lt.mpr c.2.1, c.2.2.1, c.2.2.2, rfl⟩
  · cases h
theorem nM_ext {m m1 : MM} {n k : Int32} (h : nM m n k = some m1) : Ext m m1 := by
  obtain ⟨-, -, -, -, rfl⟩ := nM_spec h
  exact Ext.nMg _ _ _
theorem Rep.multi {H1 : Heap} {H : Heap} {N k : Nat} {cA cI : ClassId} {s : State} (hKA : gKA Γ) (h : Rep Γ m H) (hz : Γ.z ≤ m.n) (hal : Γ.s0.vm.Alike s.vm) (f1 : s.vm.findClass ("[" ++ (gat 55).toString) = some cA) (f2 : s.vm.findClass ("[" ++ (gat 50).toString) = some cI)
    (z : H1.size = H.size + 1 + N) (ho : H1[H.size]? = some (Jvm.Free.Multi.outerC cA N H.size N)) (hold : ∀ a, a < H.size → H1[a]? = H[a]?) (hin : ∀ j, j < N → H1[H.size + 1 + j]? = some (Jvm.Free.Multi.innerC cI k (.int 0))) : Rep Γ (nMg m N k) H1 := by
  obtain ⟨h1, h2, h3, h4, h5⟩ := h
  obtain ⟨kA, comp, g1, g2, g3, -⟩ := hKA 55 (Nat.le_of_ble_eq_true rfl) (Nat.le_of_ble_eq_true rfl)
  obtain ⟨kB, comp2, b1, b2, b3, -⟩ := hKA 50 (Nat.le_of_ble_eq_true rfl) (Nat.le_of_ble_eq_true rfl)
  rw [hal.findClass] at f1 f2
  cases f1.symm.trans g1
  cases f2.symm.trans b1
  refine ⟨by rw [z, h1]; rfl, h2, h3, fun q hq => by rw [hold q (by omega)]; exact h4 q hq, fun q => ?_⟩
  rw [nMg_K]
  show (∀ ci, (if q = m.n then (55, N) else if m.n ≤ q ∧ q < m.n + 1 + N then (50, k) else m.K q).1 = ci + 1 → ci < 49 → _) ∧ (50 ≤ (if q = m.n then (55, N) else if m.n ≤ q ∧ q < m.n + 1 + N then (50, k) else m.K q).1 → watA Γ (nMg m N k) H1 q (if q = m.n then (55, N) else if m.n ≤ q ∧ q < m.n + 1 + N then (50, k) else m.K q).1 (if q = m.n then (55, N) else if m.n ≤ q ∧ q < m.n + 1 + N then (50, k) else m.K q).2)
  by_cases q1 : q = m.n
  · simp only [if_pos q1]
    subst q1
    refine ⟨fun ci c1 c2 => by omega, fun _ => ?_⟩
    obtain ⟨o1, o2, o3⟩ := Jvm.Free.Multi.outerC_facts (Γ.ca 55) N H.size N
    refine ⟨_, by rw [← h1]; exact ho, ⟨(fun kk e => by rw [o2] at e; cases e), kA, (by rw [o1]; exact g2), comp, g3⟩, (fun e => by rw [o2] at e; cases e), (fun _ => ⟨o1, o2⟩), wsz.of o3, fun j hj => ?_⟩
    rw [outerC_slot _ _ _ N (Nat.le_refl _) j hj, if_pos hj]
    show _ = some (va_rf ((if m.n = m.n then (fun j => if j < N then some (m.n + 1 + j) else none) else _ : Nat → Option Nat) j))
    rw [if_pos rfl]
    show _ = some (va_rf (if j < N then some (m.n + 1 + j) else none))
    rw [if_pos hj, h1]
    rfl
  · simp only [if_neg q1]
    by_cases q2 : m.n ≤ q ∧ q < m.n + 1 + N
    · simp only [if_pos q2]
      refine ⟨fun ci c1 c2 => by omega, fun _ => ?_⟩
      have hj := hin (q - (m.n + 1)) (by omega)
      rw [show H.size + 1 + (q - (m.n + 1)) = q by omega] at hj
      refine ⟨_, hj, ⟨(fun kk e => by cases e), kB, b2, comp2, b3⟩, (fun e => by cases e), (fun _ => ⟨rfl, rfl⟩), wsz.of (by simp [Jvm.Free.Multi.innerC]), fun j hj2 => ?_⟩
      show (Array.replicate k (Value.int 0))[j]? = some (Value.int ((if m.n ≤ q ∧ q < m.n + 1 + N then fun _ => 0 else m.I q : Nat → Int32) j))
      rw [if_pos q2]
      simp [hj2]
    · simp only [if_neg q2]
      have hv : ∀ tc j, gv (nMg m N k) tc q j = gv m tc q j := by
        refine gv_put (m1 := nMg m N k) (m := m) (q := q) ?_ ?_ ?_
        · show (if m.n ≤ q ∧ q < m.n + 1 + N then fun _ => 0 else m.I q) = _; rw [if_neg q2]
        · show (if m.n ≤ q ∧ q < m.n + 1 + N then fun _ => 0 else m.L q) = _; rw [if_neg q2]
        · show (if q = m.n then _ else if m.n ≤ q ∧ q < m.n + 1 + N then fun _ => none else m.R q) = _; rw [if_neg q1, if_neg q2]
      refine ⟨fun ci c1 c2 => ?_, fun c1 => ?_⟩
      · have hl := K_lt (m := m) (a := q) (by omega)
        exact ((h5 q).1 ci c1 c2).keep (hold q (by omega)) hv
      · have hl := K_lt (m := m) (a := q) (by omega)
        exact ((h5 q).2 c1).keep (hold q (by omega)) hv
theorem g_multi {idx : Nat} {n k : Int32} (hΓ : GF Γ) (q1 : Cond.classLink κ.own idx "[[I" ∈ lw_all) (q2 : Cond.arrayClass .int ∈ lw_all) (ha : nM m n k = some m1) (d : decode cc pc = .ok (.multianewarray idx 2, 4)) (kk : G Γ κ cc m0 mF o m1 (pc + 4) lv (va_rf (some m.n) :: st)) : G Γ κ cc m0 mF o m pc lv (.int k :: .int n :: st) := by
  have hE := nM_ext ha
  obtain ⟨hn, hk, hle, hle2, rfl⟩ := nM_spec ha
  refine ⟨hE.tr kk.1, fun p e s mi args below meth c R X H locs cells slots ls h1 h2 h3 h4 h5 => ?_⟩
  have hx1 : m.n + (1 + n.toNatClampNeg) ≤ mF.n := by have := kk.1.1; have h9 : (nMg m n.toNatClampNeg k.toNatClampNeg).n = m.n + 1 + n.toNatClampNeg := rfl; omega
  have hx2 : m.s + (n.toNatClampNeg + n.toNatClampNeg * k.toNatClampNeg) ≤ mF.s := by have := kk.1.2.1; have h9 : (nMg m n.toNatClampNeg k.toNatClampNeg).s = m.s + (n.toNatClampNeg + n.toNatClampNeg * k.toNatClampNeg) := rfl; omega
  obtain ⟨r1, r2⟩ := g_roomN X h3 h4 hx1 hx2
  intro T hT Y
  obtain ⟨vm₁, cA, comp, hW, f1, f2, -, -, Y', stp⟩ := Y.multianewarray2F (ty := .int) X.hx X.hown (X.hts _ q1) (ao_use (hΓ.nw (w := .arrayOver (.array .int)) X.hw (by decide))) (X.hts _ q2) (g := F0 mi pc ls (.int k :: .int n :: st)) rfl (by rw [X.hb]; exact d) (rest := st) rfl hn hk (by omega) (by
    have : componentBytes .int ≤ 8 := by decide
    calc k.toNatClampNeg * componentBytes .int ≤ 1000 * 8 := Nat.mul_le_mul hle2 this
      _ ≤ 536870912 := Nat.le_of_ble_eq_true rfl) (by omega) rfl rfl r1 r2
  obtain ⟨F1, F2, F3, F4⟩ := Jvm.Free.Multi.fill_facts (T.setVm vm₁) cA comp n.toNatClampNeg k.toNatClampNeg (.int 0) n.toNatClampNeg
  have hTh : (T.setVm vm₁).heap = H := hT
  rw [hTh] at F1 F2
  have hRep := Rep.multi (H1 := (Jvm.Free.Multi.fill (T.setVm vm₁) cA comp n.toNatClampNeg k.toNatClampNeg (.int 0) n.toNatClampNeg).heap) (N := n.toNatClampNeg) (k := k.toNatClampNeg) hΓ.a h1 (g_zn X h3) X.hal f1 f2 F1 F2 (fun a ha => by rw [Jvm.Free.Multi.fill_old (T.setVm vm₁) cA comp _ _ _ (by rw [hTh]; exact ha), hTh]) (fun j hj => by
    have := Jvm.Free.Multi.fill_inner (T.setVm vm₁) cA comp n.toNatClampNeg k.toNatClampNeg (.int 0) n.toNatClampNeg j hj
    rw [hTh] at this
    exact this)
  obtain ⟨t, b1, b2⟩ := kk.2 p e s mi args below meth c R X _ locs (cells + 1 + n.toNatClampNeg) (slots + n.toNatClampNeg + n.toNatClampNeg * k.toNatClampNeg) ls hRep h2 (by show _ = m.n + 1 + _; omega) (by show _ = m.s + (_ + _); omega) h5 _ rfl Y'
  refine ⟨t, stp t ?_, b2⟩
  rw [hT, h1.1]
  exact b1
end GQ2
