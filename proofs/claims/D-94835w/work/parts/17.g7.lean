/-! ROWS OF G: what is made -/
set_option maxRecDepth 100000
theorem Rep.new {Γ : GG} {m : MM} {H : Heap} {kd len sl : Nat} {cell : Cell} (h : Rep Γ m H) (hz : Γ.z ≤ m.n) (hO : ∀ ci, kd = ci + 1 → ci < 49 → watO Γ (m.new kd len sl) (H.push cell) m.n ci) (hA : 50 ≤ kd → watA Γ (m.new kd len sl) (H.push cell) m.n kd len) : Rep Γ (m.new kd len sl) (H.push cell) := by
  obtain ⟨h1, h2, h3, h4, h5⟩ := h
  have hp : ∀ q, q < H.size → (H.push cell)[q]? = H[q]? := fun q hq => by rw [Array.getElem?_push_lt hq, Array.getElem?_eq_getElem hq]
  refine ⟨by rw [Array.size_push, h1]; rfl, h2, h3, fun q hq => by rw [hp q (by omega)]; exact h4 q hq, fun q => ?_⟩
  rw [new_K]
  by_cases hq : q = m.n
  · subst hq
    rw [up_s]
    exact ⟨hO, hA⟩
  · rw [up_n hq]
    have hv : ∀ tc k, gv (m.new kd len sl) tc q k = gv m tc q k := gv_put (m1 := m.new kd len sl) (m := m) (q := q) (up_n hq) (up_n hq) (up_n hq)
    refine ⟨fun ci c1 c2 => ?_, fun c1 => ?_⟩
    · have hl := K_lt (m := m) (a := q) (by omega)
      exact ((h5 q).1 ci c1 c2).keep (hp q (by omega)) hv
    · have hl := K_lt (m := m) (a := q) (by omega)
      exact ((h5 q).2 c1).keep (hp q (by omega)) hv
theorem gv_new0 {m : MM} {kd len sl k : Nat} : gv (m.new kd len sl) 0 m.n k = .int 0 := by show Value.int (up m.I m.n _ m.n k) = _; rw [up_s]
theorem gv_new1 {m : MM} {kd len sl k : Nat} : gv (m.new kd len sl) 1 m.n k = .long 0 := by show Value.long (up m.L m.n _ m.n k) = _; rw [up_s]
theorem gv_new2 {m : MM} {kd len sl k : Nat} : gv (m.new kd len sl) 2 m.n k = .null := by show va_rf (up m.R m.n _ m.n k) = _; rw [up_s]; rfl
section GN
variable {Γ : GG} {κ κ2 : KM} {cc c2 : ByteArray} {m0 mF : MM} {o : GO} {m m1 : MM} {pc : Nat} {lv : List (Option Value)} {st : List Value}
theorem g_zn {p : Program} {e : Env} {s : State} {mi : MethodId} {args : Array Value} {below : List Frame} {meth : Method} {c : Code} {R : Room} (X : OkM Γ κ cc m0 mF p e s mi args below meth c R) {cells : Nat} (h3 : cells + m0.n = m.n) : Γ.z ≤ m.n := by
  have h6 := X.hn0
  have h7 := X.hz
  omega
theorem g_roomN {p : Program} {e : Env} {s : State} {mi : MethodId} {args : Array Value} {below : List Frame} {meth : Method} {c : Code} {R : Room} (X : OkM Γ κ cc m0 mF p e s mi args below meth c R) {cells slots a b : Nat} (h3 : cells + m0.n = m.n) (h4 : slots + m0.s = m.s) (ha : m.n + a ≤ mF.n) (hb : m.s + b ≤ mF.s) : cells + a ≤ R.cells ∧ slots + b ≤ R.slots := by
  have a1 := X.hce
  have a2 := X.hsl
  omega
theorem nA_spec {m m1 : MM} {t : Nat} {n : Int32} (h : nA m t n = some m1) : ¬ n < 0 ∧ n.toNatClampNeg ≤ 100000 ∧ m1 = m.new t n.toNatClampNeg n.toNatClampNeg := by
  simp only [nA] at h
  split at h
  · rename_i c
    cases h
    exact ⟨Int32.not_lt.mpr c.1, c.2, rfl⟩
  · cases h
theorem arr_wat {m : MM} {H : Heap} {t n sl : Nat} {cA : ClassId} {kA : Class} {comp : ClassId} {s : State} {dv : Value} (hal : Γ.s0.vm.Alike s.vm) (hKA : gKA Γ) (hH : H.size = m.n) (h1 : 50 ≤ t) (h2 : t ≤ 55) (hf : s.vm.findClass ("[" ++ (gat t).toString) = some cA) (hdv : ∀ k, gv (m.new t n sl) (gtt t) m.n k = dv) : watA Γ (m.new t n sl) (H.push { cls := cA, slots := Array.replicate n dv, vm := .none }) m.n t n := by
  obtain ⟨kA', comp', g1, g2, g3, -⟩ := hKA t h1 h2
  rw [hal.findClass] at hf
  cases hf.symm.trans g1
  refine ⟨_, by rw [← hH]; exact Array.getElem?_push_size, ⟨(fun k e => by cases e), kA', g2, comp', g3⟩, (fun e => by cases e), (fun _ => ⟨rfl, rfl⟩), wsz.of (by simp), fun j hj => ?_⟩
  rw [hdv]
  simp [hj]
theorem g_newa {t : Nat} {at_ : ArrayType} {n : Int32} (hKA : gKA Γ) (ht : t = 50 ∧ at_ = .int ∨ t = 51 ∧ at_ = .byte ∨ t = 52 ∧ at_ = .boolean ∨ t = 53 ∧ at_ = .long) (q : Cond.arrayClass (gat t) ∈ lw_all) (ha : nA m t n = some m1) (d : decode cc pc = .ok (.newarray at_, 2)) (kk : G Γ κ cc m0 mF o m1 (pc + 2) lv (va_rf (some m.n) :: st)) : G Γ κ cc m0 mF o m pc lv (.int n :: st) := by
  obtain ⟨hn, hle, rfl⟩ := nA_spec ha
  refine ⟨(Ext.new _ _ _ _).tr kk.1, fun p e s mi args below meth c R X H locs cells slots ls h1 h2 h3 h4 h5 => ?_⟩
  obtain ⟨r1, r2⟩ := g_roomN X h3 h4 kk.1.1 kk.1.2.1
  have hty : newarray.typeOf at_ = gat t := by rcases ht with ⟨rfl, rfl⟩ | ⟨rfl, rfl⟩ | ⟨rfl, rfl⟩ | ⟨rfl, rfl⟩ <;> rfl
  have hbt : n.toNatClampNeg * componentBytes (newarray.typeOf at_) ≤ 536870912 := by
    have : componentBytes (newarray.typeOf at_) ≤ 8 := by rcases ht with ⟨rfl, rfl⟩ | ⟨rfl, rfl⟩ | ⟨rfl, rfl⟩ | ⟨rfl, rfl⟩ <;> decide
    calc n.toNatClampNeg * componentBytes (newarray.typeOf at_) ≤ 100000 * 8 := Nat.mul_le_mul hle this
      _ ≤ 536870912 := Nat.le_of_ble_eq_true rfl
  refine W.newa X.hx X.hb (by rw [hty]; exact X.hts _ q) rfl d rfl hn hbt r1 r2 fun cA kA comp k1 k2 k3 => ?_
  rw [h1.1]
  refine kk.2 p e s mi args below meth c R X _ locs (cells + 1) (slots + n.toNatClampNeg) ls (h1.new (g_zn X h3) (fun ci c1 c2 => by omega) (fun _ => ?_)) h2 (by show _ = m.n + 1; omega) (by show _ = m.s + _; omega) h5
  have h50 : 50 ≤ t := by omega
  have h55 : t ≤ 55 := by omega
  refine arr_wat (kA := kA) (comp := comp) X.hal hKA h1.1 h50 h55 (by rw [← hty]; exact k1) fun k => ?_
  rcases ht with ⟨rfl, rfl⟩ | ⟨rfl, rfl⟩ | ⟨rfl, rfl⟩ | ⟨rfl, rfl⟩
  · exact gv_new0
  · exact gv_new0
  · exact gv_new0
  · exact gv_new1
theorem g_anew {idx : Nat} {n : Int32} (hKA : gKA Γ) (hAO : va_AO "java/lang/Object" Γ.s0) (q : Cond.classLink κ.own idx "java/lang/Object" ∈ lw_all) (ha : nA m 54 n = some m1) (d : decode cc pc = .ok (.anewarray idx, 3)) (kk : G Γ κ cc m0 mF o m1 (pc + 3) lv (va_rf (some m.n) :: st)) : G Γ κ cc m0 mF o m pc lv (.int n :: st) := by
  obtain ⟨hn, hle, rfl⟩ := nA_spec ha
  refine ⟨(Ext.new _ _ _ _).tr kk.1, fun p e s mi args below meth c R X H locs cells slots ls h1 h2 h3 h4 h5 => ?_⟩
  obtain ⟨r1, r2⟩ := g_roomN X h3 h4 kk.1.1 kk.1.2.1
  refine W.anew X.hx X.hb X.hown (X.hts _ q) ((va_AO.moved X.hal hAO).use) rfl d rfl hn (by omega) r1 r2 fun cA kA comp k1 k2 k3 k4 => ?_
  rw [h1.1]
  refine kk.2 p e s mi args below meth c R X _ locs (cells + 1) (slots + n.toNatClampNeg) ls (h1.new (g_zn X h3) (fun ci c1 c2 => by omega) (fun _ => ?_)) h2 (by show _ = m.n + 1; omega) (by show _ = m.s + _; omega) h5
  exact arr_wat (kA := kA) (comp := comp) X.hal hKA h1.1 (Nat.le_of_ble_eq_true rfl) (Nat.le_of_ble_eq_true rfl) k1 fun k => gv_new2
def NL (own : String) (idx ci N : Nat) : Prop := ∃ (C : String) (T : u_T), gcl[ci]? = some (C, T, N) ∧ (∀ w ∈ u_ws C T N, w ∈ lw_all) ∧ Cond.classLink own idx C ∈ lw_all ∧ Cond.instantiable C N ∈ lw_all ∧ Cond.initialized C ∈ lw_all ∧ (∀ j, j < N → parseFieldDescriptor (T j).2.2.1 = some (gty ci j)) ∧ ci < 49
theorem gv_def {m : MM} {kd len sl k : Nat} (ty : FieldType) (ht : (∃ C, ty = .object C) ∨ (∃ t, ty = .array t) ∨ ty = .int ∨ ty = .long ∨ ty = .byte ∨ ty = .boolean) : gv (m.new kd len sl) (gtc ty) m.n k = defaultValue ty := by
  rcases ht with ⟨C, rfl⟩ | ⟨C, rfl⟩ | rfl | rfl | rfl | rfl
  · exact gv_new2
  · exact gv_new2
  · exact gv_new0
  · exact gv_new1
  · exact gv_new0
  · exact gv_new0
theorem g_new (hK : va_K Γ.D gcl [] Γ.s0) {idx ci N : Nat} (F : NL κ.own idx ci N) (ht : ∀ k, k < N → (∃ C, gty ci k = .object C) ∨ (∃ t, gty ci k = .array t) ∨ gty ci k = .int ∨ gty ci k = .long ∨ gty ci k = .byte ∨ gty ci k = .boolean) (d : decode cc pc = .ok (.new idx, 3)) (kk : G Γ κ cc m0 mF o (m.new (ci + 1) N N) (pc + 3) lv (va_rf (some m.n) :: st)) : G Γ κ cc m0 mF o m pc lv st := by
  refine ⟨(Ext.new _ _ _ _).tr kk.1, fun p e s mi args below meth c R X H locs cells slots ls h1 h2 h3 h4 h5 => ?_⟩
  obtain ⟨r1, r2⟩ := g_roomN X h3 h4 kk.1.1 kk.1.2.1
  obtain ⟨C, T, f1, f2, f3, f4, f5, f6, f7⟩ := F
  refine W.newc X.hx X.hb X.hown (X.hts _ f3) (X.hts _ f4) (X.hts _ f5) rfl d r1 r2 fun cC kC k1 k2 k3 k4 => ?_
  have hKn := (va_K_s X hK).1 ci _ f1
  have hcC : cC = Γ.D.1 ci := Option.some.inj (k1.symm.trans hKn.2.1)
  rw [h1.1]
  refine kk.2 p e s mi args below meth c R X _ locs (cells + 1) (slots + N) ls (h1.new (g_zn X h3) (fun c9 c1 c2 => ?_) (fun _ => by omega)) h2 (by show _ = m.n + 1; omega) (by show _ = m.s + _; omega) h5
  have : c9 = ci := by omega
  subst this
  have hcell : (H.push { cls := cC, slots := kC.instanceTypes.map defaultValue, vm := .none })[m.n]? = some (blank cC kC) := by rw [← h1.1]; exact Array.getElem?_push_size
  rw [hcC] at hcell k2
  obtain ⟨cell, w1, w2, w3, w4⟩ := u_born (o := m.n) (gty c9) X.hts f2 hKn k2 hcell f6
  refine ⟨_, cell, f1, by rw [hcC]; exact w1, w2, by rw [w3]; exact (fun e => by cases e), (fun q => by rw [w3]; exact (fun e => by cases e)), (fun _ => w3), fun k hk => ?_⟩
  rw [w4 k hk, gv_def (gty c9 k) (ht k hk)]
end GN
