/-! THE JUDGEMENT G: the machine, at a place of a method's code, with the memory m in its heap, comes to the outcome o with the memory mF. -/
set_option maxRecDepth 100000
def GG : Type := Launch × State × va_G × (Nat → ClassId) × (Nat → Option Nat)
def GG.l (Γ : GG) : Launch := Γ.1
def GG.s0 (Γ : GG) : State := Γ.2.1
def GG.D (Γ : GG) : va_G := Γ.2.2.1
def GG.ca (Γ : GG) : Nat → ClassId := Γ.2.2.2.1
def GG.c (Γ : GG) : Nat → Option Nat := Γ.2.2.2.2
abbrev GG.z (Γ : GG) : Nat := Γ.s0.heap.size
abbrev GO : Type := Option Value ⊕ Nat
/-- of a method: its name, slots of locals, answer's type, class, frames and locals' room under it -/
def KM : Type := MethodName × Nat × Option FieldType × String × Nat × Nat × List (Nat × Nat × Nat × Nat)
abbrev KM.y (κ : KM) : MethodName := κ.1
abbrev KM.nL (κ : KM) : Nat := κ.2.1
abbrev KM.ret (κ : KM) : Option FieldType := κ.2.2.1
abbrev KM.own (κ : KM) : String := κ.2.2.2.1
abbrev KM.fr (κ : KM) : Nat := κ.2.2.2.2.1
abbrev KM.lo (κ : KM) : Nat := κ.2.2.2.2.2.1
abbrev KM.hh (κ : KM) : List (Nat × Nat × Nat × Nat) := κ.2.2.2.2.2.2
def gcl : List vw_C := [(RX0, TX0, 34), (RX1, TX1, 10), (RX2, TX2, 71), (RX3, TX3, 7), (RX4, TX4, 8), (RX5, TX5, 2), (RX6, TX6, 3), (RX7, TX7, 5), (RJ2, TJ2, 3), (RJ4, TJ4, 4), (RJ5, TJ5, 4)]
def gty (ci : Nat) : Nat → FieldType := match ci with
  | 0 => tyX0
  | 1 => tyX1
  | 2 => tyX2
  | 3 => tyX3
  | 4 => tyX4
  | 5 => tyX5
  | 6 => tyX6
  | 7 => tyX7
  | 8 => tyJ2
  | 9 => tyJ4
  | _ => tyJ5
/-- 0 a whole number, 1 a long, 2 a reference -/
def gtc (ty : FieldType) : Nat := match ty with
  | .long => 1
  | .object _ => 2
  | .array _ => 2
  | _ => 0
def gat (t : Nat) : FieldType := if t = 50 then .int else if t = 51 then .byte else if t = 52 then .boolean else if t = 53 then .long else if t = 54 then .object "java/lang/Object" else .array .int
def gv (m : MM) (tc a k : Nat) : Value := match tc with
  | 0 => .int (m.I a k)
  | 1 => .long (m.L a k)
  | _ => va_rf (m.R a k)
def gtt (t : Nat) : Nat := if t = 53 then 1 else if t = 54 then 2 else if t = 55 then 2 else 0
/-- an object of class ci at a -/
def watO (Γ : GG) (m : MM) (H : Heap) (a ci : Nat) : Prop := ∃ (r : vw_C) (cell : Cell), gcl[ci]? = some r ∧ H[a]? = some cell ∧ cell.cls = Γ.D.1 ci ∧ cell.vm ≠ .unknown ∧ (∀ q, cell.vm ≠ .statics q) ∧ (Γ.z ≤ a → cell.vm = .none) ∧ ∀ k, k < r.2.2 → cell.slots[Γ.D.2 ci k]? = some (gv m (gtc (gty ci k)) a k)
/-- n places: exactly, of what the law has made; of what was there before, by its length as the machine counts -/
def wsz (Γ : GG) (cell : Cell) (a n : Nat) : Prop := n ≤ cell.slots.size ∧ cell.slots.size.toInt32 = Int32.ofNat n ∧ (Γ.z ≤ a → cell.slots.size = n)
theorem wsz.of {Γ : GG} {cell : Cell} {a n : Nat} (h : cell.slots.size = n) : wsz Γ cell a n := ⟨Nat.le_of_eq h.symm, by rw [h], fun _ => h⟩
theorem wsz.inn {Γ : GG} {cell : Cell} {a n : Nat} (h : wsz Γ cell a n) {i : Int32} (hin : ¬ (i < 0 ∨ n ≤ i.toNatClampNeg)) : ¬ (i < 0 ∨ cell.slots.size ≤ i.toNatClampNeg) := fun q => hin (q.imp id (Nat.le_trans h.1))
/-- an array of kind t at a, with n places -/
def watA (Γ : GG) (m : MM) (H : Heap) (a t n : Nat) : Prop := ∃ cell : Cell, H[a]? = some cell ∧ Γ.s0.isArrayOf cell (gat t) ∧ cell.vm ≠ .unknown ∧ (Γ.z ≤ a → cell.cls = Γ.ca t ∧ cell.vm = .none) ∧ wsz Γ cell a n ∧ ∀ j, j < n → cell.slots[j]? = some (gv m (gtt t) a j)
def Rep (Γ : GG) (m : MM) (H : Heap) : Prop := H.size = m.n ∧ m.b = Γ.z ∧ m.c = Γ.c ∧ (∀ q, q < Γ.z → H[q]? = Γ.s0.heap[q]?) ∧ ∀ a, (∀ ci, (m.K a).1 = ci + 1 → ci < 49 → watO Γ m H a ci) ∧ (50 ≤ (m.K a).1 → watA Γ m H a (m.K a).1 (m.K a).2)
def lvO (ls : Array Slot) (n : Nat) (lv : List (Option Value)) : Prop := ls.size = n ∧ lv_wf ls ∧ ∀ (i : Nat) (v : Value), lv[i]? = some (some v) → ls[i]? = some (Slot.val v)
def OkM (Γ : GG) (κ : KM) (cc : ByteArray) (m0 mF : MM) (p : Program) (e : Env) (s : State) (mi : MethodId) (args : Array Value) (below : List Frame) (meth : Method) (c : Code) (R : Room) : Prop :=
  p.tables.exec = Jvm.exec ∧ c.code = cc ∧ c.maxLocals = κ.nL ∧ s.vm.findClass κ.own = some mi.cls ∧ (∀ w ∈ lw_all, w.before args s = true) ∧ Γ.s0.WarmedH s.vm ∧ meth.locks = false ∧ meth.sig.returnType = κ.ret ∧ meth.name = κ.y.name ∧ κ.fr ≤ R.frames ∧ κ.lo ≤ R.locals ∧ mF.n ≤ m0.n + R.cells ∧ mF.s ≤ m0.s + R.slots ∧ m0.n = s.heap.size ∧ Γ.z ≤ s.heap.size ∧ c.exceptionTable.toList.map (fun h => (h.startPc, h.endPc, h.handlerPc, h.catchType)) = κ.hh
/-- the end of a method with the outcome o -/
def gQ (Γ : GG) (m0 mF : MM) (o : GO) (s : State) (below : List Frame) : State → Prop := fun t => ∃ oc L, t.status = .running ∧ Ended t below oc ∧ (match o with
  | .inl v => oc = .returned v
  | .inr q => oc = .threw q) ∧ Rep Γ mF t.heap ∧ s.WarmedH t.vm ∧ s.sameButNew ({ t with vm := s.vm } : State) L (mF.n - m0.n) (mF.s - m0.s) ∧ ∀ z ∈ L, Γ.z ≤ z.base
def G (Γ : GG) (κ : KM) (cc : ByteArray) (m0 mF : MM) (o : GO) (m : MM) (pc : Nat) (lv : List (Option Value)) (st : List Value) : Prop :=
  Ext m mF ∧ ∀ p e s mi args below meth c R, OkM Γ κ cc m0 mF p e s mi args below meth c R → ∀ H locs cells slots ls, Rep Γ m H → (∀ z ∈ locs, Γ.z ≤ z.base) → cells + m0.n = m.n → slots + m0.s = m.s → lvO ls κ.nL lv → W p Γ.l e R s mi args below meth c H locs cells slots (gQ Γ m0 mF o s below) (F0 mi pc ls st)
section OKM
variable {Γ : GG} {κ : KM} {cc : ByteArray} {m0 mF : MM} {p : Program} {e : Env} {s : State} {mi : MethodId} {args : Array Value} {below : List Frame} {meth : Method} {c : Code} {R : Room}
theorem OkM.hx (X : OkM Γ κ cc m0 mF p e s mi args below meth c R) : p.tables.exec = Jvm.exec := X.1
theorem OkM.hb (X : OkM Γ κ cc m0 mF p e s mi args below meth c R) : c.code = cc := X.2.1
theorem OkM.hml (X : OkM Γ κ cc m0 mF p e s mi args below meth c R) : c.maxLocals = κ.nL := X.2.2.1
theorem OkM.hown (X : OkM Γ κ cc m0 mF p e s mi args below meth c R) : s.vm.findClass κ.own = some mi.cls := X.2.2.2.1
theorem OkM.hts (X : OkM Γ κ cc m0 mF p e s mi args below meth c R) : ∀ w ∈ lw_all, w.before args s = true := X.2.2.2.2.1
theorem OkM.hw (X : OkM Γ κ cc m0 mF p e s mi args below meth c R) : Γ.s0.WarmedH s.vm := X.2.2.2.2.2.1
theorem OkM.hal (X : OkM Γ κ cc m0 mF p e s mi args below meth c R) : Γ.s0.vm.Alike s.vm := X.hw.alike
theorem OkM.hlk (X : OkM Γ κ cc m0 mF p e s mi args below meth c R) : meth.locks = false := X.2.2.2.2.2.2.1
theorem OkM.hrt (X : OkM Γ κ cc m0 mF p e s mi args below meth c R) : meth.sig.returnType = κ.ret := X.2.2.2.2.2.2.2.1
theorem OkM.hnm (X : OkM Γ κ cc m0 mF p e s mi args below meth c R) : meth.name = κ.y.name := X.2.2.2.2.2.2.2.2.1
theorem OkM.hfr (X : OkM Γ κ cc m0 mF p e s mi args below meth c R) : κ.fr ≤ R.frames := X.2.2.2.2.2.2.2.2.2.1
theorem OkM.hlo (X : OkM Γ κ cc m0 mF p e s mi args below meth c R) : κ.lo ≤ R.locals := X.2.2.2.2.2.2.2.2.2.2.1
theorem OkM.hce (X : OkM Γ κ cc m0 mF p e s mi args below meth c R) : mF.n ≤ m0.n + R.cells := X.2.2.2.2.2.2.2.2.2.2.2.1
theorem OkM.hsl (X : OkM Γ κ cc m0 mF p e s mi args below meth c R) : mF.s ≤ m0.s + R.slots := X.2.2.2.2.2.2.2.2.2.2.2.2.1
theorem OkM.hn0 (X : OkM Γ κ cc m0 mF p e s mi args below meth c R) : m0.n = s.heap.size := X.2.2.2.2.2.2.2.2.2.2.2.2.2.1
theorem OkM.hz (X : OkM Γ κ cc m0 mF p e s mi args below meth c R) : Γ.z ≤ s.heap.size := X.2.2.2.2.2.2.2.2.2.2.2.2.2.2.1
theorem OkM.hhh (X : OkM Γ κ cc m0 mF p e s mi args below meth c R) : c.exceptionTable.toList.map (fun h => (h.startPc, h.endPc, h.handlerPc, h.catchType)) = κ.hh := X.2.2.2.2.2.2.2.2.2.2.2.2.2.2.2
theorem OkM.noh (X : OkM Γ κ cc m0 mF p e s mi args below meth c R) (h : κ.hh = []) : ∀ x ∈ c.exceptionTable.toList, False := by
  have := X.hhh
  rw [h, List.map_eq_nil_iff] at this
  rw [this]
  intro x hx
  cases hx
end OKM
/-! locals -/
def lvP (lv : List (Option Value)) : List (Nat × Value) := (List.range lv.length).filterMap fun i => match lv[i]? with
  | some (some v) => some (i, v)
  | _ => none
theorem lvP_mem {lv : List (Option Value)} {i : Nat} {v : Value} : (i, v) ∈ lvP lv ↔ lv[i]? = some (some v) := by
  unfold lvP
  rw [List.mem_filterMap]
  constructor
  · rintro ⟨j, -, h⟩
    cases hj : lv[j]? with
    | none => rw [hj] at h; cases h
    | some w =>
      cases w with
      | none => rw [hj] at h; cases h
      | some w => rw [hj] at h; cases h; exact hj
  · intro h
    refine ⟨i, List.mem_range.mpr (List.getElem?_eq_some_iff.mp h).1, ?_⟩
    rw [h]
theorem lvO_has {ls : Array Slot} {n : Nat} {lv : List (Option Value)} : lvO ls n lv ↔ lv_has ls n (lvP lv) := by
  constructor
  · rintro ⟨h1, h2, h3⟩
    exact ⟨h1, h2, fun q hq => h3 q.1 q.2 (lvP_mem.mp hq)⟩
  · rintro ⟨h1, h2, h3⟩
    exact ⟨h1, h2, fun i v hv => h3 (i, v) (lvP_mem.mpr hv)⟩
theorem lvO_of {ls : Array Slot} {n : Nat} {lv : List (Option Value)} {l : List (Nat × Value)} (h : lv_has ls n l) (hl : ∀ i v, lv[i]? = some (some v) → (i, v) ∈ l) : lvO ls n lv := ⟨h.1, h.2.1, fun i v hv => h.2.2 (i, v) (hl i v hv)⟩
/-- the place ahead of i holds no long -/
def lvC (lv : List (Option Value)) (i : Nat) : Bool := match i with
  | 0 => true
  | j + 1 => match lv[j]? with
    | some (some v) => v.category == 1
    | _ => true
theorem lvC_ne {lv : List (Option Value)} {i j : Nat} {v : Value} (h : lvC lv i = true) (hj : lv[j]? = some (some v)) (e : j + 1 = i) : (v.category == 2) = false := by
  subst e
  unfold lvC at h
  simp only [hj, beq_iff_eq] at h
  rw [h]; rfl
theorem lvO_set1 {ls' : Array Slot} {n i : Nat} {lv : List (Option Value)} {v : Value} (hc : lvC lv i = true) (h : lv_has ls' n ((i, v) :: (lvP lv).filter (fun q => !(q.1 == i) && !(q.1 + 1 == i && q.2.category == 2)))) : lvO ls' n (lv.set i (some v)) := by
  refine lvO_of h fun j w hj => ?_
  by_cases e : j = i
  · subst e
    rw [List.getElem?_set_self' ] at hj
    cases hq : lv[j]? with
    | none => rw [hq] at hj; cases hj
    | some q => rw [hq] at hj; cases hj; exact List.mem_cons_self
  · rw [List.getElem?_set_ne (Ne.symm e)] at hj
    refine List.mem_cons_of_mem _ (List.mem_filter.mpr ⟨lvP_mem.mpr hj, ?_⟩)
    have h1 : (j == i) = false := by simp [e]
    by_cases e2 : j + 1 = i
    · have h2 := lvC_ne hc hj e2
      simp [h1, h2]
    · simp [h1, e2]
theorem lvO_set2 {ls' : Array Slot} {n i : Nat} {lv : List (Option Value)} {v : Value} (hc : lvC lv i = true) (h : lv_has ls' n ((i, v) :: (lvP lv).filter (fun q => !(q.1 == i) && (!(q.1 == i + 1) && !(q.1 + 1 == i && q.2.category == 2))))) : lvO ls' n ((lv.set i (some v)).set (i + 1) none) := by
  refine lvO_of h fun j w hj => ?_
  by_cases e0 : j = i + 1
  · subst e0
    rw [List.getElem?_set_self'] at hj
    cases hq : (lv.set i (some v))[i + 1]? with
    | none => rw [hq] at hj; cases hj
    | some q => rw [hq] at hj; cases hj
  · rw [List.getElem?_set_ne (Ne.symm e0)] at hj
    by_cases e : j = i
    · subst e
      rw [List.getElem?_set_self' ] at hj
      cases hq : lv[j]? with
      | none => rw [hq] at hj; cases hj
      | some q => rw [hq] at hj; cases hj; exact List.mem_cons_self
    · rw [List.getElem?_set_ne (Ne.symm e)] at hj
      refine List.mem_cons_of_mem _ (List.mem_filter.mpr ⟨lvP_mem.mpr hj, ?_⟩)
      have h1 : (j == i) = false := by simp [e]
      have h3 : (j == i + 1) = false := by simp [e0]
      by_cases e2 : j + 1 = i
      · have h2 := lvC_ne hc hj e2
        simp [h1, h2, h3]
      · simp [h1, e2, h3]
/-- fewer are known -/
def lvK (lv : List (Option Value)) (ks : List Bool) : List (Option Value) := List.zipWith (fun (v : Option Value) (b : Bool) => if b then v else none) lv ks
theorem lvO.weak {ls : Array Slot} {n : Nat} {lv : List (Option Value)} (ks : List Bool) (h : lvO ls n lv) : lvO ls n (lvK lv ks) := by
  refine ⟨h.1, h.2.1, fun i v hv => h.2.2 i v ?_⟩
  unfold lvK at hv
  rw [List.getElem?_zipWith] at hv
  cases h1 : lv[i]? with
  | none => rw [h1] at hv; cases hv
  | some w =>
    cases h2 : ks[i]? with
    | none => rw [h1, h2] at hv; cases hv
    | some b =>
      rw [h1, h2] at hv
      cases b with
      | false => cases hv
      | true => exact hv
theorem G.weak {Γ : GG} {κ : KM} {cc : ByteArray} {m0 mF : MM} {o : GO} {m : MM} {pc : Nat} {lv lv' : List (Option Value)} {st : List Value} (ks : List Bool) (hl : lvK lv ks = lv') (k : G Γ κ cc m0 mF o m pc lv' st) : G Γ κ cc m0 mF o m pc lv st := by
  subst hl
  exact ⟨k.1, fun p e s mi args below meth c R X H locs cells slots ls h1 h2 h3 h4 h5 => k.2 p e s mi args below meth c R X H locs cells slots ls h1 h2 h3 h4 (h5.weak ks)⟩
