/-! THE START: what the tables and the Statement's premises give; the first memory; whole_start out of a pure statement -/
set_option maxRecDepth 100000
def st_idx : List Nat := [94, 95, 97, 99, 101, 103, 15]
def st_len : List Nat := [4, 4, 4, 2, 6, 5, 0]
def st_byt : List (List Int32) := [[119, 111, 114, 100], [112, 97, 105, 114], [114, 117, 108, 101], [111, 114], [108, 101, 110, 103, 116, 104], [116, 117, 114, 110, 115], []]
def st_hsh : List Int32 := [3655434, 3433178, 3512060, 3555, -1106363674, 110727062, 0]
def st_hz : List Int32 := [0, 0, 0, 0, 0, 0, 1]
def st_tm (i : Nat) : Term := .string "GuildCharter$Reader" (st_idx.getD i 0)
abbrev st_val (i : Nat) : Term := .field (st_tm i) "java/lang/String" "value" "[B"
theorem st_hex : ∀ i, i < 7 → Cond.exactly (st_tm i) "java/lang/String" ∈ flatC (Jvm.Cond.and given_1 narrow_1) := by decide +kernel
theorem st_hco : ∀ i, i < 7 → Cond.eq (.field (st_tm i) "java/lang/String" "coder" "B") (.int 0) ∈ flatC (Jvm.Cond.and given_1 narrow_1) := by decide +kernel
theorem st_har : ∀ i, i < 7 → Cond.arrayOf (st_val i) .byte ∈ flatC (Jvm.Cond.and given_1 narrow_1) := by decide +kernel
theorem st_hle : ∀ i, i < 7 → Cond.eq (.length (st_val i)) (.int (Int32.ofNat (st_len.getD i 0))) ∈ flatC (Jvm.Cond.and given_1 narrow_1) := by decide +kernel
theorem st_hel : ∀ i, i < 7 → ∀ j, j < st_len.getD i 0 → Cond.eq (.elem (st_val i) (.int (Int32.ofNat j))) (.int ((st_byt.getD i []).getD j 0)) ∈ flatC (Jvm.Cond.and given_1 narrow_1) := by decide +kernel
theorem st_hha : ∀ i, i < 7 → Cond.eq (.field (st_tm i) "java/lang/String" "hash" "I") (.int (st_hsh.getD i 0)) ∈ flatC (Jvm.Cond.and given_1 narrow_1) := by decide +kernel
theorem st_hhz : ∀ i, i < 7 → Cond.eq (.field (st_tm i) "java/lang/String" "hashIsZero" "Z") (.int (st_hz.getD i 0)) ∈ flatC (Jvm.Cond.and given_1 narrow_1) := by decide +kernel
theorem st_hne : ∀ i, i < 7 → ∀ j, j < 7 → i ≠ j → Cond.not (Cond.eq (st_tm i) (st_tm j)) ∈ flatC (Jvm.Cond.and given_1 narrow_1) ∨ Cond.not (Cond.eq (st_tm j) (st_tm i)) ∈ flatC (Jvm.Cond.and given_1 narrow_1) := by decide +kernel
theorem st_all {s : State} {A : Array Value} (hts : ∀ w ∈ lw_tbl, w.before A s = true) : ∀ w ∈ lw_all, w.before A s = true := fun w h => hts w (lw_all_tbl h)
theorem st_cls {s : State} {A : Array Value} (hts : ∀ w ∈ lw_tbl, w.before A s = true) : ∀ c : Nat, ∃ q : ClassId × (Nat → Nat), ∀ r : vw_C, gcl[c]? = some r → u_Kn s r.1 r.2.1 r.2.2 q.1 q.2 := by
  have H := st_all hts
  have f : ∀ {C : String} {T : u_T} {N : Nat} (c : Nat), (∃ (cC : ClassId) (iS : Nat → Nat), u_Kn s C T N cC iS) → gcl[c]? = some (C, T, N) → ∃ q : ClassId × (Nat → Nat), ∀ r : vw_C, gcl[c]? = some r → u_Kn s r.1 r.2.1 r.2.2 q.1 q.2 := by
    intro C T N c h e
    obtain ⟨cC, iS, h⟩ := h
    refine ⟨(cC, iS), fun r hr => ?_⟩
    cases hr.symm.trans e
    exact h
  intro c
  match c with
  | 0 => exact f 0 (u_known H in_X0 (H _ q140)) rfl
  | 1 => exact f 1 (u_known H in_X1 (H _ q148)) rfl
  | 2 => exact f 2 (u_known H in_X2 (H _ q1243)) rfl
  | 3 => exact f 3 (u_known H in_X3 (H _ q361)) rfl
  | 4 => exact f 4 (u_known H in_X4 (H _ q692)) rfl
  | 5 => exact f 5 (u_known H in_X5 (H _ q847)) rfl
  | 6 => exact f 6 (u_known H in_X6 (H _ q869)) rfl
  | 7 => exact f 7 (u_known H in_X7 (H _ q1177)) rfl
  | 8 => exact f 8 (u_known H in_J2 (H _ q154)) rfl
  | 9 => exact f 9 (u_known H in_J4 (H _ q408)) rfl
  | 10 => exact f 10 (u_known H in_J5 (H _ q538)) rfl
  | k + 11 => exact ⟨(0, fun _ => 0), fun r hr => by simp [gcl] at hr⟩
theorem st_any {s : State} {A : Array Value} (hts : ∀ w ∈ lw_tbl, w.before A s = true) {D : va_G} (hD : ∀ c (r : vw_C), gcl[c]? = some r → s.vm.findClass r.1 = some (D.1 c)) : ∀ ci (r : vw_C), gcl[ci]? = some r → ∀ comp, s.vm.findClass "java/lang/Object" = some comp → s.vm.assignable (D.1 ci) comp = true := by
  have f : ∀ {C : String}, (Cond.castable C "java/lang/Object").before A s = true → ∀ cC, s.vm.findClass C = some cC → ∀ comp, s.vm.findClass "java/lang/Object" = some comp → s.vm.assignable cC comp = true := by
    intro C h cC h1 comp h2
    obtain ⟨c, t, g1, g2, g3⟩ := Cond.castable_spec h
    cases g1.symm.trans h1
    cases g2.symm.trans h2
    exact g3
  intro ci r hr comp hc
  have h1 := hD ci r hr
  match ci, hr, h1 with
  | 0, rfl, h1 => exact f (hts _ (lw_at lw_m8 107 rfl)) _ h1 comp hc
  | 1, rfl, h1 => exact f (hts _ (lw_at lw_m8 108 rfl)) _ h1 comp hc
  | 2, rfl, h1 => exact f (hts _ (lw_at lw_m8 110 rfl)) _ h1 comp hc
  | 3, rfl, h1 => exact f (hts _ (lw_at lw_m8 111 rfl)) _ h1 comp hc
  | 4, rfl, h1 => exact f (hts _ (lw_at lw_m8 115 rfl)) _ h1 comp hc
  | 5, rfl, h1 => exact f (hts _ (lw_at lw_m8 116 rfl)) _ h1 comp hc
  | 6, rfl, h1 => exact f (hts _ (lw_at lw_m8 117 rfl)) _ h1 comp hc
  | 7, rfl, h1 => exact f (hts _ (lw_at lw_m8 118 rfl)) _ h1 comp hc
  | 8, rfl, h1 => exact f (hts _ (lw_at lw_m8 109 rfl)) _ h1 comp hc
  | 9, rfl, h1 => exact f (hts _ (lw_at lw_m8 112 rfl)) _ h1 comp hc
  | 10, rfl, h1 => exact f (hts _ (lw_at lw_m8 113 rfl)) _ h1 comp hc
  | k + 11, hr, _ => simp [gcl] at hr
theorem st_arr {s : State} {A : Array Value} (hts : ∀ w ∈ lw_tbl, w.before A s = true) : ∃ ca : Nat → ClassId, ∀ t, 50 ≤ t → t ≤ 55 → ∃ (kA : Class) (comp : ClassId), s.vm.findClass ("[" ++ (gat t).toString) = some (ca t) ∧ s.vm.classes[ca t]? = some kA ∧ kA.kind = .array comp (gat t) ∧ (t = 54 → s.vm.findClass "java/lang/Object" = some comp) ∧ (t = 55 → comp = ca 50) := by
  obtain ⟨ci, ki, pi, i1, i2, i3⟩ := Cond.arrayClass_spec (hts _ (lw_at lw_m1 67 rfl))
  obtain ⟨cb, kb, pb, b1, b2, b3⟩ := Cond.arrayClass_spec (hts _ (lw_at lw_m1 69 rfl))
  obtain ⟨cz, kz, pz, z1, z2, z3⟩ := Cond.arrayClass_spec (hts _ (lw_at lw_m1 115 rfl))
  obtain ⟨cl, kl, pl, l1, l2, l3⟩ := Cond.arrayClass_spec (hts _ (lw_at lw_m1 68 rfl))
  obtain ⟨po, co, ko, o1, -, o3, o4, o5⟩ := Cond.arrayOver_spec (hts _ (lw_at lw_m1 52 rfl))
  obtain ⟨pa, ca, ka, a1, a3, a4, a5⟩ := Cond.arrayOver_specA (hts _ (lw_at lw_m1 117 rfl))
  have ea : pa = ci := Option.some.inj (a1.symm.trans i1)
  refine ⟨fun t => if t = 50 then ci else if t = 51 then cb else if t = 52 then cz else if t = 53 then cl else if t = 54 then co else ca, fun t h1 h2 => ?_⟩
  obtain rfl | rfl | rfl | rfl | rfl | rfl : t = 50 ∨ t = 51 ∨ t = 52 ∨ t = 53 ∨ t = 54 ∨ t = 55 := by omega
  · exact ⟨ki, pi, i1, i2, i3, (fun e => by cases e), (fun e => by cases e)⟩
  · exact ⟨kb, pb, b1, b2, b3, (fun e => by cases e), (fun e => by cases e)⟩
  · exact ⟨kz, pz, z1, z2, z3, (fun e => by cases e), (fun e => by cases e)⟩
  · exact ⟨kl, pl, l1, l2, l3, (fun e => by cases e), (fun e => by cases e)⟩
  · exact ⟨ko, po, o5, o3, o4, (fun _ => o1), (fun e => by cases e)⟩
  · exact ⟨ka, pa, a5, a3, a4, (fun e => by cases e), (fun _ => ea)⟩
theorem st_aoA {s : State} {A : Array Value} (hts : ∀ w ∈ lw_tbl, w.before A s = true) {U : State} (hW : s.WarmedH U.vm) : va_Nw (.arrayOver (.array .int)) U := by
  have h : (Cond.arrayOver (.array .int)).before #[] s = true := hts _ (lw_at lw_m1 117 rfl)
  have e := Cond.arrayOver_setVmC (args := #[]) hW.alike (.array .int)
  have h2 : (Cond.arrayOver (.array .int)).before #[] (s.setVm U.vm) = true := e.trans h
  exact h2
theorem st_sel {s : State} {A : Array Value} (hts : ∀ w ∈ lw_tbl, w.before A s = true) {U : State} (hW : s.WarmedH U.vm) : va_Nw (.selects "java/lang/StringBuilder" ⟨"java/lang/AbstractStringBuilder", "ensureCapacityInternal", "(I)V"⟩ ⟨"java/lang/AbstractStringBuilder", "ensureCapacityInternal", "(I)V"⟩) U := by
  have hp := Cond.privateMethod_at (hts _ (lw_at lw_m2 92 rfl))
  have hi := hts _ (lw_at lw_m2 93 rfl)
  have hc := hts _ (lw_at lw_m2 91 rfl)
  obtain ⟨mk, methM, hnamed, hmethM, hst, hab⟩ := Cond.instanceMethod_spec hi
  obtain ⟨cC, kC, hfc, hkC, -⟩ := Cond.instantiable_spec (st_all hts _ q408)
  have hy : ("java/lang/AbstractStringBuilder" : String) ≠ "java/lang/invoke/MethodHandle" ∧ ("java/lang/AbstractStringBuilder" : String) ≠ "java/lang/invoke/VarHandle" := by decide
  have hsel : selectMethod {} s.vm cC mk = .method mk := selectMethod_private hmethM (hp mk methM hnamed hmethM)
  obtain ⟨c2, k2, hc2, hk2, hni⟩ : ∃ c2 k2, s.vm.findClass "java/lang/AbstractStringBuilder" = some c2 ∧ s.vm.classes[c2]? = some k2 ∧ k2.isInterface = false := by
    obtain ⟨c9, r9, m9, -, -, g3, -, mk9, g4, g5⟩ := Cond.selects_spec (hts _ (lw_at lw_m2 129 rfl))
    exact ⟨m9.cls, mk9, findClass_of_methodNamed g3, g4, g5⟩
  have hcls : mk.cls = c2 := Option.some.inj ((findClass_of_methodNamed hnamed).symm.trans hc2)
  have h : (Cond.selects "java/lang/StringBuilder" ⟨"java/lang/AbstractStringBuilder", "ensureCapacityInternal", "(I)V"⟩ ⟨"java/lang/AbstractStringBuilder", "ensureCapacityInternal", "(I)V"⟩).before #[] s = true := by
    simp only [Cond.before, Cond.holds, Cond.value, hfc, State.methodFound?_of_named hnamed hy, hnamed, hsel, hcls, hk2]
    simp
    exact hni
  have e := Cond.selects_setVm (args := #[]) (vm' := U.vm) (cls := "java/lang/StringBuilder") (y := ⟨"java/lang/AbstractStringBuilder", "ensureCapacityInternal", "(I)V"⟩) hW.alike hnamed hy
  have h2 := e.trans h
  exact h2
theorem st_gnw {s : State} {A : Array Value} (hts : ∀ w ∈ lw_tbl, w.before A s = true) {U : State} (hW : s.WarmedH U.vm) : ∀ w ∈ gnw, va_Nw w U := by
  intro w hw
  simp only [gnw, List.mem_cons, List.not_mem_nil, or_false] at hw
  rcases hw with rfl | rfl | rfl | rfl | rfl | rfl | rfl | rfl | rfl | rfl
  · exact va_Nw.warmF hW (va_Nw.of rfl (hts _ (lw_at lw_m1 138 rfl)))
  · exact va_Nw.warmF hW (va_Nw.of rfl (hts _ (lw_at lw_m1 140 rfl)))
  · exact va_Nw.warmM hW (va_Nw.of rfl (hts _ (lw_at lw_m1 35 rfl)))
  · exact va_Nw.warmM hW (va_Nw.of rfl (hts _ (lw_at lw_m2 8 rfl)))
  · exact va_Nw.warmM hW (va_Nw.of rfl (hts _ (lw_at lw_m2 14 rfl)))
  · exact va_Nw.warmM hW (va_Nw.of rfl (hts _ (lw_at lw_m4 36 rfl)))
  · exact va_Nw.warmD hW (va_Nw.of rfl (hts _ (lw_at lw_m8 122 rfl)))
  · exact st_aoA hts hW
  · exact va_Nw.warmC hW (va_Nw.of rfl (hts _ (lw_at lw_m2 118 rfl)))
  · exact st_sel hts hW
/-- what the pure side is told of the first memory: the script at b, the texts at their constants -/
def M0 (m : MM) (b L : Nat) (xs : Nat → Int32) : Prop := m.b = m.n ∧ m.s = 0 ∧ b < m.n ∧ m.K b = (50, L) ∧ (∀ j, j < L → m.I b j = xs j) ∧ ∀ i, i < 7 → ∃ a v, m.c (i + 1) = some a ∧ m.K a = (11, 0) ∧ m.I a 1 = 0 ∧ m.R a 0 = some v ∧ m.K v = (51, st_len.getD i 0) ∧ ∀ j, j < st_len.getD i 0 → m.I v j = (st_byt.getD i []).getD j 0
def st_int (v : Option Value) : Int32 := match v with
  | some (.int x) => x
  | _ => 0
def st_ref (v : Option Value) : Option Nat := match v with
  | some (.ref a) => some a
  | _ => none
noncomputable def st_K (b L : Nat) (adK adV : Nat → Nat) (a : Nat) : Nat × Nat := if a = b then (50, L) else @ite _ (∃ i, i < 7 ∧ adK i = a) (Classical.propDecidable _) (11, 0) (@dite _ (∃ i, i < 7 ∧ adV i = a) (Classical.propDecidable _) (fun h => (51, st_len.getD (Classical.choose h) 0)) (fun _ => (0, 0)))
noncomputable def st_sl (iS : Nat → Nat) (adK : Nat → Nat) (a k : Nat) : Nat := @ite _ (∃ i, i < 7 ∧ adK i = a) (Classical.propDecidable _) (iS k) k
noncomputable def st_m (s : State) (iS : Nat → Nat) (b L : Nat) (adK adV : Nat → Nat) (cs : Nat → Option Nat) : MM := (fun a k => st_int ((s.heap[a]?).bind fun c => c.slots[st_sl iS adK a k]?), fun _ _ => 0, fun a k => st_ref ((s.heap[a]?).bind fun c => c.slots[st_sl iS adK a k]?), st_K b L adK adV, s.heap.size, 0, s.heap.size, cs)
theorem st_lens : ∀ i, i < 7 → st_len.getD i 0 < 2 ^ 31 := by decide +kernel
theorem st_lt {s : State} {a : Nat} {cell : Cell} (h : s.heap[a]? = some cell) : a < s.heap.size := (Array.getElem?_eq_some_iff.mp h).1
theorem st_fld {s : State} {o n d : String} {v : Value} {a i : Nat} {A : Nat → Prop} {cell : Cell} (h : va_OF o n d v a A s s.heap) (hS : SlotIs s o n d i) (hc : s.heap[a]? = some cell) : cell.slots[i]? = some v := by
  obtain ⟨cf, k, fi, f, c2, h1, h2, h3, h4, h5, h6⟩ := h
  obtain ⟨cf', k', fi', f', g1, g2⟩ := hS
  cases h1.symm.trans g1
  cases h3.symm.trans hc
  rw [← g2]
  exact h5
/-- the first memory stands for the start's heap -/
theorem st_rep {l : Launch} {s : State} {D : va_G} {ca : Nat → ClassId} {cs : Nat → Option Nat} {b L : Nat} {xs : Nat → Int32} {adK adV : Nat → Nat} (hK : va_K D gcl [] s) (hX : va_X b L xs s s.heap) (hcs : ∀ i, i < 7 → cs (i + 1) = some (adK i))
    (hS : vk_S 7 st_len st_byt adK adV (fun q => s.heap.size ≤ q) s s.heap) (hha : ∀ i, i < 7 → va_OF "java/lang/String" "hash" "I" (.int (st_hsh.getD i 0)) (adK i) (fun q => s.heap.size ≤ q) s s.heap) (hhz : ∀ i, i < 7 → va_OF "java/lang/String" "hashIsZero" "Z" (.int (st_hz.getD i 0)) (adK i) (fun q => s.heap.size ≤ q) s s.heap) :
    Rep (l, s, D, ca, cs) (st_m s (D.2 10) b L adK adV cs) s.heap ∧ M0 (st_m s (D.2 10) b L adK adV cs) b L xs := by
  obtain ⟨hJS, hJf, kJ, hkJ, hkJ2⟩ := hK.1 10 (RJ5, TJ5, 4) rfl
  obtain ⟨scr, x1, x2, x3, x4, x5⟩ := hX
  have hstr : ∀ i, i < 7 → ∃ cell : Cell, s.heap[adK i]? = some cell ∧ cell.cls = D.1 10 ∧ cell.vm.isStatics = false ∧ cell.vm ≠ .unknown ∧ cell.slots[D.2 10 0]? = some (.ref (adV i)) ∧ cell.slots[D.2 10 1]? = some (.int 0) ∧ cell.slots[D.2 10 2]? = some (.int (st_hsh.getD i 0)) ∧ cell.slots[D.2 10 3]? = some (.int (st_hz.getD i 0)) := by
    intro i hi
    obtain ⟨⟨cell, g1, g2, g3, -⟩, g4, g5, -⟩ := hS.1 i hi
    refine ⟨cell, g1, ?_, g2, ?_, st_fld g5 (hJS 0 (by decide)) g1, st_fld g4 (hJS 1 (by decide)) g1, st_fld (hha i hi) (hJS 2 (by decide)) g1, st_fld (hhz i hi) (hJS 3 (by decide)) g1⟩
    · exact Option.some.inj (g3.symm.trans hJf)
    · obtain ⟨cf, k, fi, f, c2, -, -, h3, h4, -⟩ := g4
      cases h3.symm.trans g1
      exact h4
  have hval : ∀ i, i < 7 → ∃ cell : Cell, s.heap[adV i]? = some cell ∧ s.isArrayOf cell .byte ∧ cell.vm ≠ .unknown ∧ st_len.getD i 0 ≤ cell.slots.size ∧ cell.slots.size.toInt32 = Int32.ofNat (st_len.getD i 0) ∧ (∀ j, j < st_len.getD i 0 → cell.slots[j]? = some (.int ((st_byt.getD i []).getD j 0))) := by
    intro i hi
    obtain ⟨-, -, -, cell, g1, g2, g3, g4, g5, g6, -⟩ := hS.1 i hi
    exact ⟨cell, g1, g2, g3, g4, g5, g6⟩
  have hkind : ∀ {cell : Cell} {t : FieldType}, s.isArrayOf cell t → cell.cls ≠ D.1 10 := by
    intro cell t h e
    obtain ⟨-, k, hk, comp, h2⟩ := h
    rw [e] at hk
    cases hk.symm.trans hkJ
    rw [hkJ2] at h2
    cases h2
  have nKb : ∀ i, i < 7 → adK i ≠ b := by
    intro i hi e
    obtain ⟨cell, g1, g2, -⟩ := hstr i hi
    rw [e] at g1
    cases g1.symm.trans x1
    exact hkind x2 g2
  have nKV : ∀ i, i < 7 → ∀ j, j < 7 → adK i ≠ adV j := by
    intro i hi j hj e
    obtain ⟨cell, g1, g2, -⟩ := hstr i hi
    obtain ⟨c2, k1, k2, -⟩ := hval j hj
    rw [e] at g1
    cases g1.symm.trans k1
    exact hkind k2 g2
  have nVb : ∀ j, j < 7 → adV j ≠ b := by
    intro j hj e
    obtain ⟨c2, k1, k2, -⟩ := hval j hj
    rw [e] at k1
    cases k1.symm.trans x1
    obtain ⟨-, k, hk, comp, h2⟩ := k2
    obtain ⟨-, k', hk', comp', h2'⟩ := x2
    cases hk.symm.trans hk'
    rw [h2] at h2'
    cases h2'
  have nb : ¬ ∃ i, i < 7 ∧ adK i = b := fun ⟨i, hi, e⟩ => nKb i hi e
  have nV : ∀ j, j < 7 → ¬ ∃ i, i < 7 ∧ adK i = adV j := fun j hj ⟨i, hi, e⟩ => nKV i hi j hj e
  have hbl := st_lt x1
  have kK : ∀ a, a < s.heap.size → (st_m s (D.2 10) b L adK adV cs).K a = st_K b L adK adV a := fun a ha => if_pos ha
  have kb : (st_m s (D.2 10) b L adK adV cs).K b = (50, L) := by
    rw [kK b hbl]; unfold st_K; rw [if_pos rfl]
  have kS : ∀ i, i < 7 → (st_m s (D.2 10) b L adK adV cs).K (adK i) = (11, 0) := by
    intro i hi
    obtain ⟨cell, g1, -⟩ := hstr i hi
    rw [kK _ (st_lt g1)]; unfold st_K; rw [if_neg (nKb i hi), if_pos ⟨i, hi, rfl⟩]
  have lenEq : ∀ i, i < 7 → ∀ j, j < 7 → adV i = adV j → st_len.getD i 0 = st_len.getD j 0 := by
    intro i hi j hj e
    obtain ⟨c1, g1, -, -, -, g5, -⟩ := hval i hi
    obtain ⟨c2, k1, -, -, -, k5, -⟩ := hval j hj
    rw [e] at g1
    cases g1.symm.trans k1
    have h := g5.symm.trans k5
    have h1 := Int32.toNatClampNeg_ofNat_of_lt (st_lens i hi)
    have h2 := Int32.toNatClampNeg_ofNat_of_lt (st_lens j hj)
    rw [h] at h1
    exact h1.symm.trans h2
  have kV : ∀ i, i < 7 → (st_m s (D.2 10) b L adK adV cs).K (adV i) = (51, st_len.getD i 0) := by
    intro i hi
    obtain ⟨cell, g1, -⟩ := hval i hi
    have hex : ∃ j, j < 7 ∧ adV j = adV i := ⟨i, hi, rfl⟩
    rw [kK _ (st_lt g1)]; unfold st_K; rw [if_neg (nVb i hi), if_neg (nV i hi), dif_pos hex]
    have hc := Classical.choose_spec hex
    rw [lenEq _ hc.1 i hi hc.2]
  have iS : ∀ a k, (st_m s (D.2 10) b L adK adV cs).I a k = st_int ((s.heap[a]?).bind fun c => c.slots[st_sl (D.2 10) adK a k]?) := fun _ _ => rfl
  have rS : ∀ a k, (st_m s (D.2 10) b L adK adV cs).R a k = st_ref ((s.heap[a]?).bind fun c => c.slots[st_sl (D.2 10) adK a k]?) := fun _ _ => rfl
  have slb : ∀ k, st_sl (D.2 10) adK b k = k := fun k => by unfold st_sl; rw [if_neg nb]
  have slV : ∀ i, i < 7 → ∀ k, st_sl (D.2 10) adK (adV i) k = k := fun i hi k => by unfold st_sl; rw [if_neg (nV i hi)]
  have slK : ∀ i, i < 7 → ∀ k, st_sl (D.2 10) adK (adK i) k = D.2 10 k := fun i hi k => by unfold st_sl; rw [if_pos ⟨i, hi, rfl⟩]
  have ib : ∀ j, j < L → (st_m s (D.2 10) b L adK adV cs).I b j = xs j := by
    intro j hj
    rw [iS, x1, Option.bind_some, slb, x5 j hj]; rfl
  have iV : ∀ i, i < 7 → ∀ j, j < st_len.getD i 0 → (st_m s (D.2 10) b L adK adV cs).I (adV i) j = (st_byt.getD i []).getD j 0 := by
    intro i hi j hj
    obtain ⟨cell, g1, -, -, -, -, g6⟩ := hval i hi
    rw [iS, g1, Option.bind_some, slV i hi, g6 j hj]; rfl
  refine ⟨⟨rfl, rfl, rfl, fun _ _ => rfl, fun a => ⟨fun ci c1 c2 => ?_, fun c1 => ?_⟩⟩, rfl, rfl, hbl, kb, ib, fun i hi => ?_⟩
  · have hal : a < s.heap.size := K_lt (m := st_m s (D.2 10) b L adK adV cs) (by omega)
    rw [kK a hal] at c1
    unfold st_K at c1
    split at c1
    · dsimp only at c1; omega
    · split at c1
      · rename_i hex
        obtain ⟨i, hi, rfl⟩ := hex
        have hci : ci = 10 := by dsimp only at c1; omega
        subst hci
        obtain ⟨cell, g1, g2, g3, g4, g5, g6, g7, g8⟩ := hstr i hi
        refine ⟨(RJ5, TJ5, 4), cell, rfl, g1, g2, g4, (fun q e => by rw [e] at g3; cases g3), fun hz => ?_, fun k hk => ?_⟩
        · have := st_lt g1
          exact absurd hz (by show ¬ s.heap.size ≤ _; omega)
        · have hk : k < 4 := hk
          obtain rfl | rfl | rfl | rfl : k = 0 ∨ k = 1 ∨ k = 2 ∨ k = 3 := by omega
          · refine g5.trans (congrArg some ?_)
            show _ = va_rf ((st_m s (D.2 10) b L adK adV cs).R (adK i) 0)
            rw [rS, g1, Option.bind_some, slK i hi, g5]; rfl
          · refine g6.trans (congrArg some ?_)
            show _ = Value.int ((st_m s (D.2 10) b L adK adV cs).I (adK i) 1)
            rw [iS, g1, Option.bind_some, slK i hi, g6]; rfl
          · refine g7.trans (congrArg some ?_)
            show _ = Value.int ((st_m s (D.2 10) b L adK adV cs).I (adK i) 2)
            rw [iS, g1, Option.bind_some, slK i hi, g7]; rfl
          · refine g8.trans (congrArg some ?_)
            show _ = Value.int ((st_m s (D.2 10) b L adK adV cs).I (adK i) 3)
            rw [iS, g1, Option.bind_some, slK i hi, g8]; rfl
      · split at c1 <;> (dsimp only at c1; omega)
  · have hal : a < s.heap.size := K_lt (m := st_m s (D.2 10) b L adK adV cs) (by omega)
    by_cases e : a = b
    · subst e
      rw [kb]
      refine ⟨scr, x1, x2, x3, fun hz => absurd hz (by show ¬ s.heap.size ≤ _; omega), ⟨Nat.le_of_eq x4.symm, by rw [x4], fun hz => absurd hz (by show ¬ s.heap.size ≤ _; omega)⟩, fun j hj => ?_⟩
      refine (x5 j hj).trans (congrArg some ?_)
      show _ = Value.int ((st_m s (D.2 10) a L adK adV cs).I a j)
      rw [ib j hj]
    · by_cases e2 : ∃ i, i < 7 ∧ adK i = a
      · exfalso
        rw [kK a hal] at c1
        unfold st_K at c1
        rw [if_neg e, if_pos e2] at c1
        dsimp only at c1; omega
      · by_cases e3 : ∃ i, i < 7 ∧ adV i = a
        · obtain ⟨i, hi, rfl⟩ := e3
          rw [kV i hi]
          obtain ⟨cell, g1, g2, g3, g4, g5, g6⟩ := hval i hi
          refine ⟨cell, g1, g2, g3, fun hz => absurd hz (by show ¬ s.heap.size ≤ _; omega), ⟨g4, g5, fun hz => absurd hz (by show ¬ s.heap.size ≤ _; omega)⟩, fun j hj => ?_⟩
          refine (g6 j hj).trans (congrArg some ?_)
          show _ = Value.int ((st_m s (D.2 10) b L adK adV cs).I (adV i) j)
          rw [iV i hi j hj]
        · exfalso
          rw [kK a hal] at c1
          unfold st_K at c1
          rw [if_neg e, if_neg e2, dif_neg e3] at c1
          dsimp only at c1; omega
  · obtain ⟨cell, g1, g2, g3, g4, g5, g6, -⟩ := hstr i hi
    refine ⟨adK i, adV i, hcs i hi, kS i hi, ?_, ?_, kV i hi, iV i hi⟩
    · rw [iS, g1, Option.bind_some, slK i hi, g6]; rfl
    · rw [rS, g1, Option.bind_some, slK i hi, g5]; rfl
def st_tx : List String := ["word", "pair", "rule", "or", "length", "turns", ""]
theorem st_z {z : Nat} : ∀ a : Nat, a < z → ¬ z ≤ a := fun _ h => Nat.not_le.mpr h
def st_c (adK : Nat → Nat) (c8 c9 c10 : Option Nat) (k : Nat) : Option Nat := if k = 8 then c8 else if k = 9 then c9 else if k = 10 then c10 else some (adK (k - 1))
theorem st_q {Γ : GG} {C n d : String} (h : va_Zq C n d (fun q => Γ.z ≤ q) Γ.s0 Γ.s0.heap) : ∃ r : Option Nat, gsv Γ C n d (va_rf r) := by
  rcases h with h | ⟨t, h⟩
  · exact ⟨none, h⟩
  · exact ⟨some t, h⟩
theorem st_go {l : Launch} {s : State} {A : Array Value} {b L : Nat} {xs : Nat → Int32} (hts : ∀ w ∈ lw_tbl, w.before A s = true) (hg : (Jvm.Cond.and given_1 narrow_1).before A s = true) (hX : va_X b L xs s s.heap) : ∃ (Γ : GG) (m : MM), Γ.1 = l ∧ Γ.s0 = s ∧ GF Γ ∧ Rep Γ m s.heap ∧ M0 m b L xs := by
  have hs := flat_of_before _ hg
  obtain ⟨f, hf⟩ := Classical.axiomOfChoice (st_cls hts)
  obtain ⟨ca, hca⟩ := st_arr hts
  obtain ⟨adK, adV, hS, hE⟩ := vk_Sof (args := A) (s := s) (N := 7) (tm := st_tm) (len := st_len) (byt := st_byt) (A := fun q => s.heap.size ≤ q) st_lens (fun i hi => hs _ (st_hex i hi)) (fun i hi => hs _ (st_hco i hi)) (fun i hi => hs _ (st_har i hi)) (fun i hi => hs _ (st_hle i hi)) (fun i hi j hj => hs _ (st_hel i hi j hj)) (fun i j hi hj hij => (st_hne i hi j hj hij).imp (hs _) (hs _)) st_z
  obtain ⟨mi, hmi⟩ := va_Mi.of (hs (Cond.isRef (.mirror "[Ljava/lang/Object;")) (by decide +kernel))
  obtain ⟨c8, h8⟩ := va_Zqof (A := fun q => s.heap.size ≤ q) (hts _ (lw_at lw_m3 122 rfl)) (hts _ (lw_at lw_m1 18 rfl)) (hs (Cond.isRef (.static "java/lang/Throwable" "UNASSIGNED_STACK" "[Ljava/lang/StackTraceElement;")) (by decide +kernel)) st_z |> fun h => (st_q (Γ := (l, s, (fun c => (f c).1, fun c => (f c).2), ca, fun _ => none)) h : ∃ r : Option Nat, va_Z "java/lang/Throwable" "UNASSIGNED_STACK" "[Ljava/lang/StackTraceElement;" (va_rf r) (fun q => s.heap.size ≤ q) s s.heap)
  obtain ⟨c9, h9⟩ := va_Zqof (A := fun q => s.heap.size ≤ q) (hts _ (lw_at lw_m3 124 rfl)) (hts _ (lw_at lw_m1 18 rfl)) (hs (Cond.isRef (.static "java/lang/Throwable" "SUPPRESSED_SENTINEL" "Ljava/util/List;")) (by decide +kernel)) st_z |> fun h => (st_q (Γ := (l, s, (fun c => (f c).1, fun c => (f c).2), ca, fun _ => none)) h : ∃ r : Option Nat, va_Z "java/lang/Throwable" "SUPPRESSED_SENTINEL" "Ljava/util/List;" (va_rf r) (fun q => s.heap.size ≤ q) s s.heap)
  have hK : va_K (fun c => (f c).1, fun c => (f c).2) gcl [] s := ⟨fun c q hq => hf c q hq, fun k q hk => by simp at hk⟩
  obtain ⟨hR, hM⟩ := st_rep (l := l) (ca := ca) (cs := st_c adK c8 c9 (some mi)) hK hX (fun i hi => by
    obtain rfl | rfl | rfl | rfl | rfl | rfl | rfl : i = 0 ∨ i = 1 ∨ i = 2 ∨ i = 3 ∨ i = 4 ∨ i = 5 ∨ i = 6 := by omega
    all_goals rfl) hS (fun i hi => vk_OFof (hE i hi) (va_eqt (hs _ (st_hha i hi))) st_z) (fun i hi => vk_OFof (hE i hi) (va_eqt (hs _ (st_hhz i hi))) st_z)
  refine ⟨_, _, rfl, rfl, ?_, hR, hM⟩
  refine ⟨hK, hca, va_AO.of (hts _ (lw_at lw_m1 52 rfl)), st_any hts (fun c r hr => (hf c r hr).2.1), ?_, fun U hU => st_gnw hts hU, va_Zof (hts _ (lw_at lw_m2 63 rfl)) (hts _ (lw_at lw_m1 10 rfl)) (va_eqt (hs _ (by decide +kernel))) st_z, h8, h9, mi, rfl, hmi⟩
  have tx : ∀ {i k : Nat} {t : String}, i < 7 → st_idx.getD i 0 = k → (Cond.stringRef "GuildCharter$Reader" k t).before A s = true → vk_R "GuildCharter$Reader" k t (adK i) s := by
    intro i k t hi e h
    subst e
    exact vk_R.of h (hE i hi)
  intro q hq
  simp only [gtx, List.mem_cons, List.not_mem_nil, or_false] at hq
  rcases hq with rfl | rfl | rfl | rfl | rfl | rfl | rfl
  · exact ⟨_, rfl, tx (i := 0) (by decide) rfl (hts _ (lw_at lw_m3 6 rfl))⟩
  · exact ⟨_, rfl, tx (i := 1) (by decide) rfl (hts _ (lw_at lw_m3 88 rfl))⟩
  · exact ⟨_, rfl, tx (i := 2) (by decide) rfl (hts _ (lw_at lw_m3 89 rfl))⟩
  · exact ⟨_, rfl, tx (i := 3) (by decide) rfl (hts _ (lw_at lw_m3 90 rfl))⟩
  · exact ⟨_, rfl, tx (i := 4) (by decide) rfl (hts _ (lw_at lw_m3 91 rfl))⟩
  · exact ⟨_, rfl, tx (i := 5) (by decide) rfl (hts _ (lw_at lw_m3 92 rfl))⟩
  · exact ⟨_, rfl, tx (i := 6) (by decide) rfl (hts _ (lw_at lw_m2 12 rfl))⟩
/-- the law's walk, from its entry -/
theorem g_L_law {Γ : GG} (hΓ : GF Γ) {m mF : MM} {l0 : Option Nat} {r : Int32} (h : f_L_law l0 m = some (r, mF)) : G Γ kL_law cL_law m mF (.inl (some (.int r))) m 0 [some (va_rf l0), none, none, none] [] := by
  unfold f_L_law at h
  replace h := bd_of h; obtain ⟨q, e, h⟩ := h
  have H := rx_go_ind (P := p_L_law Γ m mF l0 r) (fun z o hs Hl Hr => by
    match z with
    | (l1, l2, l3, m) => exact w_L_law_18 hΓ hs Hl Hr) h
  exact w_L_law_0 (m0 := m) hΓ e H.1 H.2
/-- WHAT IS LEFT, in plain Lean: on the first memory the law computes 1, in its room -/
def Pure1 : Prop := ∀ (m : MM) (b L : Nat) (xs : Nat → Int32), L ≤ 384 → M0 m b L xs → ∃ mF, f_L_law (some b) m = some (1, mF) ∧ mF.n ≤ m.n + 601024 ∧ mF.s ≤ m.s + 7293034
def lw_Q (_ : Array Value) (s : State) (o : Outcome) (t : State) : Prop := o = .returned (some (.int 1)) ∧ Framed s o t [] 601024 7293034
def lw_Z (below : List Frame) (a : Array Value) (s : State) : State → Prop := fun t => ∃ o, t.status = .running ∧ Ended t below o ∧ lw_Q a s o t
/-- what holds at the law's entry -/
def lw_At (p : Program) (s : State) (m : MethodId) (meth : Method) (c : Code) (b L : Nat) (xs : Nat → Int32) : Prop :=
  p.tables.exec = Jvm.exec ∧ c.code = code ∧ meth.sig.returnType = ret ∧ c.maxLocals = 4 ∧ s.vm.findClass R_law = some m.cls ∧ (∀ w ∈ lw_tbl, w.before #[Value.ref b] s = true) ∧ va_X b L xs s s.heap ∧ b < s.heap.size ∧ meth.locks = false ∧ (Jvm.Cond.and given_1 narrow_1).before #[Value.ref b] s = true ∧ meth.name = x.name ∧ c.exceptionTable.toList = []
theorem st_whole (hP : Pure1) {p : Program} {e : Env} {s : State} {m : MethodId} {below : List Frame} {meth : Method} {c : Code} (l : Launch) {b L : Nat} {xs : Nat → Int32} (hL : L ≤ 384) (C0 : lw_At p s m meth c b L xs) : W p l e room_1 s m #[Value.ref b] below meth c s.heap [] 0 0 (lw_Z below #[Value.ref b] s) (entryFrame m ([Value.ref b] : List Value).toArray 4) := by
  obtain ⟨hx, hb, hr, hml, hown, hts, hX, hbl, hlk, hgv, hnm, hex⟩ := C0
  obtain ⟨Γ, m0, e1, e2, hΓ, hR, hM⟩ := st_go (l := l) hts hgv hX
  obtain ⟨mF, hf, hn, hsl⟩ := hP m0 b L xs hL hM
  subst e1
  have hz : Γ.z = s.heap.size := by show Γ.s0.heap.size = _; rw [e2]
  have hmn : m0.n = s.heap.size := hR.1.symm
  have X : OkM Γ kL_law cL_law m0 mF p e s m #[Value.ref b] below meth c room_1 := by
    refine ⟨hx, hb, hml, hown, st_all hts, ?_, hlk, hr, hnm, Nat.le_of_ble_eq_true rfl, Nat.le_of_ble_eq_true rfl, hn, hsl, hmn, Nat.le_of_eq hz, by rw [hex]; rfl⟩
    rw [e2]
    exact State.WarmedH.refl s
  have hent := lv_entry ([Value.ref b] : List Value) (n := 4) (Nat.le_of_ble_eq_true rfl)
  have w := (g_L_law hΓ hf).2 p e s m #[Value.ref b] below meth c room_1 X s.heap [] 0 0 _ hR (fun z hz => by cases hz) (by omega) (by omega) (lvE_of (n := 4) hent)
  rw [← lg_entry_eq] at w
  intro T hT Y
  obtain ⟨t, a1, oc, L, b1, b2, b3, b4, b5, b6, b7⟩ := w T hT Y
  have b3 : oc = .returned (some (.int 1)) := b3
  refine ⟨t, a1, oc, b1, b2, b3, ⟨_, b3⟩, b5, b6.weaken (fun x hx hlt => ?_) (by omega) (by omega)⟩
  have := b7 x hx
  rw [hz] at this
  exact absurd this (Nat.not_le.mpr hlt)
