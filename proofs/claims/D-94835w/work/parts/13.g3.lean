/-! ROWS OF G: fields -/
set_option maxRecDepth 100000
/-- the array classes by kind -/
def gKA (Γ : GG) : Prop := ∀ t, 50 ≤ t → t ≤ 55 → ∃ (kA : Class) (comp : ClassId), Γ.s0.vm.findClass ("[" ++ (gat t).toString) = some (Γ.ca t) ∧ Γ.s0.vm.classes[Γ.ca t]? = some kA ∧ kA.kind = .array comp (gat t) ∧ (t = 54 → Γ.s0.vm.findClass "java/lang/Object" = some comp) ∧ (t = 55 → comp = Γ.ca 50)
def FL (own : String) (idx ci k : Nat) (fin : Bool) : Prop := ∃ (C : String) (T : u_T) (N : Nat) (ref : String), gcl[ci]? = some (C, T, N) ∧ (∀ w ∈ u_ws C T N, w ∈ lw_all) ∧ k < N ∧ Cond.fieldLink own idx ref (T k).2.1 (T k).2.2.1 ∈ lw_all ∧ (ref = (T k).1 ∨ Cond.sameField ref (T k).1 (T k).2.1 (T k).2.2.1 ∈ lw_all) ∧ (∀ j, j < N → parseFieldDescriptor (T j).2.2.1 = some (gty ci j)) ∧ (∀ a, a < N → ∀ b, b < N → a ≠ b → (T a).2.1 ≠ (T b).2.1) ∧ ci < 49 ∧ (T k).2.2.2 = fin
theorem gv_put {m m1 : MM} {q : Nat} (h1 : m1.I q = m.I q) (h2 : m1.L q = m.L q) (h3 : m1.R q = m.R q) (tc k : Nat) : gv m1 tc q k = gv m tc q k := by
  match tc with
  | 0 => show Value.int _ = Value.int _; rw [h1]
  | 1 => show Value.long _ = Value.long _; rw [h2]
  | n + 2 => show va_rf _ = va_rf _; rw [h3]
theorem gv_putI {m : MM} {a q : Nat} {f : Nat → Int32} (h : q ≠ a) (tc k : Nat) : gv (m.putI a f) tc q k = gv m tc q k := gv_put (m1 := m.putI a f) (m := m) (q := q) (up_n h) rfl rfl tc k
theorem gv_putL {m : MM} {a q : Nat} {f : Nat → Int64} (h : q ≠ a) (tc k : Nat) : gv (m.putL a f) tc q k = gv m tc q k := gv_put (m1 := m.putL a f) (m := m) (q := q) rfl (up_n h) rfl tc k
theorem gv_putR {m : MM} {a q : Nat} {f : Nat → Option Nat} (h : q ≠ a) (tc k : Nat) : gv (m.putR a f) tc q k = gv m tc q k := gv_put (m1 := m.putR a f) (m := m) (q := q) rfl rfl (up_n h) tc k
theorem watO.keep {Γ : GG} {m m1 : MM} {H H1 : Heap} {a ci : Nat} (h : watO Γ m H a ci) (hq : H1[a]? = H[a]?) (hv : ∀ tc k, gv m1 tc a k = gv m tc a k) : watO Γ m1 H1 a ci := by
  obtain ⟨r, cell, h1, h2, h3, h4, h5, h6, h7⟩ := h
  exact ⟨r, cell, h1, by rw [hq]; exact h2, h3, h4, h5, h6, fun k hk => by rw [hv]; exact h7 k hk⟩
theorem watA.keep {Γ : GG} {m m1 : MM} {H H1 : Heap} {a t n : Nat} (h : watA Γ m H a t n) (hq : H1[a]? = H[a]?) (hv : ∀ tc k, gv m1 tc a k = gv m tc a k) : watA Γ m1 H1 a t n := by
  obtain ⟨cell, h1, h2, h3, h4, h5, h6⟩ := h
  exact ⟨cell, by rw [hq]; exact h1, h2, h3, h4, h5, fun k hk => by rw [hv]; exact h6 k hk⟩
theorem Rep.at {Γ : GG} {m m1 : MM} {H H1 : Heap} {a : Nat} (h : Rep Γ m H) (e1 : m1.n = m.n) (e2 : m1.b = m.b) (e3 : m1.c = m.c) (e4 : m1.K = m.K) (hz : Γ.z ≤ a) (z : H1.size = H.size) (oq : ∀ q, q ≠ a → H1[q]? = H[q]?) (hv : ∀ q, q ≠ a → ∀ tc k, gv m1 tc q k = gv m tc q k) (hO : ∀ ci, (m.K a).1 = ci + 1 → ci < 49 → watO Γ m1 H1 a ci) (hA : 50 ≤ (m.K a).1 → watA Γ m1 H1 a (m.K a).1 (m.K a).2) : Rep Γ m1 H1 := by
  obtain ⟨h1, h2, h3, h4, h5⟩ := h
  refine ⟨z.trans (h1.trans e1.symm), e2.trans h2, e3.trans h3, fun q hq => (oq q (by omega)).trans (h4 q hq), fun q => ?_⟩
  rw [e4]
  by_cases hq : q = a
  · subst hq
    exact ⟨hO, hA⟩
  · exact ⟨fun ci c1 c2 => ((h5 q).1 ci c1 c2).keep (oq q hq) (hv q hq), fun c1 => ((h5 q).2 c1).keep (oq q hq) (hv q hq)⟩
theorem ne_isStatics {v : VmData} (h : ∀ q, v ≠ .statics q) : v.isStatics = false := by
  cases v <;> first | rfl | exact absurd rfl (h _)
section GH
variable {Γ : GG} {κ : KM} {cc : ByteArray} {m0 mF : MM} {o : GO} {m : MM} {pc : Nat} {lv : List (Option Value)} {st : List Value}
theorem va_K_s {p : Program} {e : Env} {s : State} {mi : MethodId} {args : Array Value} {below : List Frame} {meth : Method} {c : Code} {R : Room} (X : OkM Γ κ cc m0 mF p e s mi args below meth c R) (hK : va_K Γ.D gcl [] Γ.s0) : va_K Γ.D gcl [] s := va_K.moved X.hal hK
theorem FL.same {own : String} {s : State} {args : Array Value} {ref O n d : String} (hts : ∀ w ∈ lw_all, w.before args s = true) (h : ref = O ∨ Cond.sameField ref O n d ∈ lw_all) (x) (hx : s.fieldFound? O n d = some x) : s.fieldFound? ref n d = some x := by
  rcases h with rfl | h
  · exact hx
  · exact u_same (hts _ h) x hx
theorem g_getf (hK : va_K Γ.D gcl [] Γ.s0) {idx ci k a : Nat} {fin : Bool} (F : FL κ.own idx ci k fin) (ha : (m.K a).1 = ci + 1) (d : decode cc pc = .ok (.getfield idx, 3)) (kk : G Γ κ cc m0 mF o m (pc + 3) lv (gv m (gtc (gty ci k)) a k :: st)) : G Γ κ cc m0 mF o m pc lv (.ref a :: st) := by
  refine ⟨kk.1, fun p e s mi args below meth c R X H locs cells slots ls h1 h2 h3 h4 h5 => ?_⟩
  obtain ⟨C, T, N, ref, f1, f2, f3, f4, f5, f6, f7, f8, f9⟩ := F
  obtain ⟨r, cell, w1, w2, w3, w4, w5, w6, w7⟩ := (h1.2.2.2.2 a).1 ci ha f8
  cases f1.symm.trans w1
  obtain ⟨hS, hfc, kC, hkC, hkind⟩ := (va_K_s X hK).1 ci _ f1
  obtain ⟨cf, kf, fi, f, hi, hsl⟩ := hS k f3
  refine W.getf X.hx X.hb X.hown (X.hts _ f4) (FL.same (own := ref) X.hts f5 _ hi) (u_facts hfc hkC (u_lays X.hts f2 f3) hi).1 w2 w4 ?_ rfl rfl d (kk.2 p e s mi args below meth c R X H locs cells slots ls h1 h2 h3 h4 h5)
  rw [hsl]
  exact w7 k f3
theorem g_getI (hK : va_K Γ.D gcl [] Γ.s0) {idx ci k a : Nat} {fin : Bool} (F : FL κ.own idx ci k fin) (ht : gtc (gty ci k) = 0) (ha : (m.K a).1 = ci + 1) (d : decode cc pc = .ok (.getfield idx, 3)) (kk : G Γ κ cc m0 mF o m (pc + 3) lv (.int (m.I a k) :: st)) : G Γ κ cc m0 mF o m pc lv (.ref a :: st) := g_getf hK F ha d (by rw [ht]; exact kk)
theorem g_getL (hK : va_K Γ.D gcl [] Γ.s0) {idx ci k a : Nat} {fin : Bool} (F : FL κ.own idx ci k fin) (ht : gtc (gty ci k) = 1) (ha : (m.K a).1 = ci + 1) (d : decode cc pc = .ok (.getfield idx, 3)) (kk : G Γ κ cc m0 mF o m (pc + 3) lv (.long (m.L a k) :: st)) : G Γ κ cc m0 mF o m pc lv (.ref a :: st) := g_getf hK F ha d (by rw [ht]; exact kk)
theorem g_getR (hK : va_K Γ.D gcl [] Γ.s0) {idx ci k a : Nat} {fin : Bool} (F : FL κ.own idx ci k fin) (ht : gtc (gty ci k) = 2) (ha : (m.K a).1 = ci + 1) (d : decode cc pc = .ok (.getfield idx, 3)) (kk : G Γ κ cc m0 mF o m (pc + 3) lv (va_rf (m.R a k) :: st)) : G Γ κ cc m0 mF o m pc lv (.ref a :: st) := g_getf hK F ha d (by rw [ht]; exact kk)
/-- of any reference: as the function gI, gL, gR says -/
theorem g_fI (hK : va_K Γ.D gcl [] Γ.s0) {idx ci k : Nat} {r : Option Nat} {v : Int32} {fin : Bool} (F : FL κ.own idx ci k fin) (ht : gtc (gty ci k) = 0) (ha : gI m r (ci + 1) k = some v) (d : decode cc pc = .ok (.getfield idx, 3)) (kk : G Γ κ cc m0 mF o m (pc + 3) lv (.int v :: st)) : G Γ κ cc m0 mF o m pc lv (va_rf r :: st) := by
  cases r with
  | none => cases ha
  | some a =>
    simp only [gI] at ha
    split at ha
    · cases ha
      exact g_getI hK F ht (by assumption) d kk
    · cases ha
theorem g_fL (hK : va_K Γ.D gcl [] Γ.s0) {idx ci k : Nat} {r : Option Nat} {v : Int64} {fin : Bool} (F : FL κ.own idx ci k fin) (ht : gtc (gty ci k) = 1) (ha : gL m r (ci + 1) k = some v) (d : decode cc pc = .ok (.getfield idx, 3)) (kk : G Γ κ cc m0 mF o m (pc + 3) lv (.long v :: st)) : G Γ κ cc m0 mF o m pc lv (va_rf r :: st) := by
  cases r with
  | none => cases ha
  | some a =>
    simp only [gL] at ha
    split at ha
    · cases ha
      exact g_getL hK F ht (by assumption) d kk
    · cases ha
theorem g_fR (hK : va_K Γ.D gcl [] Γ.s0) {idx ci k : Nat} {r v : Option Nat} {fin : Bool} (F : FL κ.own idx ci k fin) (ht : gtc (gty ci k) = 2) (ha : gR m r (ci + 1) k = some v) (d : decode cc pc = .ok (.getfield idx, 3)) (kk : G Γ κ cc m0 mF o m (pc + 3) lv (va_rf v :: st)) : G Γ κ cc m0 mF o m pc lv (va_rf r :: st) := by
  cases r with
  | none => cases ha
  | some a =>
    simp only [gR] at ha
    split at ha
    · cases ha
      exact g_getR hK F ht (by assumption) d kk
    · cases ha
/-- a write of a field -/
theorem g_putf (hK : va_K Γ.D gcl [] Γ.s0) {idx ci k a : Nat} {fin : Bool} {v : Value} {m1 : MM} (F : FL κ.own idx ci k fin) (hin : fin = true → κ.y.name = "<init>" ∧ ∀ C T N, gcl[ci]? = some (C, T, N) → (T k).1 = κ.own) (ha : (m.K a).1 = ci + 1) (hz : m.b ≤ a) (e1 : m1.n = m.n) (e0 : m1.s = m.s) (e2 : m1.b = m.b) (e3 : m1.c = m.c) (e4 : m1.K = m.K)
    (hv : ∀ q, q ≠ a → ∀ tc j, gv m1 tc q j = gv m tc q j) (hw : ∀ j, j ≠ k → gv m1 (gtc (gty ci j)) a j = gv m (gtc (gty ci j)) a j) (hwk : gv m1 (gtc (gty ci k)) a k = v)
    (hn : narrow (gty ci k) v = v) (hft : fits (gty ci k) v = true)
    (d : decode cc pc = .ok (.putfield idx, 3)) (kk : G Γ κ cc m0 mF o m1 (pc + 3) lv st) : G Γ κ cc m0 mF o m pc lv (v :: .ref a :: st) := by
  have hE : Ext m m1 := ⟨by rw [e1]; exact Nat.le_refl _, by rw [e0]; exact Nat.le_refl _, e2, e3, fun q _ => by rw [e4]⟩
  refine ⟨hE.tr kk.1, fun p e s mi args below meth c R X H locs cells slots ls h1 h2 h3 h4 h5 => ?_⟩
  obtain ⟨C, T, N, ref, f1, f2, f3, f4, f5, f6, f7, f8, f9⟩ := F
  obtain ⟨r, cell, w1, w2, w3, w4, w5, w6, w7⟩ := (h1.2.2.2.2 a).1 ci ha f8
  cases f1.symm.trans w1
  have hKs := va_K_s X hK
  obtain ⟨hS, hfc, kC, hkC, hkind⟩ := hKs.1 ci _ f1
  obtain ⟨cf, kf, fi, f, hi, hsl⟩ := hS k f3
  have hza : Γ.z ≤ a := by rw [← h1.2.1]; exact hz
  have hvm := w6 hza
  have hst := (u_facts hfc hkC (u_lays X.hts f2 f3) hi).1
  have hap := va_apart (own := κ.own) X.hts f2 (gty ci) f6 f7 hKs f1
  have hlt : f.slot < cell.slots.size := by rw [hsl]; exact (Array.getElem?_eq_some_iff.mp (w7 k f3)).1
  have fin_ : ∀ (H1 : Heap) , H1[a]? = some (cell.setSlot f.slot v) → H1.size = H.size → (∀ q, q ≠ a → H1[q]? = H[q]?) → W p Γ.l e R s mi args below meth c H1 (locs ++ [⟨a, f.slot⟩]) cells slots (gQ Γ m0 mF o s below) (F0 mi (pc + 3) ls st) := by
    intro H1 g1 g2 g3
    refine kk.2 p e s mi args below meth c R X H1 _ cells slots ls (h1.at e1 e2 e3 e4 hza g2 g3 hv (fun c2 k1 k2 => ?_) (fun k1 => by omega)) ?_ (by rw [e1]; exact h3) (by rw [e0]; exact h4) h5
    · have : c2 = ci := by omega
      subst this
      refine ⟨_, _, f1, g1, w3, by show cell.vm ≠ _; exact w4, w5, w6, fun j hj => ?_⟩
      by_cases hjk : j = k
      · subst hjk
        rw [hwk, ← hsl]
        show (cell.slots.setIfInBounds f.slot v)[f.slot]? = some v
        simp [Array.getElem?_setIfInBounds, hlt]
      · rw [hw j hjk]
        have hne : f.slot ≠ Γ.D.2 c2 j := by rw [hsl]; exact hap k j f3 hj (Ne.symm hjk)
        show (cell.slots.setIfInBounds f.slot v)[Γ.D.2 c2 j]? = _
        rw [Array.getElem?_setIfInBounds_ne hne]
        exact w7 j hj
    · intro z hz2
      rcases List.mem_append.mp hz2 with h | h
      · exact h2 z h
      · rw [List.mem_singleton.mp h]; exact hza
  have hlk := X.hts _ f4
  have hsm := FL.same (own := ref) X.hts f5 _ hi
  cases fin with
  | false =>
    have hlay := X.hts _ (f2 _ (u_in_lay f3))
    unfold u_lay at hlay
    rw [if_neg (by rw [f9]; decide)] at hlay
    have h6 := u_store hfc hkC hkind hlay hi (f6 k f3) hn hft
    exact W.putK X.hx X.hb (f := f) ⟨X.hown, hlk, ⟨_, _, _, hsm⟩, hst⟩ (by rw [w3]; exact h6) w2 hvm hlt rfl rfl d fin_
  | true =>
    have h6 := u_fits hfc hkC hkind (u_lays X.hts f2 f3) hi (f6 k f3) hn hft
    have hlay := X.hts _ (f2 _ (u_in_lay f3))
    unfold u_lay at hlay
    rw [if_pos f9] at hlay
    have hcf : mi.cls = cf := by
      obtain ⟨_, _, c', _, _, _, -, -, hf', -, -, -, hown2, -⟩ := Cond.laysFinal_spec hlay
      have e1 : c' = cf := by have := hi.symm.trans hf'; simp at this; exact this.1.symm
      rw [(hin rfl).2 _ _ _ f1] at hown2
      rw [← e1]; exact Option.some.inj (X.hown.symm.trans hown2)
    exact W.putFinK X.hx X.hb X.hown hlk hsm hst hcf (X.hnm.trans (hin rfl).1) (by rw [w3]; exact h6) w2 hvm hlt rfl rfl d fin_
theorem fit_narrow {t : Nat} {ty : FieldType} {v : Int32} (ht : (t = 50 ∧ ty = .int) ∨ (t = 51 ∧ ty = .byte) ∨ (t = 52 ∧ ty = .boolean)) (h : fitT t v = true) : narrow ty (.int v) = .int v ∧ fits ty (.int v) = true := by
  rcases ht with ⟨rfl, rfl⟩ | ⟨rfl, rfl⟩ | ⟨rfl, rfl⟩
  · exact ⟨rfl, rfl⟩
  · have h1 : v.toInt8.toInt32 = v := by simpa [fitT] using h
    refine ⟨by show Value.int _ = _; rw [h1], ?_⟩
    rw [← h1]
    exact pk_fb v
  · have h1 : v = 0 ∨ v = 1 := by simpa [fitT] using h
    rcases h1 with rfl | rfl
    · exact ⟨rfl, by decide⟩
    · exact ⟨rfl, by decide⟩
theorem g_pI (hK : va_K Γ.D gcl [] Γ.s0) {idx ci k t : Nat} {r : Option Nat} {v : Int32} {fin : Bool} {m1 : MM} (F : FL κ.own idx ci k fin) (hin : fin = true → κ.y.name = "<init>" ∧ ∀ C T N, gcl[ci]? = some (C, T, N) → (T k).1 = κ.own) (ht : gtc (gty ci k) = 0) (ht2 : (t = 50 ∧ gty ci k = .int) ∨ (t = 51 ∧ gty ci k = .byte) ∨ (t = 52 ∧ gty ci k = .boolean)) (ha : pI m r (ci + 1) k t v = some m1) (d : decode cc pc = .ok (.putfield idx, 3)) (kk : G Γ κ cc m0 mF o m1 (pc + 3) lv st) : G Γ κ cc m0 mF o m pc lv (.int v :: va_rf r :: st) := by
  cases r with
  | none => cases ha
  | some a =>
    simp only [pI] at ha
    split at ha
    · rename_i h
      cases ha
      obtain ⟨h1, h2, h3⟩ := h
      obtain ⟨n1, n2⟩ := fit_narrow ht2 h3
      refine g_putf (m1 := m.putI a (up (m.I a) k v)) hK F hin h1 h2 rfl rfl rfl rfl rfl (fun q hq tc j => gv_putI hq tc j) (fun j hj => ?_) ?_ n1 n2 d kk
      · generalize gtc (gty ci j) = tc
        match tc with
        | 0 => show Value.int (up m.I a _ a j) = Value.int _; rw [up_s, up_n hj]
        | 1 => rfl
        | n + 2 => rfl
      · rw [ht]
        show Value.int (up m.I a _ a k) = _
        rw [up_s, up_s]
    · cases ha
theorem g_pL (hK : va_K Γ.D gcl [] Γ.s0) {idx ci k : Nat} {r : Option Nat} {v : Int64} {fin : Bool} {m1 : MM} (F : FL κ.own idx ci k fin) (hin : fin = true → κ.y.name = "<init>" ∧ ∀ C T N, gcl[ci]? = some (C, T, N) → (T k).1 = κ.own) (ht : gty ci k = .long) (ha : pL m r (ci + 1) k v = some m1) (d : decode cc pc = .ok (.putfield idx, 3)) (kk : G Γ κ cc m0 mF o m1 (pc + 3) lv st) : G Γ κ cc m0 mF o m pc lv (.long v :: va_rf r :: st) := by
  cases r with
  | none => cases ha
  | some a =>
    simp only [pL] at ha
    split at ha
    · rename_i h
      cases ha
      obtain ⟨h1, h2⟩ := h
      refine g_putf (m1 := m.putL a (up (m.L a) k v)) hK F hin h1 h2 rfl rfl rfl rfl rfl (fun q hq tc j => gv_putL hq tc j) (fun j hj => ?_) ?_ (by rw [ht]; rfl) (by rw [ht]; rfl) d kk
      · generalize gtc (gty ci j) = tc
        match tc with
        | 0 => rfl
        | 1 => show Value.long (up m.L a _ a j) = Value.long _; rw [up_s, up_n hj]
        | n + 2 => rfl
      · rw [ht]
        show Value.long (up m.L a _ a k) = _
        rw [up_s, up_s]
    · cases ha
theorem g_pR (hK : va_K Γ.D gcl [] Γ.s0) {idx ci k : Nat} {r v : Option Nat} {fin : Bool} {m1 : MM} (F : FL κ.own idx ci k fin) (hin : fin = true → κ.y.name = "<init>" ∧ ∀ C T N, gcl[ci]? = some (C, T, N) → (T k).1 = κ.own) (ht : (∃ C, gty ci k = .object C) ∨ ∃ ty, gty ci k = .array ty) (ha : pR m r (ci + 1) k v = some m1) (d : decode cc pc = .ok (.putfield idx, 3)) (kk : G Γ κ cc m0 mF o m1 (pc + 3) lv st) : G Γ κ cc m0 mF o m pc lv (va_rf v :: va_rf r :: st) := by
  cases r with
  | none => cases ha
  | some a =>
    simp only [pR] at ha
    split at ha
    · rename_i h
      cases ha
      obtain ⟨h1, h2⟩ := h
      have ht2 : gtc (gty ci k) = 2 := by rcases ht with ⟨C, e⟩ | ⟨C, e⟩ <;> rw [e] <;> rfl
      refine g_putf (m1 := m.putR a (up (m.R a) k v)) hK F hin h1 h2 rfl rfl rfl rfl rfl (fun q hq tc j => gv_putR hq tc j) (fun j hj => ?_) ?_ ?_ ?_ d kk
      · generalize gtc (gty ci j) = tc
        match tc with
        | 0 => rfl
        | 1 => rfl
        | n + 2 => show va_rf (up m.R a _ a j) = va_rf _; rw [up_s, up_n hj]
      · rw [ht2]
        show va_rf (up m.R a _ a k) = _
        rw [up_s, up_s]
      · rcases ht with ⟨C, e⟩ | ⟨C, e⟩ <;> rw [e] <;> cases v <;> rfl
      · rcases ht with ⟨C, e⟩ | ⟨C, e⟩ <;> rw [e] <;> cases v <;> rfl
    · cases ha
end GH
