/-! THE MEMORY OF A RUN, typed by what a cell's places hold; the operations that bytecode does on it, as partial functions; loops. -/
/-- I, L, R: whole numbers, longs, references, by address and place; K0: kind and length by address; n: the next address; s: places made; b: the first address that may be written; c: constants -/
def MM : Type := (Nat → Nat → Int32) × (Nat → Nat → Int64) × (Nat → Nat → Option Nat) × (Nat → Nat × Nat) × Nat × Nat × Nat × (Nat → Option Nat)
def MM.I (m : MM) : Nat → Nat → Int32 := m.1
def MM.L (m : MM) : Nat → Nat → Int64 := m.2.1
def MM.R (m : MM) : Nat → Nat → Option Nat := m.2.2.1
def MM.K0 (m : MM) : Nat → Nat × Nat := m.2.2.2.1
def MM.n (m : MM) : Nat := m.2.2.2.2.1
def MM.s (m : MM) : Nat := m.2.2.2.2.2.1
def MM.b (m : MM) : Nat := m.2.2.2.2.2.2.1
def MM.c (m : MM) : Nat → Option Nat := m.2.2.2.2.2.2.2
/-- kind and length of the cell at an address; (0, 0) where none is known -/
def MM.K (m : MM) (a : Nat) : Nat × Nat := if a < m.n then m.K0 a else (0, 0)
def up {α : Type} (f : Nat → α) (k : Nat) (v : α) : Nat → α := fun j => if j = k then v else f j
def MM.putI (m : MM) (a : Nat) (f : Nat → Int32) : MM := (up m.I a f, m.L, m.R, m.K0, m.n, m.s, m.b, m.c)
def MM.putL (m : MM) (a : Nat) (f : Nat → Int64) : MM := (m.I, up m.L a f, m.R, m.K0, m.n, m.s, m.b, m.c)
def MM.putR (m : MM) (a : Nat) (f : Nat → Option Nat) : MM := (m.I, m.L, up m.R a f, m.K0, m.n, m.s, m.b, m.c)
def MM.new (m : MM) (kd len sl : Nat) : MM := (up m.I m.n (fun _ => 0), up m.L m.n (fun _ => 0), up m.R m.n (fun _ => none), up m.K0 m.n (kd, len), m.n + 1, m.s + sl, m.b, m.c)
theorem up_s {α : Type} (f : Nat → α) (k : Nat) (v : α) : up f k v k = v := by simp [up]
theorem up_n {α : Type} {f : Nat → α} {k j : Nat} {v : α} (h : j ≠ k) : up f k v j = f j := by simp [up, h]
theorem up_up {α : Type} (f : Nat → α) (k : Nat) (v w : α) : up (up f k v) k w = up f k w := by funext j; by_cases h : j = k <;> simp [up, h]
theorem up_id {α : Type} (f : Nat → α) (k : Nat) : up f k (f k) = f := by funext j; by_cases h : j = k <;> simp [up, h]
theorem putI_I (m : MM) (a : Nat) (f : Nat → Int32) : (m.putI a f).I = up m.I a f := rfl
theorem putI_L (m : MM) (a : Nat) (f : Nat → Int32) : (m.putI a f).L = m.L := rfl
theorem putI_R (m : MM) (a : Nat) (f : Nat → Int32) : (m.putI a f).R = m.R := rfl
theorem putI_K (m : MM) (a : Nat) (f : Nat → Int32) : (m.putI a f).K = m.K := rfl
theorem putI_nn (m : MM) (a : Nat) (f : Nat → Int32) : (m.putI a f).n = m.n := rfl
theorem putI_s (m : MM) (a : Nat) (f : Nat → Int32) : (m.putI a f).s = m.s := rfl
theorem putI_b (m : MM) (a : Nat) (f : Nat → Int32) : (m.putI a f).b = m.b := rfl
theorem putI_c (m : MM) (a : Nat) (f : Nat → Int32) : (m.putI a f).c = m.c := rfl
theorem putL_I (m : MM) (a : Nat) (f : Nat → Int64) : (m.putL a f).I = m.I := rfl
theorem putL_L (m : MM) (a : Nat) (f : Nat → Int64) : (m.putL a f).L = up m.L a f := rfl
theorem putL_R (m : MM) (a : Nat) (f : Nat → Int64) : (m.putL a f).R = m.R := rfl
theorem putL_K (m : MM) (a : Nat) (f : Nat → Int64) : (m.putL a f).K = m.K := rfl
theorem putL_nn (m : MM) (a : Nat) (f : Nat → Int64) : (m.putL a f).n = m.n := rfl
theorem putL_s (m : MM) (a : Nat) (f : Nat → Int64) : (m.putL a f).s = m.s := rfl
theorem putL_b (m : MM) (a : Nat) (f : Nat → Int64) : (m.putL a f).b = m.b := rfl
theorem putL_c (m : MM) (a : Nat) (f : Nat → Int64) : (m.putL a f).c = m.c := rfl
theorem putR_I (m : MM) (a : Nat) (f : Nat → Option Nat) : (m.putR a f).I = m.I := rfl
theorem putR_L (m : MM) (a : Nat) (f : Nat → Option Nat) : (m.putR a f).L = m.L := rfl
theorem putR_R (m : MM) (a : Nat) (f : Nat → Option Nat) : (m.putR a f).R = up m.R a f := rfl
theorem putR_K (m : MM) (a : Nat) (f : Nat → Option Nat) : (m.putR a f).K = m.K := rfl
theorem putR_nn (m : MM) (a : Nat) (f : Nat → Option Nat) : (m.putR a f).n = m.n := rfl
theorem putR_s (m : MM) (a : Nat) (f : Nat → Option Nat) : (m.putR a f).s = m.s := rfl
theorem putR_b (m : MM) (a : Nat) (f : Nat → Option Nat) : (m.putR a f).b = m.b := rfl
theorem putR_c (m : MM) (a : Nat) (f : Nat → Option Nat) : (m.putR a f).c = m.c := rfl
theorem new_I (m : MM) (kd len sl : Nat) : (m.new kd len sl).I = up m.I m.n (fun _ => 0) := rfl
theorem new_L (m : MM) (kd len sl : Nat) : (m.new kd len sl).L = up m.L m.n (fun _ => 0) := rfl
theorem new_R (m : MM) (kd len sl : Nat) : (m.new kd len sl).R = up m.R m.n (fun _ => none) := rfl
theorem new_nn (m : MM) (kd len sl : Nat) : (m.new kd len sl).n = m.n + 1 := rfl
theorem new_s (m : MM) (kd len sl : Nat) : (m.new kd len sl).s = m.s + sl := rfl
theorem new_b (m : MM) (kd len sl : Nat) : (m.new kd len sl).b = m.b := rfl
theorem new_c (m : MM) (kd len sl : Nat) : (m.new kd len sl).c = m.c := rfl
theorem new_K (m : MM) (kd len sl : Nat) : (m.new kd len sl).K = up m.K m.n (kd, len) := by
  funext a
  show (if a < m.n + 1 then up m.K0 m.n (kd, len) a else (0, 0)) = up m.K m.n (kd, len) a
  by_cases h : a = m.n
  · subst h
    simp [up]
  · by_cases h2 : a < m.n
    · have h3 : a < m.n + 1 := by omega
      simp [up, h, h3, MM.K, h2]
    · have h3 : ¬ a < m.n + 1 := by omega
      simp [up, h, h3, MM.K, h2]
theorem K_lt {m : MM} {a : Nat} (h : (m.K a).1 ≠ 0) : a < m.n := by
  by_cases h2 : a < m.n
  · exact h2
  · exact absurd (by simp [MM.K, h2]) h
theorem K_ge {m : MM} {a : Nat} (h : m.n ≤ a) : m.K a = (0, 0) := by
  have h2 : ¬ a < m.n := by omega
  simp [MM.K, h2]
/-- m2 comes behind m: no kind changes, cells are added -/
def Ext (m m2 : MM) : Prop := m.n ≤ m2.n ∧ m.s ≤ m2.s ∧ m2.b = m.b ∧ m2.c = m.c ∧ ∀ a, (m.K a).1 ≠ 0 → m2.K a = m.K a
theorem Ext.rf (m : MM) : Ext m m := ⟨Nat.le_refl _, Nat.le_refl _, rfl, rfl, fun _ _ => rfl⟩
theorem Ext.tr {m m2 m3 : MM} (h : Ext m m2) (k : Ext m2 m3) : Ext m m3 := by
  obtain ⟨h1, h2, h3, h4, h5⟩ := h
  obtain ⟨k1, k2, k3, k4, k5⟩ := k
  exact ⟨Nat.le_trans h1 k1, Nat.le_trans h2 k2, k3.trans h3, k4.trans h4, fun a ha => (k5 a (by rw [h5 a ha]; exact ha)).trans (h5 a ha)⟩
theorem Ext.new (m : MM) (kd len sl : Nat) : Ext m (m.new kd len sl) := by
  refine ⟨Nat.le_succ _, Nat.le_add_right _ _, rfl, rfl, fun a ha => ?_⟩
  rw [new_K, up_n]
  have := K_lt ha
  omega
theorem Ext.kd {m m2 : MM} (h : Ext m m2) {a k : Nat} (hk : (m.K a).1 = k + 1) : (m2.K a).1 = k + 1 := by
  rw [h.2.2.2.2 a (by rw [hk]; exact Nat.succ_ne_zero k)]
  exact hk
/-! partial functions -/
def bd {α β : Type} (x : Option α) (f : α → Option β) : Option β := match x with
  | none => none
  | some a => f a
def bd2 {α γ β : Type} (x : Option (α × γ)) (f : α → γ → Option β) : Option β := match x with
  | none => none
  | some a => f a.1 a.2
theorem bd_some {α β : Type} (a : α) (f : α → Option β) : bd (some a) f = f a := rfl
theorem bd2_some {α γ β : Type} (a : α) (c : γ) (f : α → γ → Option β) : bd2 (some (a, c)) f = f a c := rfl
theorem bd_of {α β : Type} {x : Option α} {f : α → Option β} {r : β} (h : bd x f = some r) : ∃ a, x = some a ∧ f a = some r := by
  cases x with
  | none => cases h
  | some a => exact ⟨a, rfl, h⟩
theorem bd2_of {α γ β : Type} {x : Option (α × γ)} {f : α → γ → Option β} {r : β} (h : bd2 x f = some r) : ∃ a c, x = some (a, c) ∧ f a c = some r := by
  cases x with
  | none => cases h
  | some a => exact ⟨a.1, a.2, rfl, h⟩
theorem ite_of {α : Type} {c : Prop} {d : Decidable c} {x y : Option α} {r : α} (h : (if c then x else y) = some r) : (c ∧ x = some r) ∨ (¬ c ∧ y = some r) := by
  by_cases hc : c
  · rw [if_pos hc] at h
    exact Or.inl ⟨hc, h⟩
  · rw [if_neg hc] at h
    exact Or.inr ⟨hc, h⟩
/-! loops: a step goes to the next state of the loop, or ends with a result -/
def rx_it {S R : Type} (step : S → Option (S ⊕ R)) : Nat → S → Option R
  | 0, _ => none
  | n + 1, s => match step s with
    | none => none
    | some (.inl s') => rx_it step n s'
    | some (.inr r) => some r
noncomputable def rx_run {S R : Type} (step : S → Option (S ⊕ R)) (s : S) : Option R := @dite (Option R) (∃ r n, rx_it step n s = some r) (Classical.propDecidable _) (fun h => some (Classical.choose h)) (fun _ => none)
theorem rx_mono {S R : Type} {step : S → Option (S ⊕ R)} : ∀ (n k : Nat) (s : S) (r : R), rx_it step n s = some r → rx_it step (n + k) s = some r := by
  intro n
  induction n with
  | zero => intro k s r h; cases h
  | succ n ih =>
    intro k s r h
    rw [Nat.succ_add]
    simp only [rx_it] at h ⊢
    cases hs : step s with
    | none => rw [hs] at h; cases h
    | some o =>
      rw [hs] at h
      cases o with
      | inl s' => exact ih k s' r h
      | inr r' => exact h
theorem rx_det {S R : Type} {step : S → Option (S ⊕ R)} {n k : Nat} {s : S} {r q : R} (h : rx_it step n s = some r) (h2 : rx_it step k s = some q) : r = q := by
  have a := rx_mono n k s r h
  have b := rx_mono k n s q h2
  rw [Nat.add_comm k n, a] at b
  exact Option.some.inj b
theorem rx_iff {S R : Type} {step : S → Option (S ⊕ R)} {s : S} {r : R} : rx_run step s = some r ↔ ∃ n, rx_it step n s = some r := by
  unfold rx_run
  by_cases h : ∃ r n, rx_it step n s = some r
  · rw [dif_pos h]
    constructor
    · intro e
      cases e
      exact Classical.choose_spec h
    · rintro ⟨n, hn⟩
      obtain ⟨k, hk⟩ := Classical.choose_spec h
      rw [rx_det hn hk]
  · rw [dif_neg h]
    constructor
    · intro e; cases e
    · intro e; exact absurd ⟨r, e⟩ h
noncomputable def rx_go {S R : Type} (step : S → Option (S ⊕ R)) : S ⊕ R → Option R
  | .inl s => rx_run step s
  | .inr r => some r
theorem rx_eq {S R : Type} (step : S → Option (S ⊕ R)) (s : S) : rx_run step s = bd (step s) (rx_go step) := by
  apply Option.ext
  intro r
  rw [rx_iff]
  constructor
  · rintro ⟨n, h⟩
    cases n with
    | zero => cases h
    | succ n =>
      simp only [rx_it] at h
      cases hs : step s with
      | none => rw [hs] at h; cases h
      | some o =>
        rw [hs] at h
        cases o with
        | inl s' => exact rx_iff.mpr ⟨n, h⟩
        | inr r' => exact h
  · intro h
    cases hs : step s with
    | none => rw [hs] at h; cases h
    | some o =>
      rw [hs] at h
      cases o with
      | inl s' =>
        obtain ⟨n, hn⟩ := rx_iff.mp (show rx_run step s' = some r from h)
        exact ⟨n + 1, by simp only [rx_it, hs]; exact hn⟩
      | inr r' => exact ⟨1, by simp only [rx_it, hs]; exact h⟩
theorem rx_inl {S R : Type} {step : S → Option (S ⊕ R)} {s s' : S} (h : step s = some (.inl s')) : rx_run step s = rx_run step s' := by rw [rx_eq, h]; rfl
theorem rx_inr {S R : Type} {step : S → Option (S ⊕ R)} {s : S} {r : R} (h : step s = some (.inr r)) : rx_run step s = some r := by rw [rx_eq, h]; rfl
/-- what a loop that ends with r keeps: P at a state, if P holds at the next one -/
theorem rx_ind {S R : Type} {step : S → Option (S ⊕ R)} {r : R} {P : S → Prop} (hs : ∀ s o, step s = some o → (∀ s', o = .inl s' → P s') → (∀ r', o = .inr r' → r' = r) → P s) : ∀ s, rx_run step s = some r → P s := by
  intro s h
  obtain ⟨n, hn⟩ := rx_iff.mp h
  clear h
  induction n generalizing s with
  | zero => cases hn
  | succ n ih =>
    simp only [rx_it] at hn
    cases e : step s with
    | none => rw [e] at hn; cases hn
    | some o =>
      rw [e] at hn
      cases o with
      | inl s' => exact hs s _ e (fun s2 h2 => by cases h2; exact ih s' hn) (fun r' h2 => by cases h2)
      | inr r' => exact hs s _ e (fun s2 h2 => by cases h2) (fun r2 h2 => by cases h2; exact Option.some.inj hn)
theorem rx_go_ind {S R : Type} {step : S → Option (S ⊕ R)} {r : R} {P : S → Prop} (hs : ∀ s o, step s = some o → (∀ s', o = .inl s' → P s') → (∀ r', o = .inr r' → r' = r) → P s) {o : S ⊕ R} (h : rx_go step o = some r) : (∀ s', o = .inl s' → P s') ∧ (∀ r', o = .inr r' → r' = r) := by
  cases o with
  | inl s => exact ⟨(fun s2 e => by cases e; exact rx_ind hs s h), (fun r2 e => by cases e)⟩
  | inr q => exact ⟨(fun s2 e => by cases e), (fun r2 e => by cases e; exact Option.some.inj h)⟩
/-- a loop that counts: from state a to state b -/
theorem rx_for {S R : Type} {step : S → Option (S ⊕ R)} (st : Nat → S) (a b : Nat) (hab : a ≤ b) (h : ∀ i, a ≤ i → i < b → step (st i) = some (.inl (st (i + 1)))) : rx_run step (st a) = rx_run step (st b) := by
  obtain ⟨k, rfl⟩ := Nat.exists_eq_add_of_le hab
  clear hab
  induction k with
  | zero => rfl
  | succ k ih => rw [ih (fun i h1 h2 => h i h1 (by omega)), rx_inl (h (a + k) (by omega) (by omega))]; rfl
/-! the operations; kinds: 1 + a class's number, an object; 50 int, 51 byte, 52 boolean, 53 long, 54 Object, 55 int[]: an array of these -/
def gI (m : MM) (r : Option Nat) (kd k : Nat) : Option Int32 := match r with
  | none => none
  | some a => if (m.K a).1 = kd then some (m.I a k) else none
def gL (m : MM) (r : Option Nat) (kd k : Nat) : Option Int64 := match r with
  | none => none
  | some a => if (m.K a).1 = kd then some (m.L a k) else none
def gR (m : MM) (r : Option Nat) (kd k : Nat) : Option (Option Nat) := match r with
  | none => none
  | some a => if (m.K a).1 = kd then some (m.R a k) else none
/-- t: 50 a field of int, 51 of byte, 52 of boolean: the value fits -/
def fitT (t : Nat) (v : Int32) : Bool := if t = 51 then decide (v.toInt8.toInt32 = v) else if t = 52 then decide (v = 0 ∨ v = 1) else true
def narT (t : Nat) (v : Int32) : Int32 := if t = 51 then v.toInt8.toInt32 else if t = 52 then v &&& 1 else v
def pI (m : MM) (r : Option Nat) (kd k t : Nat) (v : Int32) : Option MM := match r with
  | none => none
  | some a => if (m.K a).1 = kd ∧ m.b ≤ a ∧ fitT t v = true then some (m.putI a (up (m.I a) k v)) else none
def pL (m : MM) (r : Option Nat) (kd k : Nat) (v : Int64) : Option MM := match r with
  | none => none
  | some a => if (m.K a).1 = kd ∧ m.b ≤ a then some (m.putL a (up (m.L a) k v)) else none
def pR (m : MM) (r : Option Nat) (kd k : Nat) (v : Option Nat) : Option MM := match r with
  | none => none
  | some a => if (m.K a).1 = kd ∧ m.b ≤ a then some (m.putR a (up (m.R a) k v)) else none
def aI (m : MM) (t : Nat) (r : Option Nat) (i : Int32) : Option Int32 := match r with
  | none => none
  | some a => if (m.K a).1 = t ∧ 0 ≤ i ∧ i.toNatClampNeg < (m.K a).2 then some (m.I a i.toNatClampNeg) else none
def aL (m : MM) (r : Option Nat) (i : Int32) : Option Int64 := match r with
  | none => none
  | some a => if (m.K a).1 = 53 ∧ 0 ≤ i ∧ i.toNatClampNeg < (m.K a).2 then some (m.L a i.toNatClampNeg) else none
def aR (m : MM) (t : Nat) (r : Option Nat) (i : Int32) : Option (Option Nat) := match r with
  | none => none
  | some a => if (m.K a).1 = t ∧ 0 ≤ i ∧ i.toNatClampNeg < (m.K a).2 then some (m.R a i.toNatClampNeg) else none
def sI (m : MM) (t : Nat) (r : Option Nat) (i v : Int32) : Option MM := match r with
  | none => none
  | some a => if (m.K a).1 = t ∧ 0 ≤ i ∧ i.toNatClampNeg < (m.K a).2 ∧ m.b ≤ a then some (m.putI a (up (m.I a) i.toNatClampNeg (narT t v))) else none
def sL (m : MM) (r : Option Nat) (i : Int32) (v : Int64) : Option MM := match r with
  | none => none
  | some a => if (m.K a).1 = 53 ∧ 0 ≤ i ∧ i.toNatClampNeg < (m.K a).2 ∧ m.b ≤ a then some (m.putL a (up (m.L a) i.toNatClampNeg v)) else none
/-- a reference may be stored: in an array of Object null or any known object, in one of int[] an int array -/
def okR (m : MM) (t : Nat) (v : Option Nat) : Bool := match v with
  | none => decide (t = 54)
  | some q => if t = 54 then decide ((m.K q).1 ≠ 0) && decide ((m.K q).1 < 50) else decide ((m.K q).1 = 50) && decide (m.b ≤ q)
def sR (m : MM) (t : Nat) (r : Option Nat) (i : Int32) (v : Option Nat) : Option MM := match r with
  | none => none
  | some a => if (m.K a).1 = t ∧ 0 ≤ i ∧ i.toNatClampNeg < (m.K a).2 ∧ m.b ≤ a ∧ okR m t v = true then some (m.putR a (up (m.R a) i.toNatClampNeg v)) else none
def aN (m : MM) (t : Nat) (r : Option Nat) : Option Int32 := match r with
  | none => none
  | some a => if (m.K a).1 = t then some (Int32.ofNat (m.K a).2) else none
/-- a new array of n places; its address is m.n -/
def nA (m : MM) (t : Nat) (n : Int32) : Option MM := if 0 ≤ n ∧ n.toNatClampNeg ≤ 100000 then some (m.new t n.toNatClampNeg n.toNatClampNeg) else none
/-- a new object; its address is m.n -/
def nO (m : MM) (kd N : Nat) : Option MM := some (m.new kd N N)
/-- an object of a kind: said of a receiver -/
def isK (m : MM) (r : Option Nat) (kd : Nat) : Option Nat := match r with
  | none => none
  | some a => if (m.K a).1 = kd then some a else none
def ji_rem (x y : Int32) : Int32 := x - x / y * y
def ji_shl (x y : Int32) : Int32 := x <<< (y &&& 31)
def ji_shr (x y : Int32) : Int32 := x >>> (y &&& 31)
def ji_ushr (x y : Int32) : Int32 := (x.toUInt32 >>> (y.toUInt32 &&& Int32.toUInt32 31)).toInt32
def jl_shl (x : Int64) (y : Int32) : Int64 := x <<< (y.toInt64 &&& 63)
def jc_char (x : Int32) : Int32 := (x.toUInt32 % 65536).toInt32
def jb_byte (x : Int32) : Int32 := x.toInt8.toInt32
/-- copied: n places of f from sp on, to g from dp on -/
def cpyF {α : Type} (f g : Nat → α) (sp dp n : Nat) : Nat → α := fun j => if dp ≤ j ∧ j < dp + n then f (sp + (j - dp)) else g j
def cI (m : MM) (t : Nat) (r : Option Nat) (sp : Int32) (q : Option Nat) (dp n : Int32) : Option MM := match r, q with
  | some a, some e => if (m.K a).1 = t ∧ (m.K e).1 = t ∧ 0 ≤ sp ∧ 0 ≤ dp ∧ 0 ≤ n ∧ sp.toNatClampNeg + n.toNatClampNeg ≤ (m.K a).2 ∧ dp.toNatClampNeg + n.toNatClampNeg ≤ (m.K e).2 ∧ m.b ≤ e ∧ ((List.range n.toNatClampNeg).all fun i => fitT t (m.I a (sp.toNatClampNeg + i))) = true then some (m.putI e (cpyF (m.I a) (m.I e) sp.toNatClampNeg dp.toNatClampNeg n.toNatClampNeg)) else none
  | _, _ => none
def cR (m : MM) (t : Nat) (r : Option Nat) (sp : Int32) (q : Option Nat) (dp n : Int32) : Option MM := match r, q with
  | some a, some e => if (m.K a).1 = t ∧ (m.K e).1 = t ∧ 0 ≤ sp ∧ 0 ≤ dp ∧ 0 ≤ n ∧ sp.toNatClampNeg + n.toNatClampNeg ≤ (m.K a).2 ∧ dp.toNatClampNeg + n.toNatClampNeg ≤ (m.K e).2 ∧ m.b ≤ e ∧ ((List.range n.toNatClampNeg).all fun i => okR m t (m.R a (sp.toNatClampNeg + i))) = true then some (m.putR e (cpyF (m.R a) (m.R e) sp.toNatClampNeg dp.toNatClampNeg n.toNatClampNeg)) else none
  | _, _ => none
/-- a reference of a kind, or null -/
def okC (m : MM) (kd : Nat) (r : Option Nat) : Bool := match r with
  | none => true
  | some a => decide ((m.K a).1 = kd)
/-- a copy of a byte array; its address is m.n -/
def clB (m : MM) (r : Option Nat) : Option MM := match r with
  | none => none
  | some a => if (m.K a).1 = 51 ∧ m.b ≤ a ∧ ((List.range (m.K a).2).all fun i => fitT 51 (m.I a i)) = true then some ((m.new 51 (m.K a).2 (m.K a).2).putI m.n (m.I a)) else none
/-- n rows of k whole numbers under one array -/
def nMg (m : MM) (N k : Nat) : MM := ((fun a => if m.n ≤ a ∧ a < m.n + 1 + N then fun _ => 0 else m.I a), (fun a => if m.n ≤ a ∧ a < m.n + 1 + N then fun _ => 0 else m.L a), (fun a => if a = m.n then (fun j => if j < N then some (m.n + 1 + j) else none) else if m.n ≤ a ∧ a < m.n + 1 + N then fun _ => none else m.R a), (fun a => if a = m.n then (55, N) else if m.n ≤ a ∧ a < m.n + 1 + N then (50, k) else m.K0 a), m.n + 1 + N, m.s + (N + N * k), m.b, m.c)
/-- an array of arrays; its address is m.n -/
def nM (m : MM) (n k : Int32) : Option MM := if 0 ≤ n ∧ 0 ≤ k ∧ n.toNatClampNeg ≤ 1000 ∧ k.toNatClampNeg ≤ 1000 then some (nMg m n.toNatClampNeg k.toNatClampNeg) else none
theorem nMg_K (m : MM) (N k : Nat) : (nMg m N k).K = fun a => if a = m.n then (55, N) else if m.n ≤ a ∧ a < m.n + 1 + N then (50, k) else m.K a := by
  funext a
  show (if a < m.n + 1 + N then (if a = m.n then (55, N) else if m.n ≤ a ∧ a < m.n + 1 + N then (50, k) else m.K0 a) else (0, 0)) = _
  by_cases h1 : a = m.n
  · simp [h1]; omega
  · by_cases h2 : m.n ≤ a ∧ a < m.n + 1 + N
    · simp [h1, h2]
    · rw [if_neg h1, if_neg h2, if_neg h1, if_neg h2]
      unfold MM.K
      by_cases h3 : a < m.n
      · rw [if_pos h3, if_pos (by omega)]
      · rw [if_neg h3, if_neg (by omega)]
theorem Ext.nMg (m : MM) (N k : Nat) : Ext m (nMg m N k) := by
  refine ⟨by show m.n ≤ m.n + 1 + N; omega, by show m.s ≤ m.s + _; omega, rfl, rfl, fun a ha => ?_⟩
  have := K_lt ha
  rw [nMg_K]
  show (if a = m.n then (55, N) else if m.n ≤ a ∧ a < m.n + 1 + N then (50, k) else m.K a) = _
  rw [if_neg (by omega), if_neg (by omega)]
/-- the same of a cell that may be written -/
def isKz (m : MM) (r : Option Nat) (kd : Nat) : Option Nat := match r with
  | none => none
  | some a => if (m.K a).1 = kd ∧ m.b ≤ a then some a else none
/-- a call that may throw: what is thrown goes on (in a method without loops, with loops, with a handler) -/
def bdx {α β : Type} (x : Option ((α ⊕ Nat) × MM)) (f : α → MM → Option ((β ⊕ Nat) × MM)) : Option ((β ⊕ Nat) × MM) := match x with
  | none => none
  | some (.inl a, m) => f a m
  | some (.inr q, m) => some (.inr q, m)
def bdxl {α β σ : Type} (x : Option ((α ⊕ Nat) × MM)) (f : α → MM → Option (σ ⊕ ((β ⊕ Nat) × MM))) : Option (σ ⊕ ((β ⊕ Nat) × MM)) := match x with
  | none => none
  | some (.inl a, m) => f a m
  | some (.inr q, m) => some (.inr (.inr q, m))
def bdc {α ρ : Type} (x : Option ((α ⊕ Nat) × MM)) (g : Nat → MM → Option ρ) (f : α → MM → Option ρ) : Option ρ := match x with
  | none => none
  | some (.inl a, m) => f a m
  | some (.inr q, m) => g q m
theorem bdx_of {α β : Type} {x : Option ((α ⊕ Nat) × MM)} {f : α → MM → Option ((β ⊕ Nat) × MM)} {r : (β ⊕ Nat) × MM} (h : bdx x f = some r) : (∃ a m, x = some (.inl a, m) ∧ f a m = some r) ∨ ∃ q m, x = some (.inr q, m) ∧ r = (.inr q, m) := by
  rcases x with _ | ⟨a | q, m⟩
  · cases h
  · exact Or.inl ⟨a, m, rfl, h⟩
  · exact Or.inr ⟨q, m, rfl, by cases h; rfl⟩
theorem bdxl_of {α β σ : Type} {x : Option ((α ⊕ Nat) × MM)} {f : α → MM → Option (σ ⊕ ((β ⊕ Nat) × MM))} {r : σ ⊕ ((β ⊕ Nat) × MM)} (h : bdxl x f = some r) : (∃ a m, x = some (.inl a, m) ∧ f a m = some r) ∨ ∃ q m, x = some (.inr q, m) ∧ r = .inr (.inr q, m) := by
  rcases x with _ | ⟨a | q, m⟩
  · cases h
  · exact Or.inl ⟨a, m, rfl, h⟩
  · exact Or.inr ⟨q, m, rfl, by cases h; rfl⟩
theorem bdc_of {α ρ : Type} {x : Option ((α ⊕ Nat) × MM)} {g : Nat → MM → Option ρ} {f : α → MM → Option ρ} {r : ρ} (h : bdc x g f = some r) : (∃ a m, x = some (.inl a, m) ∧ f a m = some r) ∨ ∃ q m, x = some (.inr q, m) ∧ g q m = some r := by
  rcases x with _ | ⟨a | q, m⟩
  · cases h
  · exact Or.inl ⟨a, m, rfl, h⟩
  · exact Or.inr ⟨q, m, rfl, h⟩
def okZ (m : MM) (kd : Nat) (r : Option Nat) : Bool := match r with
  | none => true
  | some a => decide ((m.K a).1 = kd) && decide (m.b ≤ a)
def ji_max (x y : Int32) : Int32 := if x < y then y else x
def ji_min (x y : Int32) : Int32 := if y < x then y else x
def ji_abs (x : Int32) : Int32 := if 0 ≤ x then x else 0 - x
def jl_min (x y : Int64) : Int64 := if y < x then y else x
