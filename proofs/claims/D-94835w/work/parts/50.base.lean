/-! THE PURE PART: total functions, loops, whole numbers -/
set_option maxRecDepth 100000
/-- x comes to something that has Q -/
def T {α : Type} (x : Option α) (Q : α → Prop) : Prop := ∃ a, x = some a ∧ Q a
theorem T_some {α : Type} {a : α} {Q : α → Prop} : T (some a) Q ↔ Q a := ⟨fun ⟨b, e, h⟩ => by cases e; exact h, fun h => ⟨a, rfl, h⟩⟩
theorem T_bd {α β : Type} {x : Option α} {f : α → Option β} {Q : β → Prop} : T (bd x f) Q ↔ T x (fun a => T (f a) Q) := by
  cases x with
  | none => exact ⟨(fun h => by obtain ⟨a, e, _⟩ := h; cases e), (fun h => by obtain ⟨a, e, _⟩ := h; cases e)⟩
  | some a => exact (T_some (Q := fun a => T (f a) Q)).symm
theorem T_bd2 {α β γ : Type} {x : Option (α × γ)} {f : α → γ → Option β} {Q : β → Prop} : T (bd2 x f) Q ↔ T x (fun p => T (f p.1 p.2) Q) := by
  cases x with
  | none => exact ⟨(fun h => by obtain ⟨a, e, _⟩ := h; cases e), (fun h => by obtain ⟨a, e, _⟩ := h; cases e)⟩
  | some a => exact (T_some (Q := fun p : α × γ => T (f p.1 p.2) Q)).symm
theorem T_ite {α : Type} {c : Prop} {d : Decidable c} {x y : Option α} {Q : α → Prop} : T (if c then x else y) Q ↔ (c → T x Q) ∧ (¬ c → T y Q) := by
  by_cases h : c
  · rw [if_pos h]; exact ⟨fun q => ⟨fun _ => q, fun n => absurd h n⟩, fun q => q.1 h⟩
  · rw [if_neg h]; exact ⟨fun q => ⟨fun n => absurd n h, fun _ => q⟩, fun q => q.2 h⟩
theorem T.imp {α : Type} {x : Option α} {Q Q' : α → Prop} (h : T x Q) (k : ∀ a, Q a → Q' a) : T x Q' := by
  obtain ⟨a, e, q⟩ := h
  exact ⟨a, e, k a q⟩
theorem T.of {α : Type} {x : Option α} {a : α} {Q : α → Prop} (h : x = some a) (q : Q a) : T x Q := ⟨a, h, q⟩
theorem T.and {α : Type} {x : Option α} {Q Q' : α → Prop} (h : T x Q) (k : T x Q') : T x (fun a => Q a ∧ Q' a) := by
  obtain ⟨a, e, q⟩ := h
  obtain ⟨b, e', q'⟩ := k
  cases e.symm.trans e'
  exact ⟨a, e, q, q'⟩
/-- T of a computed value that is known -/
theorem T_eq {α : Type} {x : Option α} {a : α} {Q : α → Prop} (h : x = some a) : T x Q ↔ Q a := by rw [h]; exact T_some
/-! loops -/
/-- from s the loop gets to a state or a result with P -/
def RG {S R : Type} (step : S → Option (S ⊕ R)) (s : S) (P : S ⊕ R → Prop) : Prop := ∃ o, rx_run step s = rx_go step o ∧ P o
theorem RG.here {S R : Type} {step : S → Option (S ⊕ R)} {s : S} {P : S ⊕ R → Prop} (h : P (.inl s)) : RG step s P := ⟨.inl s, rfl, h⟩
theorem RG.step {S R : Type} {step : S → Option (S ⊕ R)} {s : S} {P : S ⊕ R → Prop} (h : T (step s) (fun o => match o with
    | .inl s' => RG step s' P
    | .inr r => P (.inr r))) : RG step s P := by
  obtain ⟨o, e, h⟩ := h
  cases o with
  | inl s' =>
    obtain ⟨o, e2, h⟩ := h
    exact ⟨o, (rx_inl e).trans e2, h⟩
  | inr r => exact ⟨.inr r, rx_inr e, h⟩
theorem RG.step1 {S R : Type} {step : S → Option (S ⊕ R)} {s : S} {P : S ⊕ R → Prop} (h : T (step s) P) : RG step s P := by
  obtain ⟨o, e, h⟩ := h
  cases o with
  | inl s' => exact ⟨.inl s', rx_inl e, h⟩
  | inr r => exact ⟨.inr r, rx_inr e, h⟩
theorem RG.then {S R : Type} {step : S → Option (S ⊕ R)} {s : S} {P Q : S ⊕ R → Prop} (h : RG step s P) (k : ∀ s', P (.inl s') → RG step s' Q) (k2 : ∀ r, P (.inr r) → Q (.inr r)) : RG step s Q := by
  obtain ⟨o, e, h⟩ := h
  cases o with
  | inl s' =>
    obtain ⟨o, e2, q⟩ := k s' h
    exact ⟨o, e.trans e2, q⟩
  | inr r => exact ⟨.inr r, e, k2 r h⟩
theorem RG.imp {S R : Type} {step : S → Option (S ⊕ R)} {s : S} {P Q : S ⊕ R → Prop} (h : RG step s P) (k : ∀ o, P o → Q o) : RG step s Q := by
  obtain ⟨o, e, h⟩ := h
  exact ⟨o, e, k o h⟩
/-- a loop that has ended -/
theorem RG.fin {S R : Type} {step : S → Option (S ⊕ R)} {s : S} {Q : R → Prop} (h : RG step s (fun o => match o with
    | .inl _ => False
    | .inr r => Q r)) : T (rx_run step s) Q := by
  obtain ⟨o, e, h⟩ := h
  cases o with
  | inl s' => exact h.elim
  | inr r => exact ⟨r, e, h⟩
/-- a function with loops: its entry, then the loop -/
theorem T_go {S R : Type} {step : S → Option (S ⊕ R)} {o : S ⊕ R} {Q : R → Prop} : T (rx_go step o) Q ↔ (match o with
    | .inl s => T (rx_run step s) Q
    | .inr r => Q r) := by
  cases o with
  | inl s => exact Iff.rfl
  | inr r => exact T_some
/-- a counting loop: I holds from a on at the head; it goes round to n, or ends early with E -/
theorem RG.for {S R : Type} {step : S → Option (S ⊕ R)} (I : Nat → S → Prop) (E : R → Prop) (a n : Nat) (han : a ≤ n) (h : ∀ i s, a ≤ i → i < n → I i s → RG step s (fun o => match o with
    | .inl s' => I (i + 1) s'
    | .inr r => E r)) {s : S} (h0 : I a s) : RG step s (fun o => match o with
    | .inl s' => I n s'
    | .inr r => E r) := by
  obtain ⟨k, rfl⟩ := Nat.exists_eq_add_of_le han
  clear han
  induction k generalizing a s with
  | zero => exact RG.here h0
  | succ k ih =>
    refine (h a s (Nat.le_refl a) (by omega) h0).then (fun s' h1 => ?_) (fun r h1 => h1)
    have e : a + (k + 1) = a + 1 + k := by omega
    rw [e] at h ⊢
    exact ih (a + 1) h1 (fun i s h2 h3 => h i s (by omega) h3)
/-- a loop whose measure falls -/
theorem RG.wf {S R : Type} {step : S → Option (S ⊕ R)} (I : S → Prop) (μ : S → Nat) (E : S ⊕ R → Prop) (h : ∀ s, I s → RG step s (fun o => (match o with
    | .inl s' => I s' ∧ μ s' < μ s
    | .inr _ => False) ∨ E o)) {s : S} (h0 : I s) : RG step s E := by
  generalize hn : μ s = n
  induction n using Nat.strongRecOn generalizing s with
  | ind n ih =>
    obtain ⟨o, e, q⟩ := h s h0
    rcases q with q | q
    · cases o with
      | inl s' =>
        obtain ⟨o, e2, q2⟩ := ih _ (by omega) q.1 rfl
        exact ⟨o, e.trans e2, q2⟩
      | inr r => exact q.elim
    · exact ⟨o, e, q⟩
/-! whole numbers: N a natural number, J a whole number, as the machine holds them -/
def N (n : Nat) : Int32 := Int32.ofNat n
def J (z : Int) : Int32 := Int32.ofInt z
theorem N_lit (n : Nat) : Int32.ofNat n = N n := rfl
theorem N_J (n : Nat) : N n = J (n : Int) := Int32.ofInt_eq_ofNat.symm
theorem N_add (a b : Nat) : N a + N b = N (a + b) := (Int32.ofNat_add a b).symm
theorem N_mul (a b : Nat) : N a * N b = N (a * b) := (Int32.ofNat_mul a b).symm
theorem J_add (a b : Int) : J a + J b = J (a + b) := (Int32.ofInt_add a b).symm
theorem J_mul (a b : Int) : J a * J b = J (a * b) := (Int32.ofInt_mul a b).symm
theorem J_sub (a b : Int) : J a - J b = J (a - b) := (Int32.ofInt_sub a b).symm
theorem J_neg (a : Int) : - J a = J (-a) := (Int32.ofInt_neg a).symm
theorem J_toInt {z : Int} (h1 : -2147483648 ≤ z) (h2 : z ≤ 2147483647) : (J z).toInt = z := Int32.toInt_ofInt_of_le h1 (by omega)
theorem N_toInt {n : Nat} (h : n ≤ 2147483647) : (N n).toInt = n := by rw [N_J]; exact J_toInt (by omega) (by omega)
theorem J_lt {a b : Int} (h1 : -2147483648 ≤ a) (h2 : a ≤ 2147483647) (h3 : -2147483648 ≤ b) (h4 : b ≤ 2147483647) : J a < J b ↔ a < b := by
  rw [Int32.lt_iff_toInt_lt, J_toInt h1 h2, J_toInt h3 h4]
theorem J_le {a b : Int} (h1 : -2147483648 ≤ a) (h2 : a ≤ 2147483647) (h3 : -2147483648 ≤ b) (h4 : b ≤ 2147483647) : J a ≤ J b ↔ a ≤ b := by
  rw [Int32.le_iff_toInt_le, J_toInt h1 h2, J_toInt h3 h4]
theorem J_eq {a b : Int} (h1 : -2147483648 ≤ a) (h2 : a ≤ 2147483647) (h3 : -2147483648 ≤ b) (h4 : b ≤ 2147483647) : J a = J b ↔ a = b := by
  rw [← Int32.toInt_inj, J_toInt h1 h2, J_toInt h3 h4]
theorem N_lt {a b : Nat} (h1 : a ≤ 2147483647) (h2 : b ≤ 2147483647) : N a < N b ↔ a < b := by
  rw [Int32.lt_iff_toInt_lt, N_toInt h1, N_toInt h2]; omega
theorem N_le {a b : Nat} (h1 : a ≤ 2147483647) (h2 : b ≤ 2147483647) : N a ≤ N b ↔ a ≤ b := by
  rw [Int32.le_iff_toInt_le, N_toInt h1, N_toInt h2]; omega
theorem N_eq {a b : Nat} (h1 : a ≤ 2147483647) (h2 : b ≤ 2147483647) : N a = N b ↔ a = b := by
  rw [← Int32.toInt_inj, N_toInt h1, N_toInt h2]; omega
theorem N_sub {a b : Nat} (h : b ≤ a) : N a - N b = N (a - b) := by
  rw [N_J, N_J, N_J, J_sub]
  congr 1
  omega
theorem N_ne_neg {a b : Nat} (h1 : a ≤ 2147483647) (h2 : 0 < b) (h3 : b ≤ 2147483647) : (N a = - N b) ↔ False := by
  rw [N_J b, J_neg, N_J, J_eq (by omega) (by omega) (by omega) (by omega)]
  exact ⟨fun h => by omega, fun h => h.elim⟩
theorem N_clamp {n : Nat} (h : n ≤ 2147483647) : (N n).toNatClampNeg = n := by
  show (N n).toInt.toNat = n
  rw [N_toInt h]; rfl
theorem J_clamp {z : Int} (h1 : -2147483648 ≤ z) (h2 : z ≤ 2147483647) : (J z).toNatClampNeg = z.toNat := by
  show (J z).toInt.toNat = _
  rw [J_toInt h1 h2]
theorem N_pos {n : Nat} (h : n ≤ 2147483647) : (0 : Int32) ≤ N n := by
  rw [Int32.le_iff_toInt_le, N_toInt h]
  show (0 : Int) ≤ _
  omega
/-- every whole number of the machine is a J -/
theorem J_of (x : Int32) : ∃ z : Int, x = J z ∧ -2147483648 ≤ z ∧ z ≤ 2147483647 := ⟨x.toInt, (Int32.ofInt_toInt x).symm, Int32.le_toInt x, by have := Int32.toInt_lt x; omega⟩
/-- one that lies between is an N -/
theorem N_of {x : Int32} {n : Nat} (h1 : (0 : Int32) ≤ x) (h2 : x < N n) (hn : n ≤ 2147483647) : ∃ k, x = N k ∧ k < n := by
  obtain ⟨z, rfl, h3, h4⟩ := J_of x
  have h1 : (0 : Int) ≤ z := by
    have := Int32.le_iff_toInt_le.mp h1
    rw [J_toInt h3 h4] at this
    exact this
  rw [N_J, J_lt h3 h4 (by omega) (by omega)] at h2
  refine ⟨z.toNat, ?_, by omega⟩
  rw [N_J]
  congr 1
  omega
/-! reads and writes at known places -/
theorem aI_at {m : MM} {t a len i : Nat} {r : Option Nat} (hr : r = some a) (hK : m.K a = (t, len)) (hi : i < len) (hl : len ≤ 2147483647) : aI m t r (N i) = some (m.I a i) := by
  subst hr
  unfold aI
  dsimp only
  rw [hK, N_clamp (by omega)]
  exact if_pos ⟨rfl, N_pos (by omega), hi⟩
theorem aL_at {m : MM} {a len i : Nat} {r : Option Nat} (hr : r = some a) (hK : m.K a = (53, len)) (hi : i < len) (hl : len ≤ 2147483647) : aL m r (N i) = some (m.L a i) := by
  subst hr
  unfold aL
  dsimp only
  rw [hK, N_clamp (by omega)]
  exact if_pos ⟨rfl, N_pos (by omega), hi⟩
theorem aR_at {m : MM} {t a len i : Nat} {r : Option Nat} (hr : r = some a) (hK : m.K a = (t, len)) (hi : i < len) (hl : len ≤ 2147483647) : aR m t r (N i) = some (m.R a i) := by
  subst hr
  unfold aR
  dsimp only
  rw [hK, N_clamp (by omega)]
  exact if_pos ⟨rfl, N_pos (by omega), hi⟩
theorem sI_at {m : MM} {t a len i : Nat} {r : Option Nat} {v : Int32} (hr : r = some a) (hK : m.K a = (t, len)) (hi : i < len) (hl : len ≤ 2147483647) (hb : m.b ≤ a) : sI m t r (N i) v = some (m.putI a (up (m.I a) i (narT t v))) := by
  subst hr
  unfold sI
  dsimp only
  rw [hK, N_clamp (by omega)]
  exact if_pos ⟨rfl, N_pos (by omega), hi, hb⟩
theorem sL_at {m : MM} {a len i : Nat} {r : Option Nat} {v : Int64} (hr : r = some a) (hK : m.K a = (53, len)) (hi : i < len) (hl : len ≤ 2147483647) (hb : m.b ≤ a) : sL m r (N i) v = some (m.putL a (up (m.L a) i v)) := by
  subst hr
  unfold sL
  dsimp only
  rw [hK, N_clamp (by omega)]
  exact if_pos ⟨rfl, N_pos (by omega), hi, hb⟩
theorem sR_at {m : MM} {t a len i : Nat} {r v : Option Nat} (hr : r = some a) (hK : m.K a = (t, len)) (hi : i < len) (hl : len ≤ 2147483647) (hb : m.b ≤ a) (hv : okR m t v = true) : sR m t r (N i) v = some (m.putR a (up (m.R a) i v)) := by
  subst hr
  unfold sR
  dsimp only
  rw [hK, N_clamp (by omega)]
  exact if_pos ⟨rfl, N_pos (by omega), hi, hb, hv⟩
theorem aN_at {m : MM} {t a len : Nat} {r : Option Nat} (hr : r = some a) (hK : m.K a = (t, len)) : aN m t r = some (N len) := by
  subst hr
  unfold aN
  dsimp only
  rw [hK]
  exact if_pos rfl
theorem isK_at {m : MM} {r : Option Nat} {kd a len : Nat} (hr : r = some a) (hK : m.K a = (kd, len)) : isK m r kd = some a := by
  subst hr
  unfold isK
  dsimp only
  rw [hK]
  exact if_pos rfl
theorem pI_at {m : MM} {r : Option Nat} {kd a len k t : Nat} {v : Int32} (hr : r = some a) (hK : m.K a = (kd, len)) (hb : m.b ≤ a) (hf : fitT t v = true) : pI m r kd k t v = some (m.putI a (up (m.I a) k v)) := by
  subst hr
  unfold pI
  dsimp only
  rw [hK]
  exact if_pos ⟨rfl, hb, hf⟩
theorem pL_at {m : MM} {r : Option Nat} {kd a len k : Nat} {v : Int64} (hr : r = some a) (hK : m.K a = (kd, len)) (hb : m.b ≤ a) : pL m r kd k v = some (m.putL a (up (m.L a) k v)) := by
  subst hr
  unfold pL
  dsimp only
  rw [hK]
  exact if_pos ⟨rfl, hb⟩
theorem pR_at {m : MM} {r v : Option Nat} {kd a len k : Nat} (hr : r = some a) (hK : m.K a = (kd, len)) (hb : m.b ≤ a) : pR m r kd k v = some (m.putR a (up (m.R a) k v)) := by
  subst hr
  unfold pR
  dsimp only
  rw [hK]
  exact if_pos ⟨rfl, hb⟩
