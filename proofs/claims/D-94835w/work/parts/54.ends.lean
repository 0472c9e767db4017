/-! the Model: which rows can be read -/
set_option maxRecDepth 100000
theorem l0 : (0 : Int32) = N 0 := rfl
theorem l1 : (1 : Int32) = N 1 := rfl
theorem l2 : (2 : Int32) = N 2 := rfl
theorem l3 : (3 : Int32) = N 3 := rfl
theorem l4 : (4 : Int32) = N 4 := rfl
theorem l6 : (6 : Int32) = N 6 := rfl
theorem l7 : (7 : Int32) = N 7 := rfl
theorem l8 : (8 : Int32) = N 8 := rfl
theorem l24 : (24 : Int32) = N 24 := rfl
theorem l56 : (56 : Int32) = N 56 := rfl
def EndsOk (m : MM) (x : Nat) (es : Nat → Nat → Nat) : Prop := ∀ r p, r < 8 → p < 7 → m.I (x + 22) (7 * r + p) = N (es r p) ∧ es r p < 128
def Tried (m : MM) (x : Nat) (t : Pat) (n : Nat) : Prop := ∀ p, p < n → m.I (x + 21) p = pv (t p) ∧ ∀ w, t p = some w → w < 8
def eb (es : Nat → Nat → Nat) (t : Pat) (q p : Nat) : Nat := if q < 8 then (if fits_ t p q = true then 1 <<< (p + 1) else 0) else es (q - 8) p
theorem eb_lt {es : Nat → Nat → Nat} {t : Pat} {q p : Nat} (h : ∀ r p, r < 8 → p < 7 → es r p < 128) (hq : q < 16) (hp : p < 6) : eb es t q p < 128 := by
  unfold eb
  split
  · split
    · rw [Nat.shiftLeft_eq, Nat.one_mul]
      calc 2 ^ (p + 1) ≤ 2 ^ 6 := Nat.pow_le_pow_right (by decide) (by omega)
        _ < 128 := by decide
    · decide
  · exact h _ _ (by omega) (by omega)
theorem f_endsBy {m : MM} {x q p n : Nat} {es : Nat → Nat → Nat} {t : Pat} (h : LY m x) (hE : EndsOk m x es) (hT : Tried m x t n) (hn : n ≤ 6) (hq : q < 16) (hp : p < n) : f_X2_endsBy x (N q) (N p) m = some (N (eb es t q p), m) := by
  unfold f_X2_endsBy b_X2_endsBy_0 eb
  rw [l8]
  by_cases e : q < 8
  · rw [if_pos ((N_lt (by omega) (by omega)).mpr e), if_pos e, yr_tried h (by omega), bd_some]
    obtain ⟨e1, e2⟩ := hT p hp
    rw [e1, l1, N_add, N_shl (by omega)]
    unfold fits_ pv
    cases ht : t p with
    | none =>
      dsimp only
      rw [if_pos (show (-1 : Int32) = - N 1 from rfl), if_pos rfl]
    | some w =>
      have hw := e2 w ht
      dsimp only
      rw [if_neg (by rw [N_ne_neg (by omega) (by omega) (by omega)]; exact id), bd_some]
      by_cases e3 : w = q
      · subst e3
        rw [if_pos rfl, if_pos (by simp)]
      · rw [if_neg (by rw [N_eq (by omega) (by omega)]; exact e3), if_neg (by simp; exact e3)]
        rfl
  · rw [if_neg (by rw [N_lt (by omega) (by omega)]; exact e), if_neg e, l7, N_sub (by omega), N_mul, N_add, yr_ends h (by omega), bd_some, (hE (q - 8) p (by omega) (by omega)).1]
/-- all of some sets -/
def orS (i : Nat) (f : Nat → Nat) : Nat → Nat
  | 0 => 0
  | k + 1 => orS i f k ||| f (i + k)
theorem orS_lt {i : Nat} {f : Nat → Nat} {k : Nat} (h : ∀ p, i ≤ p → p < i + k → f p < 128) : orS i f k < 128 := by
  induction k with
  | zero => exact Nat.lt_of_sub_ne_zero (by show 128 - 0 ≠ 0; decide)
  | succ k ih => exact Nat.or_lt_two_pow (n := 7) (ih (fun p h1 h2 => h p h1 (by omega))) (h _ (by omega) (by omega))
theorem orS_bit {i e : Nat} {f : Nat → Nat} {k : Nat} : (orS i f k).testBit e = true ↔ ∃ p, i ≤ p ∧ p < i + k ∧ (f p).testBit e = true := by
  induction k with
  | zero => exact ⟨fun h => by simp [orS] at h, fun ⟨p, h1, h2, _⟩ => by omega⟩
  | succ k ih =>
    show (orS i f k ||| f (i + k)).testBit e = true ↔ _
    rw [Nat.testBit_or, Bool.or_eq_true, ih]
    constructor
    · rintro (⟨p, h1, h2, h3⟩ | h)
      · exact ⟨p, h1, by omega, h3⟩
      · exact ⟨i + k, by omega, by omega, h⟩
    · rintro ⟨p, h1, h2, h3⟩
      by_cases e : p = i + k
      · subst e; exact Or.inr h3
      · exact Or.inl ⟨p, h1, by omega, h3⟩
/-- what a part reads from where a set stands -/
def stS (es : Nat → Nat → Nat) (t : Pat) (i j s q : Nat) : Nat := orS i (fun p => if s.testBit p = true then eb es t q p else 0) (j - i)
theorem stS_lt {es : Nat → Nat → Nat} {t : Pat} {i j s q : Nat} (h : ∀ r p, r < 8 → p < 7 → es r p < 128) (hq : q < 16) (hj : j ≤ 6) : stS es t i j s q < 128 := by
  refine orS_lt fun p h1 h2 => ?_
  split
  · exact eb_lt h hq (by omega)
  · decide
/-- an alt as the Model keeps it -/
def AltAt (m : MM) (x a : Nat) (ps : List Nat) : Prop := m.I (x + 13) a = N ps.length ∧ ps.length ≤ 4 ∧ (∀ k q, ps[k]? = some q → m.I (x + 14) (4 * a + k) = N q) ∧ ∀ q ∈ ps, q < 16
theorem dr_in {m : MM} {x a k q n i j s : Nat} {es : Nat → Nat → Nat} {t : Pat} (h : LY m x) (hE : EndsOk m x es) (hT : Tried m x t n) (hn : n ≤ 6) (ha : a < 48) (hk : k < 4) (hq : q < 16) (hA : m.I (x + 14) (4 * a + k) = N q) (hij : i ≤ j) (hj : j ≤ n) (hs : s < 128) : RG (s_X2_doesRead x (N a) (N i) (N j)) (.inr (N s, N (4 * a + k), N 0, N i, m)) (fun o => o = .inl (.inl (N (stS es t i j s q), N (4 * a + k + 1), m))) := by
  have hes : ∀ r p, r < 8 → p < 7 → es r p < 128 := fun r p h1 h2 => (hE r p h1 h2).2
  refine (RG.for (fun p st => st = .inr (N s, N (4 * a + k), N (orS i (fun p => if s.testBit p = true then eb es t q p else 0) (p - i)), N p, m)) (fun _ => False) i j hij (fun p st h1 h2 h3 => ?_) (by rw [Nat.sub_self]; rfl)).then (fun st h3 => ?_) (fun r h3 => h3.elim)
  · subst h3
    refine RG.step1 ?_
    show T (b_X2_doesRead_31 x (N a) (N i) (N j) (N s) (N (4 * a + k)) _ (N p) m) _
    unfold b_X2_doesRead_31
    rw [if_neg (by rw [N_le (by omega) (by omega)]; omega)]
    have e9 : p + 1 - i = (p - i) + 1 := by omega
    have e8 : i + (p - i) = p := by omega
    by_cases e : s.testBit p = true
    · rw [if_pos ((N_bit (by omega) (by omega)).mpr e), yr_altName h (by omega), bd_some, hA, f_endsBy h hE hT hn hq (by omega), bd2_some, T_some, N_or, l1, N_add, e9]
      show Sum.inr _ = Sum.inr _
      rw [show orS i (fun p => if s.testBit p = true then eb es t q p else 0) (p - i + 1) = orS i (fun p => if s.testBit p = true then eb es t q p else 0) (p - i) ||| (if s.testBit (i + (p - i)) = true then eb es t q (i + (p - i)) else 0) from rfl, e8, if_pos e]
    · rw [if_neg (by rw [N_bit (by omega) (by omega)]; exact e), T_some, l1, N_add, e9]
      show Sum.inr _ = Sum.inr _
      rw [show orS i (fun p => if s.testBit p = true then eb es t q p else 0) (p - i + 1) = orS i (fun p => if s.testBit p = true then eb es t q p else 0) (p - i) ||| (if s.testBit (i + (p - i)) = true then eb es t q (i + (p - i)) else 0) from rfl, e8, if_neg e, Nat.or_zero]
  · subst h3
    refine RG.step1 ?_
    show T (b_X2_doesRead_31 x (N a) (N i) (N j) (N s) (N (4 * a + k)) _ (N j) m) _
    unfold b_X2_doesRead_31
    rw [if_pos ((N_le (by omega) (by omega)).mpr (Nat.le_refl j)), T_some, l1, N_add]
    rfl
theorem f_doesRead {m : MM} {x a n i j : Nat} {es : Nat → Nat → Nat} {t : Pat} {ps : List Nat} (h : LY m x) (hE : EndsOk m x es) (hT : Tried m x t n) (hn : n ≤ 6) (ha : a < 48) (hA : AltAt m x a ps) (hij : i ≤ j) (hj : j ≤ n) : f_X2_doesRead x (N a) (N i) (N j) m = some (N (if (ps.foldl (stS es t i j) (1 <<< i)).testBit j = true then 1 else 0), m) := by
  have hes : ∀ r p, r < 8 → p < 7 → es r p < 128 := fun r p h1 h2 => (hE r p h1 h2).2
  obtain ⟨a1, a2, a3, a4⟩ := hA
  have hb : ∀ k, (ps.take k).foldl (stS es t i j) (1 <<< i) < 128 := by
    intro k
    have gen : ∀ (l : List Nat) (s : Nat), s < 128 → (∀ q ∈ l, q < 16) → l.foldl (stS es t i j) s < 128 := by
      intro l
      induction l with
      | nil => intro s hs _; exact hs
      | cons q l ih => intro s hs hq; exact ih _ (stS_lt hes (hq q List.mem_cons_self) (by omega)) (fun y hy => hq y (List.mem_cons_of_mem _ hy))
    refine gen _ _ ?_ (fun q hq => a4 q (List.mem_of_mem_take hq))
    rw [Nat.shiftLeft_eq, Nat.one_mul]
    calc 2 ^ i ≤ 2 ^ 6 := Nat.pow_le_pow_right (by decide) (by omega)
      _ < 128 := by decide
  have W : T (f_X2_doesRead x (N a) (N i) (N j) m) (fun o => o = (N (if (ps.foldl (stS es t i j) (1 <<< i)).testBit j = true then 1 else 0), m)) := by
    unfold f_X2_doesRead b_X2_doesRead_0
    rw [l1, l4, N_shl (by omega), N_mul, bd_some, T_go]
    refine RG.fin ((RG.for (fun k st => st = .inl (N ((ps.take k).foldl (stS es t i j) (1 <<< i)), N (4 * a + k), m)) (fun _ => False) 0 ps.length (Nat.zero_le _) (fun k st h1 h2 h3 => ?_) rfl).then (fun st h3 => ?_) (fun r h3 => h3.elim))
    · subst h3
      refine RG.step ?_
      show T (b_X2_doesRead_10 x (N a) (N i) (N j) _ (N (4 * a + k)) m) _
      unfold b_X2_doesRead_10
      rw [yr_altMany h (by omega), bd_some, a1, l4, N_mul, N_add, if_neg (by rw [N_le (by omega) (by omega)]; omega), T_some, l0]
      have hq : ps[k]? = some ps[k] := List.getElem?_eq_getElem h2
      refine (dr_in (q := ps[k]) h hE hT hn ha (by omega) (a4 _ (List.getElem_mem h2)) (a3 k _ hq) hij hj (hb k)).imp fun o ho => ?_
      subst ho
      show Sum.inl _ = Sum.inl _
      rw [← List.take_append_getElem h2, List.foldl_append]
      rfl
    · subst h3
      refine RG.step1 ?_
      show T (b_X2_doesRead_10 x (N a) (N i) (N j) _ (N (4 * a + ps.length)) m) _
      unfold b_X2_doesRead_10
      have h7 := hb ps.length
      rw [List.take_length] at h7 ⊢
      rw [yr_altMany h (by omega), bd_some, a1, l4, N_mul, N_add, if_pos ((N_le (by omega) (by omega)).mpr (Nat.le_refl _))]
      by_cases e : (ps.foldl (stS es t i j) (1 <<< i)).testBit j = true
      · rw [if_pos ((N_bit (by omega) (by omega)).mpr e), if_pos e, T_some]; rfl
      · rw [if_neg (by rw [N_bit (by omega) (by omega)]; exact e), if_neg e, T_some]; rfl
  obtain ⟨o, e, rfl⟩ := W
  exact e
