/-! MATHEMATICS: in how many ways a span is read -/
def sumN : Nat → (Nat → Nat) → Nat
  | 0, _ => 0
  | n + 1, f => sumN n f + f n
theorem sumN_congr {n : Nat} {f g : Nat → Nat} (h : ∀ k, k < n → f k = g k) : sumN n f = sumN n g := by
  induction n with
  | zero => rfl
  | succ n ih =>
    show sumN n f + f n = sumN n g + g n
    rw [ih (fun k hk => h k (by omega)), h n (by omega)]
theorem sumN_zero {n : Nat} {f : Nat → Nat} (h : ∀ k, k < n → f k = 0) : sumN n f = 0 := by
  induction n with
  | zero => rfl
  | succ n ih =>
    show sumN n f + f n = 0
    rw [ih (fun k hk => h k (by omega)), h n (by omega)]
theorem sumN_add {n : Nat} {f g : Nat → Nat} : sumN n (fun k => f k + g k) = sumN n f + sumN n g := by
  induction n with
  | zero => rfl
  | succ n ih =>
    show sumN n _ + (f n + g n) = (sumN n f + f n) + (sumN n g + g n)
    rw [ih]; omega
theorem sumN_mul {n c : Nat} {f : Nat → Nat} : sumN n (fun k => c * f k) = c * sumN n f := by
  induction n with
  | zero => rfl
  | succ n ih =>
    show sumN n _ + c * f n = c * (sumN n f + f n)
    rw [ih, Nat.mul_add]
theorem sumN_mul2 {n c : Nat} {f : Nat → Nat} : sumN n (fun k => f k * c) = sumN n f * c := by
  rw [Nat.mul_comm, ← sumN_mul]
  exact sumN_congr fun k _ => Nat.mul_comm _ _
/-- sums change places -/
theorem sumN_swap {n k : Nat} {f : Nat → Nat → Nat} : sumN n (fun a => sumN k (fun b => f a b)) = sumN k (fun b => sumN n (fun a => f a b)) := by
  induction n with
  | zero => exact (sumN_zero (fun _ _ => rfl)).symm
  | succ n ih =>
    show sumN n _ + sumN k (fun b => f n b) = sumN k (fun b => sumN n (fun a => f a b) + f n b)
    rw [ih, sumN_add]
/-- of one place alone -/
theorem sumN_one {n i : Nat} {f : Nat → Nat} (hi : i < n) (h : ∀ k, k < n → k ≠ i → f k = 0) : sumN n f = f i := by
  induction n with
  | zero => omega
  | succ n ih =>
    show sumN n f + f n = f i
    by_cases e : i = n
    · subst e
      rw [sumN_zero (fun k hk => h k (by omega) (by omega)), Nat.zero_add]
    · rw [ih (by omega) (fun k hk hne => h k (by omega) hne), h n (by omega) (fun q => e q.symm), Nat.add_zero]
/-- a stretch of places alone -/
theorem sumN_part {n a b : Nat} {f : Nat → Nat} (hb : b ≤ n) (h : ∀ k, k < n → (k < a ∨ b ≤ k) → f k = 0) : sumN n f = sumN (b - a) (fun k => f (a + k)) := by
  induction n generalizing b with
  | zero =>
    have : b - a = 0 := by omega
    rw [this]; rfl
  | succ n ih =>
    show sumN n f + f n = _
    by_cases e : b ≤ n
    · rw [ih e (fun k hk hz => h k (by omega) hz), h n (by omega) (Or.inr e), Nat.add_zero]
    · have hbn : b = n + 1 := by omega
      subst hbn
      by_cases e2 : n < a
      · have : n + 1 - a = 0 := by omega
        rw [this, sumN_zero (fun k hk => h k (by omega) (Or.inl (by omega))), h n (by omega) (Or.inl e2)]
        rfl
      · have : n + 1 - a = (n - a) + 1 := by omega
        rw [this]
        show _ = sumN (n - a) _ + f (a + (n - a))
        rw [ih (b := n) (Nat.le_refl n) (fun k hk hz => h k (by omega) (by omega)), show a + (n - a) = n by omega]
theorem sumN_pos {n : Nat} {f : Nat → Nat} : 0 < sumN n f ↔ ∃ k, k < n ∧ 0 < f k := by
  induction n with
  | zero => exact ⟨fun h => absurd h (Nat.lt_irrefl 0), fun ⟨k, hk, _⟩ => by omega⟩
  | succ n ih =>
    show 0 < sumN n f + f n ↔ _
    constructor
    · intro h
      by_cases e : 0 < f n
      · exact ⟨n, by omega, e⟩
      · obtain ⟨k, hk, h2⟩ := ih.mp (by omega)
        exact ⟨k, by omega, h2⟩
    · rintro ⟨k, hk, h⟩
      by_cases e : k = n
      · subst e; omega
      · have := ih.mpr ⟨k, by omega, h⟩
        omega
/-- alts: the rule of each, its parts: words below 8, rules from 8 on -/
abbrev Alts : Type := List (Nat × List Nat)
/-- what is read: the word at a place, or any -/
abbrev Pat : Type := Nat → Option Nat
def fits_ (t : Pat) (i p : Nat) : Bool := match t i with
  | none => true
  | some w => w == p
/-- in how many ways a part is a span, by the ways of rules -/
def rdg (M : Nat → Nat → Nat → Nat) (t : Pat) (p i j : Nat) : Nat := if i < j then (if p < 8 then (if j = i + 1 ∧ fits_ t i p = true then 1 else 0) else M (p - 8) i j) else 0
/-- in how many ways parts cover a span -/
def cov (M : Nat → Nat → Nat → Nat) (t : Pat) : List Nat → Nat → Nat → Nat
  | [], i, j => if i = j then 1 else 0
  | p :: ps, i, j => sumN (j + 1) (fun m => rdg M t p i m * cov M t ps m j)
def altsOf (A : Alts) (r : Nat) : List (List Nat) := (A.filter (fun a => a.1 == r)).map (fun a => a.2)
def cnt (A : Alts) (t : Pat) : Nat → Nat → Nat → Nat → Nat
  | 0, _, _, _ => 0
  | f + 1, r, i, j => ((altsOf A r).map (fun ps => cov (cnt A t f) t ps i j)).sum
/-- in how many ways a rule reads a span -/
def Cn (A : Alts) (t : Pat) (r i j : Nat) : Nat := cnt A t (8 * (j - i) + 8) r i j
def WfA (A : Alts) : Prop := ∀ a ∈ A, a.1 < 8 ∧ a.2 ≠ [] ∧ a.2.length ≤ 4 ∧ (∀ p ∈ a.2, p < 16) ∧ ∀ p, a.2 = [p] → 8 ≤ p → a.1 < p - 8
theorem rdg_zero {M : Nat → Nat → Nat → Nat} {t : Pat} {p i j : Nat} (h : j ≤ i) : rdg M t p i j = 0 := if_neg (by omega)
theorem cov_zero {M : Nat → Nat → Nat → Nat} {t : Pat} (ps : List Nat) : ∀ {i j : Nat}, j < i + ps.length → cov M t ps i j = 0 := by
  induction ps with
  | nil =>
    intro i j h
    have h : j < i + 0 := h
    exact if_neg (by omega)
  | cons p ps ih =>
    intro i j h
    have h : j < i + (ps.length + 1) := h
    refine sumN_zero fun m hm => ?_
    by_cases e : m ≤ i
    · rw [rdg_zero e, Nat.zero_mul]
    · rw [ih (by omega), Nat.mul_zero]
theorem cov_one {M : Nat → Nat → Nat → Nat} {t : Pat} {p i j : Nat} : cov M t [p] i j = rdg M t p i j := by
  show sumN (j + 1) (fun m => rdg M t p i m * (if m = j then 1 else 0)) = _
  rw [sumN_one (i := j) (by omega) (fun k _ hk => by rw [if_neg hk, Nat.mul_zero]), if_pos rfl, Nat.mul_one]
theorem rdg_congr {M M' : Nat → Nat → Nat → Nat} {t : Pat} {p i j : Nat} (h : i < j → 8 ≤ p → M (p - 8) i j = M' (p - 8) i j) : rdg M t p i j = rdg M' t p i j := by
  unfold rdg
  by_cases e : i < j
  · rw [if_pos e, if_pos e]
    by_cases e2 : p < 8
    · rw [if_pos e2, if_pos e2]
    · rw [if_neg e2, if_neg e2, h e (by omega)]
  · rw [if_neg e, if_neg e]
/-- only spans that lie inside count -/
theorem cov_in {M M' : Nat → Nat → Nat → Nat} {t : Pat} (ps : List Nat) : ∀ {i j : Nat}, (∀ p ∈ ps, ∀ a b, i ≤ a → a < b → b ≤ j → 8 ≤ p → M (p - 8) a b = M' (p - 8) a b) → cov M t ps i j = cov M' t ps i j := by
  induction ps with
  | nil => intro i j h; rfl
  | cons p ps ih =>
    intro i j h
    refine sumN_congr fun m hm => ?_
    by_cases e : m ≤ i
    · rw [rdg_zero e, rdg_zero e, Nat.zero_mul, Nat.zero_mul]
    · rw [rdg_congr (M' := M') (fun h1 h2 => h p List.mem_cons_self i m (Nat.le_refl i) h1 (by omega) h2), ih (fun q hq a b h1 h2 h3 h4 => h q (List.mem_cons_of_mem _ hq) a b (by omega) h2 h3 h4)]
/-- of more parts than one only shorter spans count -/
theorem cov_in2 {M M' : Nat → Nat → Nat → Nat} {t : Pat} {p q : Nat} {ps : List Nat} {i j : Nat} (h : ∀ x ∈ p :: q :: ps, ∀ a b, i ≤ a → a < b → b ≤ j → b - a < j - i → 8 ≤ x → M (x - 8) a b = M' (x - 8) a b) : cov M t (p :: q :: ps) i j = cov M' t (p :: q :: ps) i j := by
  refine sumN_congr fun m hm => ?_
  by_cases e : m ≤ i
  · rw [rdg_zero e, rdg_zero e, Nat.zero_mul, Nat.zero_mul]
  · by_cases e2 : m = j
    · subst e2
      rw [cov_zero (q :: ps) (by show m < m + (ps.length + 1); omega), cov_zero (M := M') (q :: ps) (by show m < m + (ps.length + 1); omega), Nat.mul_zero, Nat.mul_zero]
    · rw [rdg_congr (M' := M') (fun h1 h2 => h p List.mem_cons_self i m (Nat.le_refl i) h1 (by omega) (by omega) h2), cov_in (M' := M') (q :: ps) (fun x hx a b h1 h2 h3 h4 => h x (List.mem_cons_of_mem _ hx) a b (by omega) h2 h3 (by omega) h4)]
theorem altsOf_wf {A : Alts} (hA : WfA A) {r : Nat} {ps : List Nat} (h : ps ∈ altsOf A r) : r < 8 ∧ ps ≠ [] ∧ ps.length ≤ 4 ∧ (∀ p ∈ ps, p < 16) ∧ ∀ p, ps = [p] → 8 ≤ p → r < p - 8 := by
  obtain ⟨a, ha, rfl⟩ := List.mem_map.mp h
  obtain ⟨h1, h2⟩ := List.mem_filter.mp ha
  have e : a.1 = r := by simpa using h2
  subst e
  exact hA a h1
/-- the step of the recursion: it's the same for all that agree where it looks -/
theorem cov_step {A : Alts} (hA : WfA A) {M M' : Nat → Nat → Nat → Nat} {t : Pat} {r i j : Nat} (h1 : ∀ q a b, q < 8 → i ≤ a → a < b → b ≤ j → b - a < j - i → M q a b = M' q a b) (h2 : ∀ q, r < q → q < 8 → i < j → M q i j = M' q i j) {ps : List Nat} (hp : ps ∈ altsOf A r) : cov M t ps i j = cov M' t ps i j := by
  obtain ⟨w1, w2, w3, w4, w5⟩ := altsOf_wf hA hp
  match ps, w2, w4, w5 with
  | [p], _, w4, w5 =>
    rw [cov_one, cov_one]
    have hp := w4 p List.mem_cons_self
    exact rdg_congr fun e1 e2 => h2 _ (w5 p rfl e2) (by omega) e1
  | p :: q :: ps, _, w4, _ => exact cov_in2 fun x hx a b e1 e2 e3 e4 e5 => h1 _ a b (by have := w4 x hx; omega) e1 e2 e3 e4
theorem cnt_fuel {A : Alts} (hA : WfA A) {t : Pat} : ∀ (μ f g r i j : Nat), r < 8 → 8 * (j - i) + (8 - r) ≤ μ → μ ≤ f → μ ≤ g → cnt A t f r i j = cnt A t g r i j := by
  intro μ
  induction μ with
  | zero => intro f g r i j hr h; omega
  | succ μ ih =>
    intro f g r i j hr h1 h2 h3
    obtain ⟨f, rfl⟩ : ∃ k, f = k + 1 := ⟨f - 1, by omega⟩
    obtain ⟨g, rfl⟩ : ∃ k, g = k + 1 := ⟨g - 1, by omega⟩
    show ((altsOf A r).map _).sum = ((altsOf A r).map _).sum
    congr 1
    refine List.map_congr_left fun ps hp => ?_
    exact cov_step hA (fun q a b q1 q2 q3 q4 q5 => ih f g q a b q1 (by omega) (by omega) (by omega)) (fun q q1 q2 _ => ih f g q i j q2 (by omega) (by omega) (by omega)) hp
theorem Cn_eq {A : Alts} (hA : WfA A) {t : Pat} {r i j : Nat} (hr : r < 8) : Cn A t r i j = ((altsOf A r).map (fun ps => cov (Cn A t) t ps i j)).sum := by
  show ((altsOf A r).map _).sum = ((altsOf A r).map _).sum
  congr 1
  refine List.map_congr_left fun ps hp => ?_
  refine cov_step hA (fun q a b q1 q2 q3 q4 q5 => ?_) (fun q q1 q2 _ => ?_) hp
  · exact cnt_fuel hA (8 * (b - a) + (8 - q)) _ _ q a b q1 (Nat.le_refl _) (by omega) (by omega)
  · exact cnt_fuel hA (8 * (j - i) + (8 - q)) _ _ q i j q2 (Nat.le_refl _) (by omega) (by omega)
/-- a pattern counts only inside the span -/
theorem rdg_pat {M : Nat → Nat → Nat → Nat} {t t' : Pat} {p i j : Nat} (h : i < j → t i = t' i) : rdg M t p i j = rdg M t' p i j := by
  unfold rdg
  by_cases e : i < j
  · rw [if_pos e, if_pos e]
    unfold fits_
    rw [h e]
  · rw [if_neg e, if_neg e]
theorem cov_pat {M : Nat → Nat → Nat → Nat} {t t' : Pat} (ps : List Nat) : ∀ {i j : Nat}, (∀ a, i ≤ a → a < j → t a = t' a) → cov M t ps i j = cov M t' ps i j := by
  induction ps with
  | nil => intro i j h; rfl
  | cons p ps ih =>
    intro i j h
    refine sumN_congr fun m hm => ?_
    by_cases e : m ≤ i
    · rw [rdg_zero e, rdg_zero e, Nat.zero_mul, Nat.zero_mul]
    · rw [rdg_pat (fun h1 => h i (Nat.le_refl i) (by omega)), ih (fun a h1 h2 => h a (by omega) h2)]
theorem cnt_pat {A : Alts} {t t' : Pat} : ∀ (f r i j : Nat), (∀ a, i ≤ a → a < j → t a = t' a) → cnt A t f r i j = cnt A t' f r i j := by
  intro f
  induction f with
  | zero => intro r i j h; rfl
  | succ f ih =>
    intro r i j h
    show ((altsOf A r).map _).sum = ((altsOf A r).map _).sum
    congr 1
    refine List.map_congr_left fun ps hp => ?_
    exact (cov_in ps (fun p hp a b h1 h2 h3 h4 => ih _ a b (fun x h5 h6 => h x (by omega) (by omega)))).trans (cov_pat ps h)
theorem Cn_pat {A : Alts} {t t' : Pat} {r i j : Nat} (h : ∀ a, i ≤ a → a < j → t a = t' a) : Cn A t r i j = Cn A t' r i j := cnt_pat _ r i j h
/-! as much as a thousand million at most -/
def SAT (n : Nat) : Nat := min 1000000000 n
theorem SAT_le (n : Nat) : SAT n ≤ 1000000000 := Nat.min_le_left _ _
theorem SAT_pos {n : Nat} : 0 < SAT n ↔ 0 < n := by unfold SAT; omega
theorem SAT_add (a b : Nat) : SAT (SAT a + b) = SAT (a + b) := by unfold SAT; omega
theorem SAT_mul (a b : Nat) : SAT (SAT a * SAT b) = SAT (a * b) := by
  unfold SAT
  by_cases ha : a = 0
  · subst ha; simp
  · by_cases hb : b = 0
    · subst hb; simp
    · by_cases h1 : 1000000000 ≤ a
      · have e1 : min 1000000000 a = 1000000000 := by omega
        have h2 : 1000000000 * 1 ≤ 1000000000 * min 1000000000 b := Nat.mul_le_mul_left _ (by omega)
        have h3 : 1000000000 * 1 ≤ a * b := Nat.mul_le_mul h1 (by omega)
        rw [e1]
        omega
      · by_cases h2 : 1000000000 ≤ b
        · have e1 : min 1000000000 b = 1000000000 := by omega
          have h2 : 1 * 1000000000 ≤ min 1000000000 a * 1000000000 := Nat.mul_le_mul_right _ (by omega)
          have h3 : 1 * 1000000000 ≤ a * b := Nat.mul_le_mul (by omega) (by omega)
          rw [e1]
          omega
        · rw [show min 1000000000 a = a by omega, show min 1000000000 b = b by omega]
theorem SAT_SAT (a : Nat) : SAT (SAT a) = SAT a := by unfold SAT; omega
theorem SAT_add2 (a b : Nat) : SAT (SAT a + SAT b) = SAT (a + b) := by unfold SAT; omega
theorem SAT_mad (x a b : Nat) : SAT (SAT x + SAT a * SAT b) = SAT (x + a * b) := by
  rw [SAT_add, Nat.add_comm, ← SAT_add, SAT_mul, SAT_add, Nat.add_comm]
