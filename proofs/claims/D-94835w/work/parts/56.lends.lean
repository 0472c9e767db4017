/-! the Model: layEnds, isRead -/
set_option maxRecDepth 100000
/-- the alts as the Model keeps them, in the bank that holds -/
def GA (m : MM) (x : Nat) (A : Alts) : Prop := ∃ bk, bk < 2 ∧ m.I x 29 = N bk ∧ A.length ≤ 24 ∧ m.I (x + 6) bk = N A.length ∧ ∀ (k : Nat) (a : Nat × List Nat), A[k]? = some a → m.I (x + 12) (24 * bk + k) = N a.1 ∧ AltAt m x (24 * bk + k) a.2
def SortA (A : Alts) : Prop := ∀ (i j : Nat) (a b : Nat × List Nat), i < j → A[i]? = some a → A[j]? = some b → a.1 ≤ b.1
theorem altsOf_mem {A : Alts} {r : Nat} {ps : List Nat} : ps ∈ altsOf A r ↔ ∃ k : Nat, A[k]? = some (r, ps) := by
  unfold altsOf
  rw [List.mem_map]
  constructor
  · rintro ⟨a, ha, rfl⟩
    obtain ⟨h1, h2⟩ := List.mem_filter.mp ha
    obtain ⟨k, hk⟩ := List.getElem?_of_mem h1
    have e : a.1 = r := by simpa using h2
    subst e
    exact ⟨k, hk⟩
  · rintro ⟨k, hk⟩
    exact ⟨(r, ps), List.mem_filter.mpr ⟨List.mem_of_getElem? hk, by simp⟩, rfl⟩
theorem sum_pos {l : List Nat} : 0 < l.sum ↔ ∃ v ∈ l, 0 < v := by
  induction l with
  | nil => exact ⟨fun h => by simp at h, fun ⟨v, h, _⟩ => by cases h⟩
  | cons a l ih =>
    rw [List.sum_cons]
    constructor
    · intro h
      by_cases ha : 0 < a
      · exact ⟨a, List.mem_cons_self, ha⟩
      · obtain ⟨v, h1, h2⟩ := ih.mp (by omega)
        exact ⟨v, List.mem_cons_of_mem _ h1, h2⟩
    · rintro ⟨v, h1, h2⟩
      rcases List.mem_cons.mp h1 with rfl | h1
      · omega
      · have := ih.mpr ⟨v, h1, h2⟩
        omega
/-- a rule reads a span iff one of its alts does -/
theorem Cn_pos {A : Alts} (hA : WfA A) {t : Pat} {r i j : Nat} (hr : r < 8) : 0 < Cn A t r i j ↔ ∃ (k : Nat) (ps : List Nat), A[k]? = some (r, ps) ∧ 0 < cov (Cn A t) t ps i j := by
  rw [Cn_eq hA hr, sum_pos]
  constructor
  · rintro ⟨v, h1, h2⟩
    obtain ⟨ps, h3, rfl⟩ := List.mem_map.mp h1
    obtain ⟨k, hk⟩ := altsOf_mem.mp h3
    exact ⟨k, ps, hk, h2⟩
  · rintro ⟨k, ps, hk, h⟩
    exact ⟨_, List.mem_map.mpr ⟨ps, altsOf_mem.mpr ⟨k, hk⟩, rfl⟩, h⟩
theorem putI_putI (m : MM) (a : Nat) (f g : Nat → Int32) : (m.putI a f).putI a g = m.putI a g := by
  show (up (up m.I a f) a g, _) = (up m.I a g, _)
  rw [up_up]
  rfl
theorem putI_self (m : MM) (a : Nat) : m.putI a (m.I a) = m := by
  show (up m.I a (m.I a), _) = m
  rw [up_id]
  rfl
/-- what is known of the sets while alts from k on have been tried at the span (i, i + d) -/
def EnK (A : Alts) (t : Pat) (n d i k : Nat) (es : Nat → Nat → Nat) : Prop := ∀ r p e, r < 8 → ((es r p).testBit e = true ↔ p < e ∧ e ≤ n ∧ (((e - p < d ∨ (e - p = d ∧ p < i)) ∧ 0 < Cn A t r p e) ∨ (p = i ∧ e = i + d ∧ ∃ (idx : Nat) (ps : List Nat), k ≤ idx ∧ A[idx]? = some (r, ps) ∧ 0 < cov (Cn A t) t ps p e)))
theorem EnK_read {A : Alts} (hA : WfA A) (hS : SortA A) {t : Pat} {n d i k r : Nat} {ps : List Nat} {es : Nat → Nat → Nat} (h : EnK A t n d i (k + 1) es) (hd : 0 < d) (hn : i + d ≤ n) (hk : A[k]? = some (r, ps)) : (ps.foldl (stS es t i (i + d)) (1 <<< i)).testBit (i + d) = true ↔ 0 < cov (Cn A t) t ps i (i + d) := by
  obtain ⟨w1, w2, w3, w4, w5⟩ := hA _ (List.mem_of_getElem? hk)
  refine fold_end w2 (fun q hq h8 p c h1 h2 => ?_) (fun q hq h8 p h1 h2 h3 => ?_)
  · have hq8 : q - 8 < 8 := by have := w4 q hq; omega
    rw [h _ p c hq8]
    constructor
    · rintro ⟨a1, a2, ⟨-, a3⟩ | ⟨a3, a4, a5⟩⟩
      · exact ⟨a1, a3⟩
      · omega
    · rintro ⟨a1, a2⟩
      exact ⟨a1, by omega, Or.inl ⟨Or.inl (by omega), a2⟩⟩
  · have hq8 : q - 8 < 8 := by have := w4 q hq; omega
    rw [h _ p (i + d) hq8]
    by_cases hp : p = i
    · subst hp
      have hps := h3 rfl
      have hr := w5 q hps h8
      rw [Cn_pos hA hq8]
      constructor
      · rintro ⟨a1, a2, ⟨a3, a4⟩ | ⟨-, -, idx, ps2, b1, b2, b3⟩⟩
        · omega
        · exact ⟨a1, idx, ps2, b2, b3⟩
      · rintro ⟨a1, idx, ps2, b2, b3⟩
        refine ⟨a1, hn, Or.inr ⟨rfl, rfl, idx, ps2, ?_, b2, b3⟩⟩
        by_cases hlt : idx < k
        · have := hS idx k _ _ hlt b2 hk
          have : q - 8 ≤ r := this
          have : r < q - 8 := hr
          omega
        · by_cases he : idx = k
          · subst he
            cases b2.symm.trans hk
            have : q - 8 < q - 8 := hr
            omega
          · omega
    · constructor
      · rintro ⟨a1, a2, ⟨-, a3⟩ | ⟨a3, -⟩⟩
        · exact ⟨a1, a3⟩
        · exact absurd a3 hp
      · rintro ⟨a1, a2⟩
        exact ⟨a1, by omega, Or.inl ⟨Or.inl (by omega), a2⟩⟩
/-- all alts tried: the next span -/
theorem EnK_next {A : Alts} (hA : WfA A) {t : Pat} {n d i : Nat} {es : Nat → Nat → Nat} (h : EnK A t n d i 0 es) : EnK A t n d (i + 1) A.length es := by
  intro r p e hr
  rw [h r p e hr]
  constructor
  · rintro ⟨a1, a2, ⟨a3, a4⟩ | ⟨rfl, rfl, idx, ps, b1, b2, b3⟩⟩
    · exact ⟨a1, a2, Or.inl ⟨by omega, a4⟩⟩
    · exact ⟨a1, a2, Or.inl ⟨Or.inr ⟨by omega, by omega⟩, (Cn_pos hA hr).mpr ⟨idx, ps, b2, b3⟩⟩⟩
  · rintro ⟨a1, a2, ⟨a3, a4⟩ | ⟨rfl, rfl, idx, ps, b1, b2, b3⟩⟩
    · by_cases hp : e - p = d ∧ p = i
      · obtain ⟨idx, ps, b2, b3⟩ := (Cn_pos hA hr).mp a4
        exact ⟨a1, a2, Or.inr ⟨hp.2, by omega, idx, ps, Nat.zero_le _, b2, b3⟩⟩
      · exact ⟨a1, a2, Or.inl ⟨by omega, a4⟩⟩
    · have := (List.getElem?_eq_some_iff.mp b2).1
      omega
/-- a size done: the next size -/
theorem EnK_size {A : Alts} {t : Pat} {n d : Nat} {es : Nat → Nat → Nat} (h : EnK A t n d (n + 1 - d) A.length es) : EnK A t n (d + 1) 0 A.length es := by
  intro r p e hr
  rw [h r p e hr]
  constructor
  · rintro ⟨a1, a2, ⟨a3, a4⟩ | ⟨-, -, idx, ps, b1, b2, b3⟩⟩
    · exact ⟨a1, a2, Or.inl ⟨by omega, a4⟩⟩
    · have := (List.getElem?_eq_some_iff.mp b2).1
      omega
  · rintro ⟨a1, a2, ⟨a3, a4⟩ | ⟨-, -, idx, ps, b1, b2, b3⟩⟩
    · exact ⟨a1, a2, Or.inl ⟨by omega, a4⟩⟩
    · have := (List.getElem?_eq_some_iff.mp b2).1
      omega
/-- one alt tried -/
theorem EnK_alt {A : Alts} {t : Pat} {n d i k r : Nat} {ps : List Nat} {es : Nat → Nat → Nat} (h : EnK A t n d i (k + 1) es) (hd : 0 < d) (hn : i + d ≤ n) (hk : A[k]? = some (r, ps)) (hr8 : r < 8) : (0 < cov (Cn A t) t ps i (i + d) → EnK A t n d i k (fun r' p' => if r' = r ∧ p' = i then es r' p' ||| 1 <<< (i + d) else es r' p')) ∧ (¬ 0 < cov (Cn A t) t ps i (i + d) → EnK A t n d i k es) := by
  refine ⟨fun hc r' p e hr' => ?_, fun hc r' p e hr' => ?_⟩
  · by_cases hh : r' = r ∧ p = i
    · obtain ⟨rfl, rfl⟩ := hh
      dsimp only
      rw [if_pos ⟨rfl, rfl⟩, Nat.testBit_or, Bool.or_eq_true, h _ _ _ hr', bit_one]
      constructor
      · rintro (⟨a1, a2, a3 | ⟨a3, a4, idx, ps2, b1, b2, b3⟩⟩ | rfl)
        · exact ⟨a1, a2, Or.inl a3⟩
        · exact ⟨a1, a2, Or.inr ⟨a3, a4, idx, ps2, by omega, b2, b3⟩⟩
        · exact ⟨by omega, hn, Or.inr ⟨rfl, rfl, k, ps, Nat.le_refl k, hk, hc⟩⟩
      · rintro ⟨a1, a2, a3 | ⟨a3, a4, -⟩⟩
        · exact Or.inl ⟨a1, a2, Or.inl a3⟩
        · exact Or.inr a4.symm
    · dsimp only
      rw [if_neg hh, h _ _ _ hr']
      constructor
      · rintro ⟨a1, a2, a3 | ⟨a3, a4, idx, ps2, b1, b2, b3⟩⟩
        · exact ⟨a1, a2, Or.inl a3⟩
        · exact ⟨a1, a2, Or.inr ⟨a3, a4, idx, ps2, by omega, b2, b3⟩⟩
      · rintro ⟨a1, a2, a3 | ⟨a3, a4, idx, ps2, b1, b2, b3⟩⟩
        · exact ⟨a1, a2, Or.inl a3⟩
        · refine ⟨a1, a2, Or.inr ⟨a3, a4, idx, ps2, ?_, b2, b3⟩⟩
          by_cases he : idx = k
          · subst he
            cases b2.symm.trans hk
            exact absurd ⟨rfl, a3⟩ hh
          · omega
  · rw [h _ _ _ hr']
    constructor
    · rintro ⟨a1, a2, a3 | ⟨a3, a4, idx, ps2, b1, b2, b3⟩⟩
      · exact ⟨a1, a2, Or.inl a3⟩
      · exact ⟨a1, a2, Or.inr ⟨a3, a4, idx, ps2, by omega, b2, b3⟩⟩
    · rintro ⟨a1, a2, a3 | ⟨a3, a4, idx, ps2, b1, b2, b3⟩⟩
      · exact ⟨a1, a2, Or.inl a3⟩
      · refine ⟨a1, a2, Or.inr ⟨a3, a4, idx, ps2, ?_, b2, b3⟩⟩
        by_cases he : idx = k
        · subst he
          cases b2.symm.trans hk
          subst a3 a4
          exact absurd b3 hc
        · omega
