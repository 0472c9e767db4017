/-! the Model's sets of ends, and the counts -/
set_option maxRecDepth 100000
/-- one part more, at the end -/
theorem cov_snoc {M : Nat → Nat → Nat → Nat} {t : Pat} {q e : Nat} (ps : List Nat) : ∀ {i : Nat}, cov M t (ps ++ [q]) i e = sumN (e + 1) (fun a => cov M t ps i a * rdg M t q a e) := by
  induction ps with
  | nil =>
    intro i
    show cov M t [q] i e = sumN (e + 1) (fun a => (if i = a then 1 else 0) * rdg M t q a e)
    rw [cov_one]
    by_cases h : i ≤ e
    · rw [sumN_one (i := i) (by omega) (fun k _ hk => by rw [if_neg (Ne.symm hk), Nat.zero_mul]), if_pos rfl, Nat.one_mul]
    · rw [rdg_zero (by omega), sumN_zero (fun k hk => by rw [if_neg (by omega), Nat.zero_mul])]
  | cons p ps ih =>
    intro i
    show sumN (e + 1) (fun m => rdg M t p i m * cov M t (ps ++ [q]) m e) = sumN (e + 1) (fun a => sumN (a + 1) (fun m => rdg M t p i m * cov M t ps m a) * rdg M t q a e)
    have h1 : sumN (e + 1) (fun m => rdg M t p i m * cov M t (ps ++ [q]) m e) = sumN (e + 1) (fun m => sumN (e + 1) (fun a => rdg M t p i m * cov M t ps m a * rdg M t q a e)) := sumN_congr fun m _ => by
      show rdg M t p i m * cov M t (ps ++ [q]) m e = _
      rw [ih, ← sumN_mul]
      exact sumN_congr fun a _ => (Nat.mul_assoc _ _ _).symm
    rw [h1, sumN_swap]
    refine sumN_congr fun a ha => ?_
    show sumN (e + 1) (fun m => rdg M t p i m * cov M t ps m a * rdg M t q a e) = _
    rw [sumN_mul2]
    congr 1
    rw [sumN_part (n := e + 1) (a := 0) (b := a + 1) (by omega) (fun k hk hz => by
      rw [cov_zero ps (by omega), Nat.mul_zero])]
    exact sumN_congr fun m _ => by rw [Nat.zero_add]
theorem stS_bit {es : Nat → Nat → Nat} {t : Pat} {i j s q e : Nat} : (stS es t i j s q).testBit e = true ↔ ∃ p, i ≤ p ∧ p < j ∧ s.testBit p = true ∧ (eb es t q p).testBit e = true := by
  unfold stS
  rw [orS_bit]
  constructor
  · rintro ⟨p, h1, h2, h3⟩
    by_cases h : s.testBit p = true
    · rw [if_pos h] at h3
      exact ⟨p, h1, by omega, h, h3⟩
    · rw [if_neg h] at h3
      simp at h3
  · rintro ⟨p, h1, h2, h3, h4⟩
    exact ⟨p, h1, by omega, by rw [if_pos h3]; exact h4⟩
theorem eb_bit {es : Nat → Nat → Nat} {M : Nat → Nat → Nat → Nat} {t : Pat} {q p e : Nat} (h : 8 ≤ q → ((es (q - 8) p).testBit e = true ↔ p < e ∧ 0 < M (q - 8) p e)) : (eb es t q p).testBit e = true ↔ 0 < rdg M t q p e := by
  unfold eb rdg
  by_cases hq : q < 8
  · rw [if_pos hq]
    by_cases hf : fits_ t p q = true
    · rw [if_pos hf, Nat.shiftLeft_eq, Nat.one_mul, Nat.testBit_two_pow]
      by_cases he : p + 1 = e
      · subst he
        rw [if_pos (by omega), if_pos hq, if_pos ⟨rfl, hf⟩]
        simp
      · have : ¬ (e = p + 1) := fun z => he z.symm
        simp [he, this]
        intros
        omega
    · rw [if_neg hf]
      simp [hf]
      intros
      omega
  · rw [if_neg hq, h (by omega)]
    by_cases he : p < e
    · rw [if_pos he, if_neg hq]
      exact ⟨fun z => z.2, fun z => ⟨he, z⟩⟩
    · rw [if_neg he]
      exact ⟨fun z => absurd z.1 he, fun z => absurd z (Nat.lt_irrefl 0)⟩
theorem bit_one {i e : Nat} : (1 <<< i).testBit e = true ↔ i = e := by
  rw [Nat.shiftLeft_eq, Nat.one_mul, Nat.testBit_two_pow]
  simp
theorem cov_ge {M : Nat → Nat → Nat → Nat} {t : Pat} {ps : List Nat} {i j : Nat} (h : 0 < cov M t ps i j) : i + ps.length ≤ j := by
  by_cases h2 : j < i + ps.length
  · rw [cov_zero ps h2] at h; omega
  · omega
/-- the fold of sets inside the span: a place is reached iff the parts cover the span to it in some way -/
theorem fold_in {es : Nat → Nat → Nat} {M : Nat → Nat → Nat → Nat} {t : Pat} {i j : Nat} : ∀ (n : Nat) (ps : List Nat), ps.length = n → (∀ q ∈ ps, 8 ≤ q → ∀ p c, i ≤ p → c < j → ((es (q - 8) p).testBit c = true ↔ p < c ∧ 0 < M (q - 8) p c)) → ∀ e, e < j → ((ps.foldl (stS es t i j) (1 <<< i)).testBit e = true ↔ 0 < cov M t ps i e) := by
  intro n
  induction n with
  | zero =>
    intro ps h _ e he
    rw [List.length_eq_zero_iff.mp h]
    show (1 <<< i).testBit e = true ↔ 0 < if i = e then 1 else 0
    rw [bit_one]
    by_cases hh : i = e
    · rw [if_pos hh]; exact ⟨fun _ => by decide, fun _ => hh⟩
    · rw [if_neg hh]; exact ⟨fun z => absurd z hh, fun z => absurd z (by decide)⟩
  | succ n ih =>
    intro ps h hT e he
    rcases List.eq_nil_or_concat ps with rfl | ⟨l, q, rfl⟩
    · simp at h
    · rw [List.concat_eq_append] at h hT ⊢
      rw [List.foldl_append, cov_snoc, sumN_pos]
      show (stS es t i j _ q).testBit e = true ↔ _
      rw [stS_bit]
      have hl : l.length = n := by simp at h; exact h
      have IH := ih l hl (fun q2 hq => hT q2 (List.mem_append_left _ hq))
      have hq := hT q (List.mem_append_right _ List.mem_cons_self)
      constructor
      · rintro ⟨p, h1, h2, h3, h4⟩
        have h5 := (eb_bit (M := M) (t := t) (fun h8 => hq h8 p e h1 he)).mp h4
        have h6 := (IH p h2).mp h3
        refine ⟨p, ?_, Nat.mul_pos h6 h5⟩
        by_cases hpe : p < e
        · omega
        · rw [rdg_zero (by omega)] at h5; omega
      · rintro ⟨p, h1, h2⟩
        have h3 : 0 < cov M t l i p := Nat.pos_of_mul_pos_right h2
        have h4 : 0 < rdg M t q p e := Nat.pos_of_mul_pos_left h2
        have h5 := cov_ge h3
        exact ⟨p, by omega, by omega, (IH p (by omega)).mpr h3, (eb_bit (M := M) (t := t) (fun h8 => hq h8 p e (by omega) he)).mpr h4⟩
/-- the same at the span's end -/
theorem fold_end {es : Nat → Nat → Nat} {M : Nat → Nat → Nat → Nat} {t : Pat} {i j : Nat} {ps : List Nat} (hne : ps ≠ []) (hT : ∀ q ∈ ps, 8 ≤ q → ∀ p c, i ≤ p → c < j → ((es (q - 8) p).testBit c = true ↔ p < c ∧ 0 < M (q - 8) p c)) (hT2 : ∀ q ∈ ps, 8 ≤ q → ∀ p, i ≤ p → p < j → (p = i → ps = [q]) → ((es (q - 8) p).testBit j = true ↔ p < j ∧ 0 < M (q - 8) p j)) : (ps.foldl (stS es t i j) (1 <<< i)).testBit j = true ↔ 0 < cov M t ps i j := by
  rcases List.eq_nil_or_concat ps with rfl | ⟨l, q, rfl⟩
  · exact absurd rfl hne
  · rw [List.concat_eq_append] at hT hT2 ⊢
    rw [List.foldl_append, cov_snoc, sumN_pos]
    show (stS es t i j _ q).testBit j = true ↔ _
    rw [stS_bit]
    have IH := fold_in (es := es) (M := M) (t := t) (i := i) (j := j) _ l rfl (fun q2 hq => hT q2 (List.mem_append_left _ hq))
    have hq := hT2 q (List.mem_append_right _ List.mem_cons_self)
    have hnil : ∀ p, 0 < cov M t l i p → p = i → l ++ [q] = [q] := by
      intro p h e
      have := cov_ge h
      have : l.length = 0 := by omega
      rw [List.length_eq_zero_iff.mp this]
      rfl
    constructor
    · rintro ⟨p, h1, h2, h3, h4⟩
      have h6 := (IH p h2).mp h3
      have h5 := (eb_bit (M := M) (t := t) (fun h8 => hq h8 p h1 h2 (hnil p h6))).mp h4
      exact ⟨p, by omega, Nat.mul_pos h6 h5⟩
    · rintro ⟨p, h1, h2⟩
      have h3 : 0 < cov M t l i p := Nat.pos_of_mul_pos_right h2
      have h4 : 0 < rdg M t q p j := Nat.pos_of_mul_pos_left h2
      have h5 := cov_ge h3
      have h6 : p < j := by
        by_cases hpe : p < j
        · exact hpe
        · rw [rdg_zero (by omega)] at h4; omega
      exact ⟨p, by omega, h6, (IH p h6).mpr h3, (eb_bit (M := M) (t := t) (fun h8 => hq h8 p (by omega) h6 (hnil p h3))).mpr h4⟩
