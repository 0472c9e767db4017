/-! the Model: layEnds walked -/
set_option maxRecDepth 100000
theorem putI_In {m : MM} {a b : Nat} {f : Nat → Int32} (h : b ≠ a) : (m.putI a f).I b = m.I b := up_n h
theorem putI_Is {m : MM} {a : Nat} {f : Nat → Int32} : (m.putI a f).I a = f := up_s _ _ _
theorem GA.putI {m : MM} {x a : Nat} {A : Alts} {f : Nat → Int32} (h : GA m x A) (h1 : x ≠ a) (h2 : x + 6 ≠ a) (h3 : x + 12 ≠ a) (h4 : x + 13 ≠ a) (h5 : x + 14 ≠ a) : GA (m.putI a f) x A := by
  obtain ⟨bk, g1, g2, g3, g4, g5⟩ := h
  refine ⟨bk, g1, ?_, g3, ?_, fun k al hk => ?_⟩
  · rw [putI_In h1]; exact g2
  · rw [putI_In h2]; exact g4
  · obtain ⟨q1, q2, q3, q4, q5⟩ := g5 k al hk
    refine ⟨by rw [putI_In h3]; exact q1, by rw [putI_In h4]; exact q2, q3, fun j q hj => by rw [putI_In h5]; exact q4 j q hj, q5⟩
theorem Tried.putI {m : MM} {x a n : Nat} {t : Pat} {f : Nat → Int32} (h : Tried m x t n) (h1 : x + 21 ≠ a) : Tried (m.putI a f) x t n := fun p hp => by
  rw [putI_In h1]; exact h p hp
theorem N_dec {k : Nat} : J (((k + 1 : Nat) : Int) - 1) = N k := by
  rw [N_J]
  congr 1
  omega
theorem N_m1 {k : Nat} : N k + (-1 : Int32) = J ((k : Int) - 1) := by
  rw [N_J, show (-1 : Int32) = J (-1) from rfl, J_add]
  congr 1
theorem N_ne0 : ¬ (N 1 = 0) := by decide
def EInv (m : MM) (x : Nat) (es : Nat → Nat → Nat) (m1 : MM) : Prop := (∃ f, m1 = m.putI (x + 22) f) ∧ EndsOk m1 x es
theorem le_alts {m : MM} {x n d i : Nat} {A : Alts} {t : Pat} (h : LY m x) (hA : WfA A) (hS : SortA A) (hT : Tried m x t n) (hn : n ≤ 6) (hd : 0 < d) (hi : i + d ≤ n) {bk : Nat} (g1 : bk < 2) (g2 : m.I x 29 = N bk) (g3 : A.length ≤ 24) (g5 : ∀ (k : Nat) (a : Nat × List Nat), A[k]? = some a → m.I (x + 12) (24 * bk + k) = N a.1 ∧ AltAt m x (24 * bk + k) a.2) {es : Nat → Nat → Nat} {m1 : MM} (hI : EInv m x es m1) (hE : EnK A t n d i A.length es) : RG (s_X2_layEnds x (N n)) (.inr (.inr (.inr (N d, N i, J (((24 * bk + A.length : Nat) : Int) - 1), m1)))) (fun o => ∃ es m2, o = .inl (.inr (.inr (.inl (N d, N (i + 1), m2)))) ∧ EInv m x es m2 ∧ EnK A t n d (i + 1) A.length es) := by
  refine (RG.for (fun c st => ∃ es m1, st = .inr (.inr (.inr (N d, N i, J (((24 * bk + (A.length - c) : Nat) : Int) - 1), m1))) ∧ EInv m x es m1 ∧ EnK A t n d i (A.length - c) es) (fun _ => False) 0 A.length (Nat.zero_le _) (fun c st h1 h2 h3 => ?_) ⟨es, m1, rfl, hI, hE⟩).then (fun st h3 => ?_) (fun r h3 => h3.elim)
  · obtain ⟨es, m1, rfl, ⟨⟨f, rfl⟩, hE1⟩, hK⟩ := h3
    have hc : A.length - c = (A.length - (c + 1)) + 1 := by omega
    generalize hk : A.length - (c + 1) = k at hc
    rw [hc] at hK ⊢
    have hkl : k < A.length := by omega
    obtain ⟨⟨r, ps⟩, ha⟩ : ∃ a, A[k]? = some a := ⟨A[k], List.getElem?_eq_getElem hkl⟩
    obtain ⟨w1, w2, w3, w4, w5⟩ := hA _ (List.mem_of_getElem? ha)
    obtain ⟨q1, q2⟩ := g5 k _ ha
    have hL : LY (m.putI (x + 22) f) x := h.putI
    have hal : AltAt (m.putI (x + 22) f) x (24 * bk + k) ps := ⟨by rw [putI_In (by omega)]; exact q2.1, q2.2.1, fun j q hj => by rw [putI_In (by omega)]; exact q2.2.2.1 j q hj, q2.2.2.2⟩
    have hbk : (m.putI (x + 22) f).I x 29 = N bk := by rw [putI_In (by omega)]; exact g2
    have har : (m.putI (x + 22) f).I (x + 12) (24 * bk + k) = N r := by rw [putI_In (by omega)]; exact q1
    refine RG.step1 ?_
    show T (b_X2_layEnds_58 x (N n) (N d) (N i) (J (((24 * bk + (k + 1) : Nat) : Int) - 1)) (m.putI (x + 22) f)) _
    unfold b_X2_layEnds_58
    rw [show 24 * bk + (k + 1) = (24 * bk + k) + 1 from rfl, N_dec, hbk, l24, N_mul, if_neg (by rw [N_lt (by omega) (by omega)]; omega), N_add, f_doesRead hL hE1 (hT.putI (by omega)) hn (by omega) hal (Nat.le_add_right i d) hi, bd2_some, N_m1]
    have hread := EnK_read hA hS hK hd hi ha
    have halt := EnK_alt hK hd hi ha w1
    by_cases hb : (ps.foldl (stS es t i (i + d)) (1 <<< i)).testBit (i + d) = true
    · obtain ⟨e1, e2⟩ := hE1 r i w1 (by omega)
      rw [if_pos hb]
      rw [if_neg N_ne0, yr_altRule hL (by omega), bd_some, har, l7, N_mul, N_add, yr_ends hL (by omega), bd_some, e1, l1, N_shl (by omega), N_or, yw_ends hL (by omega), bd_some, T_some]
      refine ⟨_, _, rfl, ⟨⟨_, putI_putI m (x + 22) f _⟩, fun r' p' hr' hp' => ?_⟩, halt.1 (hread.mp hb)⟩
      rw [putI_Is, putI_Is]
      obtain ⟨u1, u2⟩ := hE1 r' p' hr' hp'
      rw [putI_Is] at u1 e1
      by_cases hh : r' = r ∧ p' = i
      · obtain ⟨rfl, rfl⟩ := hh
        rw [if_pos ⟨rfl, rfl⟩, up_s]
        refine ⟨rfl, Nat.or_lt_two_pow (n := 7) e2 ?_⟩
        rw [Nat.shiftLeft_eq, Nat.one_mul]
        exact Nat.pow_lt_pow_right (by decide) (by omega)
      · rw [if_neg hh, up_n (by omega)]
        exact ⟨u1, u2⟩
    · rw [if_neg hb]
      rw [if_pos (show N 0 = 0 from rfl), T_some]
      exact ⟨es, _, rfl, ⟨⟨f, rfl⟩, hE1⟩, halt.2 (fun z => hb (hread.mpr z))⟩
  · obtain ⟨es, m1, rfl, ⟨⟨f, rfl⟩, hE1⟩, hK⟩ := h3
    rw [Nat.sub_self] at hK ⊢
    have hbk : (m.putI (x + 22) f).I x 29 = N bk := by rw [putI_In (by omega)]; exact g2
    refine RG.step1 ?_
    show T (b_X2_layEnds_58 x (N n) (N d) (N i) (J (((24 * bk + 0 : Nat) : Int) - 1)) (m.putI (x + 22) f)) _
    unfold b_X2_layEnds_58
    rw [hbk, l24, N_mul, N_J (24 * bk), if_pos ((J_lt (by omega) (by omega) (by omega) (by omega)).mpr (by omega)), T_some, l1, N_add]
    exact ⟨es, _, rfl, ⟨⟨f, rfl⟩, hE1⟩, EnK_next hA hK⟩
/-- the Model lays for each rule and place the ends to which it reads -/
theorem f_layEnds {m : MM} {x n : Nat} {A : Alts} {t : Pat} (h : LY m x) (hG : GA m x A) (hA : WfA A) (hS : SortA A) (hT : Tried m x t n) (hn : n ≤ 6) : T (f_X2_layEnds x (N n) m) (fun o => ∃ f es, o = ((), m.putI (x + 22) f) ∧ EndsOk (m.putI (x + 22) f) x es ∧ ∀ r p e, r < 8 → ((es r p).testBit e = true ↔ p < e ∧ e ≤ n ∧ 0 < Cn A t r p e)) := by
  obtain ⟨bk, g1, g2, g3, g4, g5⟩ := hG
  unfold f_X2_layEnds b_X2_layEnds_0
  rw [bd_some, T_go]
  refine RG.fin (RG.then (P := fun o => ∃ m1, o = .inl (.inr (.inl (N 1, m1))) ∧ EInv m x (fun _ _ => 0) m1) ?_ ?_ (fun r h3 => by obtain ⟨_, e, _⟩ := h3; cases e))
  · refine (RG.for (fun k st => ∃ f, st = .inl (N k, m.putI (x + 22) f) ∧ ∀ j, j < k → f j = 0) (fun _ => False) 0 56 (by decide) (fun k st h1 h2 h3 => ?_) ⟨m.I (x + 22), by rw [putI_self]; rfl, fun j hj => by omega⟩).then (fun st h3 => ?_) (fun r h3 => h3.elim)
    · obtain ⟨f, rfl, h4⟩ := h3
      refine RG.step1 ?_
      show T (b_X2_layEnds_2 x (N n) (N k) (m.putI (x + 22) f)) _
      unfold b_X2_layEnds_2
      rw [l56, if_neg (by rw [N_le (by omega) (by omega)]; omega), yw_ends h.putI (by omega), bd_some, T_some, l1, N_add, putI_putI, putI_Is]
      refine ⟨_, rfl, fun j hj => ?_⟩
      by_cases e : j = k
      · subst e; rw [up_s]
      · rw [up_n e]; exact h4 j (by omega)
    · obtain ⟨f, rfl, h4⟩ := h3
      refine RG.step1 ?_
      show T (b_X2_layEnds_2 x (N n) (N 56) (m.putI (x + 22) f)) _
      unfold b_X2_layEnds_2
      rw [l56, if_pos ((N_le (by omega) (by omega)).mpr (Nat.le_refl 56)), T_some]
      refine ⟨_, rfl, ⟨f, rfl⟩, fun r p hr hp => ⟨?_, show 0 < 128 by decide⟩⟩
      rw [putI_Is, h4 _ (by omega)]
      rfl
  · rintro st ⟨m1, e, hI⟩
    cases e
    refine (RG.for (fun d st => ∃ es m1, st = .inr (.inl (N d, m1)) ∧ EInv m x es m1 ∧ EnK A t n d 0 A.length es) (fun _ => False) 1 (n + 1) (by omega) (fun d st h1 h2 h3 => ?_) ⟨fun _ _ => 0, m1, rfl, hI, fun r p e hr => ?_⟩).then (fun st h3 => ?_) (fun r h3 => h3.elim)
    · obtain ⟨es, m1, rfl, hI, hK⟩ := h3
      refine RG.step ?_
      show T (b_X2_layEnds_23 x (N n) (N d) m1) _
      unfold b_X2_layEnds_23
      rw [if_neg (by rw [N_lt (by omega) (by omega)]; omega), T_some, l0]
      refine (RG.for (fun i st => ∃ es m1, st = .inr (.inr (.inl (N d, N i, m1))) ∧ EInv m x es m1 ∧ EnK A t n d i A.length es) (fun _ => False) 0 (n + 1 - d) (by omega) (fun i st h3 h4 h5 => ?_) ⟨es, m1, rfl, hI, hK⟩).then (fun st h5 => ?_) (fun r h5 => h5.elim)
      · obtain ⟨es, m1, rfl, hI, hK⟩ := h5
        obtain ⟨⟨f, rfl⟩, hE⟩ := hI
        have hbk : (m.putI (x + 22) f).I x 29 = N bk := by rw [putI_In (by omega)]; exact g2
        have hal : (m.putI (x + 22) f).I (x + 6) bk = N A.length := by rw [putI_In (by omega)]; exact g4
        refine RG.step ?_
        show T (b_X2_layEnds_30 x (N n) (N d) (N i) (m.putI (x + 22) f)) _
        unfold b_X2_layEnds_30
        rw [N_add, if_neg (by rw [N_lt (by omega) (by omega)]; omega), hbk, yr_alts h.putI (by omega), bd_some, hal, l24, N_mul, N_add, T_some]
        have e9 : N (24 * bk + A.length) - (1 : Int32) = J (((24 * bk + A.length : Nat) : Int) - 1) := by
          rw [N_J, show (1 : Int32) = J 1 from rfl, J_sub]
        rw [e9]
        exact (le_alts h hA hS hT hn (by omega) (by omega) g1 g2 g3 g5 ⟨⟨f, rfl⟩, hE⟩ hK).imp fun o ho => by
          obtain ⟨es, m2, rfl, q1, q2⟩ := ho
          exact ⟨es, m2, rfl, q1, q2⟩
      · obtain ⟨es, m1, rfl, hI, hK⟩ := h5
        refine RG.step1 ?_
        show T (b_X2_layEnds_30 x (N n) (N d) (N (n + 1 - d)) m1) _
        unfold b_X2_layEnds_30
        rw [N_add, if_pos ((N_lt (by omega) (by omega)).mpr (by omega)), T_some, l1, N_add]
        exact ⟨es, m1, rfl, hI, EnK_size hK⟩
    · constructor
      · intro z; simp at z
      · rintro ⟨a1, a2, ⟨a3, a4⟩ | ⟨-, -, idx, ps, b1, b2, b3⟩⟩
        · omega
        · have := (List.getElem?_eq_some_iff.mp b2).1
          omega
    · obtain ⟨es, m1, rfl, ⟨⟨f, rfl⟩, hE⟩, hK⟩ := h3
      refine RG.step1 ?_
      show T (b_X2_layEnds_23 x (N n) (N (n + 1)) (m.putI (x + 22) f)) _
      unfold b_X2_layEnds_23
      rw [if_pos ((N_lt (by omega) (by omega)).mpr (by omega)), T_some]
      refine ⟨f, es, rfl, hE, fun r p e hr => ?_⟩
      rw [hK r p e hr]
      constructor
      · rintro ⟨a1, a2, ⟨a3, a4⟩ | ⟨-, -, idx, ps, b1, b2, b3⟩⟩
        · exact ⟨a1, a2, a4⟩
        · have := (List.getElem?_eq_some_iff.mp b2).1
          omega
      · rintro ⟨a1, a2, a3⟩
        exact ⟨a1, a2, Or.inl ⟨by omega, a3⟩⟩
