/-! printed by wip/gen: the walks -/
set_option maxRecDepth 100000
set_option maxHeartbeats 4000000 in
theorem w_J0_init_0 {Γ : GG} (hΓ : GF Γ) {m0 mF m : MM} {x : Nat} (hT : (m.K x).1 = 9) {r : Unit} (h : b_J0_init_0 x m = some (r, mF)) : G Γ kJ0_init cJ0_init m0 mF (.inl none) m 0 [some (.ref x)] [] := by
  unfold b_J0_init_0 at h
  refine g_this dJ0_init_0 rfl ?_
  refine g_objInit q164 q145 q146 (Nat.le_of_ble_eq_true rfl) (Nat.le_of_ble_eq_true rfl) (Nat.le_of_ble_eq_true rfl) dJ0_init_1 ?_
  cases h
  exact g_vret rfl dJ0_init_4
theorem ct_J0_init {Γ : GG} (hΓ : GF Γ) {m mF : MM} {x : Nat} (hT : (m.K x).1 = 9) {r : Unit} (h : f_J0_init x m = some (r, mF)) : Ct Γ kJ0_init cJ0_init [.ref x] m (.inl none) mF := by
  unfold f_J0_init at h
  exact Ct.of (κ := kJ0_init) (by decide) rfl (Nat.le_of_ble_eq_true rfl) rfl (w_J0_init_0 hΓ hT h)
set_option maxHeartbeats 4000000 in
theorem w_J1_init_0 {Γ : GG} (hΓ : GF Γ) {m0 mF m : MM} {x : Nat} (hT : (m.K x).1 = 9) {r : Unit} (h : b_J1_init_0 x m = some (r, mF)) : G Γ kJ1_init cJ1_init m0 mF (.inl none) m 0 [some (.ref x)] [] := by
  unfold b_J1_init_0 at h
  refine g_this dJ1_init_0 rfl ?_
  replace h := bd2_of h; obtain ⟨_, m1, em1, h⟩ := h
  have C := ct_J0_init hΓ hT em1
  refine g_callI il_J1_1 C rfl rfl (Nat.le_of_ble_eq_true rfl) (Nat.le_of_ble_eq_true rfl) (Nat.le_of_ble_eq_true rfl) dJ1_init_1 ?_
  replace hT := (C.1).kd hT
  refine g_this dJ1_init_4 rfl ?_
  refine g_ic 0 dJ1_init_5 rfl ?_
  replace h := bd_of h; obtain ⟨m2, em2, h⟩ := h
  refine g_pI hΓ.k fl_J1_7_J2 (fun h9 => by cases h9) rfl (Or.inl ⟨rfl, rfl⟩) em2 dJ1_init_6 ?_
  replace hT := (pI_ext em2).kd hT
  cases h
  exact g_vret rfl dJ1_init_9
theorem ct_J1_init {Γ : GG} (hΓ : GF Γ) {m mF : MM} {x : Nat} (hT : (m.K x).1 = 9) {r : Unit} (h : f_J1_init x m = some (r, mF)) : Ct Γ kJ1_init cJ1_init [.ref x] m (.inl none) mF := by
  unfold f_J1_init at h
  exact Ct.of (κ := kJ1_init) (by decide) rfl (Nat.le_of_ble_eq_true rfl) rfl (w_J1_init_0 hΓ hT h)
set_option maxHeartbeats 4000000 in
theorem w_J2_init_0 {Γ : GG} (hΓ : GF Γ) {m0 mF m : MM} {x : Nat} {l1 : Int32} (hT : (m.K x).1 = 9) {r : Unit} (h : b_J2_init_0 x l1 m = some (r, mF)) : G Γ kJ2_init cJ2_init m0 mF (.inl none) m 0 [some (.ref x), some (.int l1)] [] := by
  unfold b_J2_init_0 at h
  refine g_this dJ2_init_0 rfl ?_
  replace h := bd2_of h; obtain ⟨_, m1, em1, h⟩ := h
  have C := ct_J1_init hΓ hT em1
  refine g_callI il_J2_1 C rfl rfl (Nat.le_of_ble_eq_true rfl) (Nat.le_of_ble_eq_true rfl) (Nat.le_of_ble_eq_true rfl) dJ2_init_1 ?_
  replace hT := (C.1).kd hT
  refine g_iload_n 1 dJ2_init_4 rfl rfl ?_
  replace h := ite_of h; rcases h with ⟨hc, h⟩ | ⟨hc, h⟩
  · refine g_ifleT dJ2_init_5 rfl hc ?_
    cases h
  · refine g_ifleF dJ2_init_5 rfl hc ?_
    refine g_this dJ2_init_8 rfl ?_
    refine g_iload_n 1 dJ2_init_9 rfl rfl ?_
    replace h := bd_of h; obtain ⟨m2, em2, h⟩ := h
    refine g_anew hΓ.a hΓ.ao q165 em2 dJ2_init_10 ?_
    replace hT := (nA_ext em2).kd hT
    replace h := bd_of h; obtain ⟨m3, em3, h⟩ := h
    refine g_pR hΓ.k fl_J2_9_J2 (fun h9 => by cases h9) (Or.inr ⟨_, rfl⟩) em3 dJ2_init_13 ?_
    replace hT := (pR_ext em3).kd hT
    refine g_goto dJ2_init_16 rfl ?_
    cases h
    exact g_vret rfl dJ2_init_60
theorem ct_J2_init {Γ : GG} (hΓ : GF Γ) {m mF : MM} {x : Nat} {l1 : Int32} (hT : (m.K x).1 = 9) {r : Unit} (h : f_J2_init x l1 m = some (r, mF)) : Ct Γ kJ2_init cJ2_init [.ref x, .int l1] m (.inl none) mF := by
  unfold f_J2_init at h
  exact Ct.of (κ := kJ2_init) (by decide) rfl (Nat.le_of_ble_eq_true rfl) rfl (w_J2_init_0 hΓ hT h)
set_option maxHeartbeats 4000000 in
theorem w_X1_turn_0 {Γ : GG} (hΓ : GF Γ) {m0 mF m : MM} {x : Nat} {l1 : Int32} (hT : (m.K x).1 = 2) {r : Int32} (h : b_X1_turn_0 x l1 m = some (r, mF)) : G Γ kX1_turn cX1_turn m0 mF (.inl (some (.int r))) m 0 [some (.ref x), some (.int l1)] [] := by
  unfold b_X1_turn_0 at h
  refine g_this dX1_turn_0 rfl ?_
  refine g_getI hΓ.k fl_X1_61_X1 rfl hT dX1_turn_1 ?_
  replace h := ite_of h; rcases h with ⟨hc, h⟩ | ⟨hc, h⟩
  · refine g_ifneF dX1_turn_4 rfl hc ?_
    refine g_iload_n 1 dX1_turn_7 rfl rfl ?_
    refine g_ic 3 dX1_turn_8 rfl ?_
    refine g_irem dX1_turn_9 (by decide) ?_
    refine g_goto dX1_turn_10 rfl ?_
    cases h
    exact g_iret rfl dX1_turn_24
  · refine g_ifneT dX1_turn_4 rfl hc ?_
    refine g_this dX1_turn_13 rfl ?_
    refine g_getR hΓ.k fl_X1_30_X1 rfl hT dX1_turn_14 ?_
    refine g_iload_n 1 dX1_turn_17 rfl rfl ?_
    refine g_this dX1_turn_18 rfl ?_
    refine g_getI hΓ.k fl_X1_61_X1 rfl hT dX1_turn_19 ?_
    replace h := ite_of h; rcases h with ⟨hc, h⟩ | ⟨hc, h⟩
    · cases h
    refine g_irem dX1_turn_22 hc ?_
    replace h := bd_of h; obtain ⟨v1, ev1, h⟩ := h
    refine g_iald ev1 dX1_turn_23 ?_
    cases h
    exact g_iret rfl dX1_turn_24
theorem ct_X1_turn {Γ : GG} (hΓ : GF Γ) {m mF : MM} {x : Nat} {l1 : Int32} (hT : (m.K x).1 = 2) {r : Int32} (h : f_X1_turn x l1 m = some (r, mF)) : Ct Γ kX1_turn cX1_turn [.ref x, .int l1] m (.inl (some (.int r))) mF := by
  unfold f_X1_turn at h
  exact Ct.of (κ := kX1_turn) (by decide) rfl (Nat.le_of_ble_eq_true rfl) rfl (w_X1_turn_0 hΓ hT h)
def p_X0_begin (Γ : GG) (m0 mF : MM) (x : Nat) (r : Unit) : ((Int32 × MM)) → Prop := fun z => match z with
  | (l1, m) => (m.K x).1 = 1 → G Γ kX0_begin cX0_begin m0 mF (.inl none) m 2 [some (.ref x), some (.int l1)] []
set_option maxHeartbeats 4000000 in
theorem w_X0_begin_2 {Γ : GG} (hΓ : GF Γ) {m0 mF m : MM} {x : Nat} {l1 : Int32} (hT : (m.K x).1 = 1) {r : Unit} {q : ((Int32 × MM)) ⊕ (Unit × MM)} (h : b_X0_begin_2 x l1 m = some q) (Hl : ∀ z, q = .inl z → p_X0_begin Γ m0 mF x r z) (Hr : ∀ z, q = .inr z → z = (r, mF)) : G Γ kX0_begin cX0_begin m0 mF (.inl none) m 2 [some (.ref x), some (.int l1)] [] := by
  unfold b_X0_begin_2 at h
  refine g_iload_n 1 dX0_begin_2 rfl rfl ?_
  refine g_bi (6) dX0_begin_3 rfl ?_
  replace h := ite_of h; rcases h with ⟨hc, h⟩ | ⟨hc, h⟩
  · refine g_icgeT dX0_begin_5 rfl hc ?_
    refine g_this dX0_begin_38 rfl ?_
    refine g_getR hΓ.k fl_X0_164_X0 rfl hT dX0_begin_39 ?_
    refine g_bi (12) dX0_begin_42 rfl ?_
    refine g_ic 0 dX0_begin_44 rfl ?_
    replace h := bd_of h; obtain ⟨m1, em1, h⟩ := h
    refine g_iast em1 dX0_begin_45 ?_
    replace hT := (sI_ext em1).kd hT
    refine g_this dX0_begin_46 rfl ?_
    refine g_ic 0 dX0_begin_47 rfl ?_
    replace h := bd_of h; obtain ⟨m2, em2, h⟩ := h
    refine g_pI hΓ.k fl_X0_250_X0 (fun h9 => by cases h9) rfl (Or.inl ⟨rfl, rfl⟩) em2 dX0_begin_48 ?_
    replace hT := (pI_ext em2).kd hT
    refine g_this dX0_begin_51 rfl ?_
    refine g_ic 0 dX0_begin_52 rfl ?_
    replace h := bd_of h; obtain ⟨m3, em3, h⟩ := h
    refine g_pI hΓ.k fl_X0_253_X0 (fun h9 => by cases h9) rfl (Or.inl ⟨rfl, rfl⟩) em3 dX0_begin_53 ?_
    replace hT := (pI_ext em3).kd hT
    cases h
    cases Hr _ rfl
    exact g_vret rfl dX0_begin_56
  · refine g_icgeF dX0_begin_5 rfl hc ?_
    refine g_this dX0_begin_8 rfl ?_
    refine g_getR hΓ.k fl_X0_164_X0 rfl hT dX0_begin_9 ?_
    refine g_iload_n 1 dX0_begin_12 rfl rfl ?_
    refine g_ic (-1) dX0_begin_13 rfl ?_
    replace h := bd_of h; obtain ⟨m4, em4, h⟩ := h
    refine g_iast em4 dX0_begin_14 ?_
    replace hT := (sI_ext em4).kd hT
    refine g_this dX0_begin_15 rfl ?_
    refine g_getR hΓ.k fl_X0_164_X0 rfl hT dX0_begin_16 ?_
    refine g_bi (6) dX0_begin_19 rfl ?_
    refine g_iload_n 1 dX0_begin_21 rfl rfl ?_
    refine g_iadd dX0_begin_22 ?_
    refine g_this dX0_begin_23 rfl ?_
    refine g_getR hΓ.k fl_X0_31_X0 rfl hT dX0_begin_24 ?_
    refine g_iload_n 1 dX0_begin_27 rfl rfl ?_
    replace h := bd_of h; obtain ⟨a5, ea5, h⟩ := h
    obtain ⟨ea5, ka5⟩ := isK_of ea5
    replace h := bd2_of h; obtain ⟨v6, m7, em7, h⟩ := h
    have C := ct_X1_turn hΓ ka5 em7
    refine g_callVi hΓ.k vl_X0_246 ka5 C rfl (by rw [ea5]; rfl) (Nat.le_of_ble_eq_true rfl) (Nat.le_of_ble_eq_true rfl) (Nat.le_of_ble_eq_true rfl) dX0_begin_28 ?_
    replace hT := (C.1).kd hT
    replace h := bd_of h; obtain ⟨m8, em8, h⟩ := h
    refine g_iast em8 dX0_begin_31 ?_
    replace hT := (sI_ext em8).kd hT
    refine g_iinc (l1 + (1 : Int32)) dX0_begin_32 rfl rfl (Nat.le_of_ble_eq_true rfl) rfl ?_
    dsimp only [List.set]
    refine g_goto dX0_begin_35 rfl ?_
    cases h
    refine G.weak [true, true] rfl ?_
    exact Hl _ rfl hT
set_option maxHeartbeats 4000000 in
theorem w_X0_begin_0 {Γ : GG} (hΓ : GF Γ) {m0 mF m : MM} {x : Nat} (hT : (m.K x).1 = 1) {r : Unit} {q : ((Int32 × MM)) ⊕ (Unit × MM)} (h : b_X0_begin_0 x m = some q) (Hl : ∀ z, q = .inl z → p_X0_begin Γ m0 mF x r z) (Hr : ∀ z, q = .inr z → z = (r, mF)) : G Γ kX0_begin cX0_begin m0 mF (.inl none) m 0 [some (.ref x), none] [] := by
  unfold b_X0_begin_0 at h
  refine g_ic 0 dX0_begin_0 rfl ?_
  refine g_istore_n 1 dX0_begin_1 rfl (Nat.le_of_ble_eq_true rfl) rfl ?_
  dsimp only [List.set]
  cases h
  refine G.weak [true, true] rfl ?_
  exact Hl _ rfl hT
theorem ct_X0_begin {Γ : GG} (hΓ : GF Γ) {m mF : MM} {x : Nat} (hT : (m.K x).1 = 1) {r : Unit} (h : f_X0_begin x m = some (r, mF)) : Ct Γ kX0_begin cX0_begin [.ref x] m (.inl none) mF := by
  unfold f_X0_begin at h
  replace h := bd_of h; obtain ⟨q, e, h⟩ := h
  have H := rx_go_ind (P := p_X0_begin Γ m mF x r) (fun z o hs Hl Hr => by
    match z with
    | (l1, m) => exact fun hT => w_X0_begin_2 hΓ hT hs Hl Hr) h
  exact Ct.of (κ := kX0_begin) (by decide) rfl (Nat.le_of_ble_eq_true rfl) rfl (w_X0_begin_0 hΓ hT e H.1 H.2)
set_option maxHeartbeats 4000000 in
theorem w_X1_init_0 {Γ : GG} (hΓ : GF Γ) {m0 mF m : MM} {x : Nat} (hT : (m.K x).1 = 2) {r : Unit} (h : b_X1_init_0 x m = some (r, mF)) : G Γ kX1_init cX1_init m0 mF (.inl none) m 0 [some (.ref x)] [] := by
  unfold b_X1_init_0 at h
  refine g_this dX1_init_0 rfl ?_
  refine g_objInit q152 q145 q146 (Nat.le_of_ble_eq_true rfl) (Nat.le_of_ble_eq_true rfl) (Nat.le_of_ble_eq_true rfl) dX1_init_1 ?_
  refine g_this dX1_init_4 rfl ?_
  replace h := bd_of h; obtain ⟨m1, em1, h⟩ := h
  refine g_nO hΓ.k nl_X1_9 ty_J2 em1 dX1_init_5 ?_
  replace hT := (nO_ext em1).kd hT
  refine g_dup dX1_init_8 (va_rf_cat _) ?_
  refine g_ic 2 dX1_init_9 rfl ?_
  replace h := bd_of h; obtain ⟨a2, ea2, h⟩ := h
  obtain ⟨ea2, ka2⟩ := isK_of ea2
  cases ea2
  replace h := bd2_of h; obtain ⟨_, m3, em3, h⟩ := h
  have C := ct_J2_init hΓ ka2 em3
  refine g_callI il_X1_11 C rfl rfl (Nat.le_of_ble_eq_true rfl) (Nat.le_of_ble_eq_true rfl) (Nat.le_of_ble_eq_true rfl) dX1_init_10 ?_
  replace hT := (C.1).kd hT
  replace h := bd_of h; obtain ⟨m4, em4, h⟩ := h
  refine g_pR hΓ.k fl_X1_14_X1 (fun _ => ⟨rfl, fun C T N e9 => by cases e9; rfl⟩) (Or.inl ⟨_, rfl⟩) em4 dX1_init_13 ?_
  replace hT := (pR_ext em4).kd hT
  refine g_this dX1_init_16 rfl ?_
  replace h := bd_of h; obtain ⟨m5, em5, h⟩ := h
  refine g_nO hΓ.k nl_X1_9 ty_J2 em5 dX1_init_17 ?_
  replace hT := (nO_ext em5).kd hT
  refine g_dup dX1_init_20 (va_rf_cat _) ?_
  refine g_ic 2 dX1_init_21 rfl ?_
  replace h := bd_of h; obtain ⟨a6, ea6, h⟩ := h
  obtain ⟨ea6, ka6⟩ := isK_of ea6
  cases ea6
  replace h := bd2_of h; obtain ⟨_, m7, em7, h⟩ := h
  have C := ct_J2_init hΓ ka6 em7
  refine g_callI il_X1_11 C rfl rfl (Nat.le_of_ble_eq_true rfl) (Nat.le_of_ble_eq_true rfl) (Nat.le_of_ble_eq_true rfl) dX1_init_22 ?_
  replace hT := (C.1).kd hT
  replace h := bd_of h; obtain ⟨m8, em8, h⟩ := h
  refine g_pR hΓ.k fl_X1_20_X1 (fun _ => ⟨rfl, fun C T N e9 => by cases e9; rfl⟩) (Or.inl ⟨_, rfl⟩) em8 dX1_init_25 ?_
  replace hT := (pR_ext em8).kd hT
  refine g_this dX1_init_28 rfl ?_
  refine g_bi (24) dX1_init_29 rfl ?_
  replace h := bd_of h; obtain ⟨m9, em9, h⟩ := h
  refine g_newa hΓ.a (Or.inl ⟨rfl, rfl⟩) q181 em9 dX1_init_31 ?_
  replace hT := (nA_ext em9).kd hT
  replace h := bd_of h; obtain ⟨m10, em10, h⟩ := h
  refine g_pR hΓ.k fl_X1_23_X1 (fun _ => ⟨rfl, fun C T N e9 => by cases e9; rfl⟩) (Or.inr ⟨_, rfl⟩) em10 dX1_init_33 ?_
  replace hT := (pR_ext em10).kd hT
  refine g_this dX1_init_36 rfl ?_
  refine g_si (192) dX1_init_37 rfl ?_
  replace h := bd_of h; obtain ⟨m11, em11, h⟩ := h
  refine g_newa hΓ.a (Or.inl ⟨rfl, rfl⟩) q181 em11 dX1_init_40 ?_
  replace hT := (nA_ext em11).kd hT
  replace h := bd_of h; obtain ⟨m12, em12, h⟩ := h
  refine g_pR hΓ.k fl_X1_27_X1 (fun _ => ⟨rfl, fun C T N e9 => by cases e9; rfl⟩) (Or.inr ⟨_, rfl⟩) em12 dX1_init_42 ?_
  replace hT := (pR_ext em12).kd hT
  refine g_this dX1_init_45 rfl ?_
  refine g_bi (6) dX1_init_46 rfl ?_
  replace h := bd_of h; obtain ⟨m13, em13, h⟩ := h
  refine g_newa hΓ.a (Or.inl ⟨rfl, rfl⟩) q181 em13 dX1_init_48 ?_
  replace hT := (nA_ext em13).kd hT
  replace h := bd_of h; obtain ⟨m14, em14, h⟩ := h
  refine g_pR hΓ.k fl_X1_30_X1 (fun _ => ⟨rfl, fun C T N e9 => by cases e9; rfl⟩) (Or.inr ⟨_, rfl⟩) em14 dX1_init_50 ?_
  replace hT := (pR_ext em14).kd hT
  refine g_this dX1_init_53 rfl ?_
  refine g_bi (64) dX1_init_54 rfl ?_
  replace h := bd_of h; obtain ⟨m15, em15, h⟩ := h
  refine g_newa hΓ.a (Or.inr (Or.inr (Or.inl ⟨rfl, rfl⟩))) q229 em15 dX1_init_56 ?_
  replace hT := (nA_ext em15).kd hT
  replace h := bd_of h; obtain ⟨m16, em16, h⟩ := h
  refine g_pR hΓ.k fl_X1_33_X1 (fun _ => ⟨rfl, fun C T N e9 => by cases e9; rfl⟩) (Or.inr ⟨_, rfl⟩) em16 dX1_init_58 ?_
  replace hT := (pR_ext em16).kd hT
  cases h
  exact g_vret rfl dX1_init_61
theorem ct_X1_init {Γ : GG} (hΓ : GF Γ) {m mF : MM} {x : Nat} (hT : (m.K x).1 = 2) {r : Unit} (h : f_X1_init x m = some (r, mF)) : Ct Γ kX1_init cX1_init [.ref x] m (.inl none) mF := by
  unfold f_X1_init at h
  exact Ct.of (κ := kX1_init) (by decide) rfl (Nat.le_of_ble_eq_true rfl) rfl (w_X1_init_0 hΓ hT h)
def p_X0_init (Γ : GG) (m0 mF : MM) (x : Nat) (r : Unit) : ((Int32 × MM)) → Prop := fun z => match z with
  | (l1, m) => (m.K x).1 = 1 → G Γ kX0_init cX0_init m0 mF (.inl none) m 208 [some (.ref x), some (.int l1)] []
set_option maxHeartbeats 4000000 in
theorem w_X0_init_208 {Γ : GG} (hΓ : GF Γ) {m0 mF m : MM} {x : Nat} {l1 : Int32} (hT : (m.K x).1 = 1) {r : Unit} {q : ((Int32 × MM)) ⊕ (Unit × MM)} (h : b_X0_init_208 x l1 m = some q) (Hl : ∀ z, q = .inl z → p_X0_init Γ m0 mF x r z) (Hr : ∀ z, q = .inr z → z = (r, mF)) : G Γ kX0_init cX0_init m0 mF (.inl none) m 208 [some (.ref x), some (.int l1)] [] := by
  unfold b_X0_init_208 at h
  refine g_iload_n 1 dX0_init_208 rfl rfl ?_
  refine g_bi (6) dX0_init_209 rfl ?_
  replace h := ite_of h; rcases h with ⟨hc, h⟩ | ⟨hc, h⟩
  · refine g_icgeT dX0_init_211 rfl hc ?_
    cases h
    cases Hr _ rfl
    exact g_vret rfl dX0_init_227
  · refine g_icgeF dX0_init_211 rfl hc ?_
    refine g_this dX0_init_214 rfl ?_
    refine g_getR hΓ.k fl_X0_184_X0 rfl hT dX0_init_215 ?_
    refine g_iload_n 1 dX0_init_218 rfl rfl ?_
    refine g_ic (-1) dX0_init_219 rfl ?_
    replace h := bd_of h; obtain ⟨m1, em1, h⟩ := h
    refine g_iast em1 dX0_init_220 ?_
    replace hT := (sI_ext em1).kd hT
    refine g_iinc (l1 + (1 : Int32)) dX0_init_221 rfl rfl (Nat.le_of_ble_eq_true rfl) rfl ?_
    dsimp only [List.set]
    refine g_goto dX0_init_224 rfl ?_
    cases h
    refine G.weak [true, true] rfl ?_
    exact Hl _ rfl hT
set_option maxHeartbeats 4000000 in
theorem w_X0_init_0 {Γ : GG} (hΓ : GF Γ) {m0 mF m : MM} {x : Nat} (hT : (m.K x).1 = 1) {r : Unit} {q : ((Int32 × MM)) ⊕ (Unit × MM)} (h : b_X0_init_0 x m = some q) (Hl : ∀ z, q = .inl z → p_X0_init Γ m0 mF x r z) (Hr : ∀ z, q = .inr z → z = (r, mF)) : G Γ kX0_init cX0_init m0 mF (.inl none) m 0 [some (.ref x), none] [] := by
  unfold b_X0_init_0 at h
  refine g_this dX0_init_0 rfl ?_
  refine g_objInit q144 q145 q146 (Nat.le_of_ble_eq_true rfl) (Nat.le_of_ble_eq_true rfl) (Nat.le_of_ble_eq_true rfl) dX0_init_1 ?_
  refine g_this dX0_init_4 rfl ?_
  refine g_bi (6) dX0_init_5 rfl ?_
  replace h := bd_of h; obtain ⟨m1, em1, h⟩ := h
  refine g_newa hΓ.a (Or.inl ⟨rfl, rfl⟩) q181 em1 dX0_init_7 ?_
  replace hT := (nA_ext em1).kd hT
  replace h := bd_of h; obtain ⟨m2, em2, h⟩ := h
  refine g_pR hΓ.k fl_X0_11_X0 (fun _ => ⟨rfl, fun C T N e9 => by cases e9; rfl⟩) (Or.inr ⟨_, rfl⟩) em2 dX0_init_9 ?_
  replace hT := (pR_ext em2).kd hT
  refine g_this dX0_init_12 rfl ?_
  refine g_si (392) dX0_init_13 rfl ?_
  replace h := bd_of h; obtain ⟨m3, em3, h⟩ := h
  refine g_newa hΓ.a (Or.inr (Or.inr (Or.inr ⟨rfl, rfl⟩))) q182 em3 dX0_init_16 ?_
  replace hT := (nA_ext em3).kd hT
  replace h := bd_of h; obtain ⟨m4, em4, h⟩ := h
  refine g_pR hΓ.k fl_X0_3_X0 (fun _ => ⟨rfl, fun C T N e9 => by cases e9; rfl⟩) (Or.inr ⟨_, rfl⟩) em4 dX0_init_18 ?_
  replace hT := (pR_ext em4).kd hT
  refine g_this dX0_init_21 rfl ?_
  refine g_si (3000) dX0_init_22 rfl ?_
  replace h := bd_of h; obtain ⟨m5, em5, h⟩ := h
  refine g_newa hΓ.a (Or.inl ⟨rfl, rfl⟩) q181 em5 dX0_init_25 ?_
  replace hT := (nA_ext em5).kd hT
  replace h := bd_of h; obtain ⟨m6, em6, h⟩ := h
  refine g_pR hΓ.k fl_X0_95_X0 (fun _ => ⟨rfl, fun C T N e9 => by cases e9; rfl⟩) (Or.inr ⟨_, rfl⟩) em6 dX0_init_27 ?_
  replace hT := (pR_ext em6).kd hT
  refine g_this dX0_init_30 rfl ?_
  refine g_si (3000) dX0_init_31 rfl ?_
  replace h := bd_of h; obtain ⟨m7, em7, h⟩ := h
  refine g_newa hΓ.a (Or.inl ⟨rfl, rfl⟩) q181 em7 dX0_init_34 ?_
  replace hT := (nA_ext em7).kd hT
  replace h := bd_of h; obtain ⟨m8, em8, h⟩ := h
  refine g_pR hΓ.k fl_X0_98_X0 (fun _ => ⟨rfl, fun C T N e9 => by cases e9; rfl⟩) (Or.inr ⟨_, rfl⟩) em8 dX0_init_36 ?_
  replace hT := (pR_ext em8).kd hT
  refine g_this dX0_init_39 rfl ?_
  refine g_si (3000) dX0_init_40 rfl ?_
  replace h := bd_of h; obtain ⟨m9, em9, h⟩ := h
  refine g_newa hΓ.a (Or.inl ⟨rfl, rfl⟩) q181 em9 dX0_init_43 ?_
  replace hT := (nA_ext em9).kd hT
  replace h := bd_of h; obtain ⟨m10, em10, h⟩ := h
  refine g_pR hΓ.k fl_X0_78_X0 (fun _ => ⟨rfl, fun C T N e9 => by cases e9; rfl⟩) (Or.inr ⟨_, rfl⟩) em10 dX0_init_45 ?_
  replace hT := (pR_ext em10).kd hT
  refine g_this dX0_init_48 rfl ?_
  refine g_si (3000) dX0_init_49 rfl ?_
  replace h := bd_of h; obtain ⟨m11, em11, h⟩ := h
  refine g_newa hΓ.a (Or.inl ⟨rfl, rfl⟩) q181 em11 dX0_init_52 ?_
  replace hT := (nA_ext em11).kd hT
  replace h := bd_of h; obtain ⟨m12, em12, h⟩ := h
  refine g_pR hΓ.k fl_X0_129_X0 (fun _ => ⟨rfl, fun C T N e9 => by cases e9; rfl⟩) (Or.inr ⟨_, rfl⟩) em12 dX0_init_54 ?_
  replace hT := (pR_ext em12).kd hT
  refine g_this dX0_init_57 rfl ?_
  refine g_si (3000) dX0_init_58 rfl ?_
  replace h := bd_of h; obtain ⟨m13, em13, h⟩ := h
  refine g_newa hΓ.a (Or.inl ⟨rfl, rfl⟩) q181 em13 dX0_init_61 ?_
  replace hT := (nA_ext em13).kd hT
  replace h := bd_of h; obtain ⟨m14, em14, h⟩ := h
  refine g_pR hΓ.k fl_X0_153_X0 (fun _ => ⟨rfl, fun C T N e9 => by cases e9; rfl⟩) (Or.inr ⟨_, rfl⟩) em14 dX0_init_63 ?_
  replace hT := (pR_ext em14).kd hT
  refine g_this dX0_init_66 rfl ?_
  refine g_bi (6) dX0_init_67 rfl ?_
  replace h := bd_of h; obtain ⟨m15, em15, h⟩ := h
  refine g_newa hΓ.a (Or.inl ⟨rfl, rfl⟩) q181 em15 dX0_init_69 ?_
  replace hT := (nA_ext em15).kd hT
  replace h := bd_of h; obtain ⟨m16, em16, h⟩ := h
  refine g_pR hΓ.k fl_X0_108_X0 (fun _ => ⟨rfl, fun C T N e9 => by cases e9; rfl⟩) (Or.inr ⟨_, rfl⟩) em16 dX0_init_71 ?_
  replace hT := (pR_ext em16).kd hT
  refine g_this dX0_init_74 rfl ?_
  refine g_si (1600) dX0_init_75 rfl ?_
  replace h := bd_of h; obtain ⟨m17, em17, h⟩ := h
  refine g_newa hΓ.a (Or.inr (Or.inl ⟨rfl, rfl⟩)) q183 em17 dX0_init_78 ?_
  replace hT := (nA_ext em17).kd hT
  replace h := bd_of h; obtain ⟨m18, em18, h⟩ := h
  refine g_pR hΓ.k fl_X0_156_X0 (fun _ => ⟨rfl, fun C T N e9 => by cases e9; rfl⟩) (Or.inr ⟨_, rfl⟩) em18 dX0_init_80 ?_
  replace hT := (pR_ext em18).kd hT
  refine g_this dX0_init_83 rfl ?_
  refine g_ic (-1) dX0_init_84 rfl ?_
  replace h := bd_of h; obtain ⟨m19, em19, h⟩ := h
  refine g_pI hΓ.k fl_X0_160_X0 (fun h9 => by cases h9) rfl (Or.inl ⟨rfl, rfl⟩) em19 dX0_init_85 ?_
  replace hT := (pI_ext em19).kd hT
  refine g_this dX0_init_88 rfl ?_
  replace h := bd_of h; obtain ⟨m20, em20, h⟩ := h
  refine g_nO hΓ.k nl_X0_36 ty_X1 em20 dX0_init_89 ?_
  replace hT := (nO_ext em20).kd hT
  refine g_dup dX0_init_92 (va_rf_cat _) ?_
  replace h := bd_of h; obtain ⟨a21, ea21, h⟩ := h
  obtain ⟨ea21, ka21⟩ := isK_of ea21
  cases ea21
  replace h := bd2_of h; obtain ⟨_, m22, em22, h⟩ := h
  have C := ct_X1_init hΓ ka21 em22
  refine g_callIN hΓ il_X0_163 C rfl rfl (Nat.le_of_ble_eq_true rfl) (Nat.le_of_ble_eq_true rfl) (Nat.le_of_ble_eq_true rfl) dX0_init_93 ?_
  replace hT := (C.1).kd hT
  replace h := bd_of h; obtain ⟨m23, em23, h⟩ := h
  refine g_pR hΓ.k fl_X0_31_X0 (fun h9 => by cases h9) (Or.inl ⟨_, rfl⟩) em23 dX0_init_96 ?_
  replace hT := (pR_ext em23).kd hT
  refine g_this dX0_init_99 rfl ?_
  refine g_bi (13) dX0_init_100 rfl ?_
  replace h := bd_of h; obtain ⟨m24, em24, h⟩ := h
  refine g_newa hΓ.a (Or.inl ⟨rfl, rfl⟩) q181 em24 dX0_init_102 ?_
  replace hT := (nA_ext em24).kd hT
  replace h := bd_of h; obtain ⟨m25, em25, h⟩ := h
  refine g_pR hΓ.k fl_X0_164_X0 (fun _ => ⟨rfl, fun C T N e9 => by cases e9; rfl⟩) (Or.inr ⟨_, rfl⟩) em25 dX0_init_104 ?_
  replace hT := (pR_ext em25).kd hT
  refine g_this dX0_init_107 rfl ?_
  refine g_bi (40) dX0_init_108 rfl ?_
  refine g_bi (13) dX0_init_110 rfl ?_
  replace h := bd_of h; obtain ⟨m26, em26, h⟩ := h
  refine g_multi hΓ q230 q181 em26 dX0_init_112 ?_
  replace hT := (nM_ext em26).kd hT
  replace h := bd_of h; obtain ⟨m27, em27, h⟩ := h
  refine g_pR hΓ.k fl_X0_169_X0 (fun _ => ⟨rfl, fun C T N e9 => by cases e9; rfl⟩) (Or.inr ⟨_, rfl⟩) em27 dX0_init_116 ?_
  replace hT := (pR_ext em27).kd hT
  refine g_this dX0_init_119 rfl ?_
  refine g_bi (6) dX0_init_120 rfl ?_
  replace h := bd_of h; obtain ⟨m28, em28, h⟩ := h
  refine g_newa hΓ.a (Or.inl ⟨rfl, rfl⟩) q181 em28 dX0_init_122 ?_
  replace hT := (nA_ext em28).kd hT
  replace h := bd_of h; obtain ⟨m29, em29, h⟩ := h
  refine g_pR hΓ.k fl_X0_172_X0 (fun _ => ⟨rfl, fun C T N e9 => by cases e9; rfl⟩) (Or.inr ⟨_, rfl⟩) em29 dX0_init_124 ?_
  replace hT := (pR_ext em29).kd hT
  refine g_this dX0_init_127 rfl ?_
  refine g_bi (6) dX0_init_128 rfl ?_
  replace h := bd_of h; obtain ⟨m30, em30, h⟩ := h
  refine g_newa hΓ.a (Or.inl ⟨rfl, rfl⟩) q181 em30 dX0_init_130 ?_
  replace hT := (nA_ext em30).kd hT
  replace h := bd_of h; obtain ⟨m31, em31, h⟩ := h
  refine g_pR hΓ.k fl_X0_175_X0 (fun _ => ⟨rfl, fun C T N e9 => by cases e9; rfl⟩) (Or.inr ⟨_, rfl⟩) em31 dX0_init_132 ?_
  replace hT := (pR_ext em31).kd hT
  refine g_this dX0_init_135 rfl ?_
  refine g_bi (6) dX0_init_136 rfl ?_
  replace h := bd_of h; obtain ⟨m32, em32, h⟩ := h
  refine g_newa hΓ.a (Or.inl ⟨rfl, rfl⟩) q181 em32 dX0_init_138 ?_
  replace hT := (nA_ext em32).kd hT
  replace h := bd_of h; obtain ⟨m33, em33, h⟩ := h
  refine g_pR hΓ.k fl_X0_178_X0 (fun _ => ⟨rfl, fun C T N e9 => by cases e9; rfl⟩) (Or.inr ⟨_, rfl⟩) em33 dX0_init_140 ?_
  replace hT := (pR_ext em33).kd hT
  refine g_this dX0_init_143 rfl ?_
  refine g_ic (-1) dX0_init_144 rfl ?_
  replace h := bd_of h; obtain ⟨m34, em34, h⟩ := h
  refine g_pI hΓ.k fl_X0_117_X0 (fun h9 => by cases h9) rfl (Or.inl ⟨rfl, rfl⟩) em34 dX0_init_145 ?_
  replace hT := (pI_ext em34).kd hT
  refine g_this dX0_init_148 rfl ?_
  refine g_bi (8) dX0_init_149 rfl ?_
  replace h := bd_of h; obtain ⟨m35, em35, h⟩ := h
  refine g_newa hΓ.a (Or.inl ⟨rfl, rfl⟩) q181 em35 dX0_init_151 ?_
  replace hT := (nA_ext em35).kd hT
  replace h := bd_of h; obtain ⟨m36, em36, h⟩ := h
  refine g_pR hΓ.k fl_X0_181_X0 (fun _ => ⟨rfl, fun C T N e9 => by cases e9; rfl⟩) (Or.inr ⟨_, rfl⟩) em36 dX0_init_153 ?_
  replace hT := (pR_ext em36).kd hT
  refine g_this dX0_init_156 rfl ?_
  refine g_bi (6) dX0_init_157 rfl ?_
  replace h := bd_of h; obtain ⟨m37, em37, h⟩ := h
  refine g_newa hΓ.a (Or.inl ⟨rfl, rfl⟩) q181 em37 dX0_init_159 ?_
  replace hT := (nA_ext em37).kd hT
  replace h := bd_of h; obtain ⟨m38, em38, h⟩ := h
  refine g_pR hΓ.k fl_X0_184_X0 (fun _ => ⟨rfl, fun C T N e9 => by cases e9; rfl⟩) (Or.inr ⟨_, rfl⟩) em38 dX0_init_161 ?_
  replace hT := (pR_ext em38).kd hT
  refine g_this dX0_init_164 rfl ?_
  refine g_bi (6) dX0_init_165 rfl ?_
  replace h := bd_of h; obtain ⟨m39, em39, h⟩ := h
  refine g_newa hΓ.a (Or.inl ⟨rfl, rfl⟩) q181 em39 dX0_init_167 ?_
  replace hT := (nA_ext em39).kd hT
  replace h := bd_of h; obtain ⟨m40, em40, h⟩ := h
  refine g_pR hΓ.k fl_X0_187_X0 (fun _ => ⟨rfl, fun C T N e9 => by cases e9; rfl⟩) (Or.inr ⟨_, rfl⟩) em40 dX0_init_169 ?_
  replace hT := (pR_ext em40).kd hT
  refine g_this dX0_init_172 rfl ?_
  replace h := bd_of h; obtain ⟨m41, em41, h⟩ := h
  refine g_nO hΓ.k nl_X0_42 ty_J2 em41 dX0_init_173 ?_
  replace hT := (nO_ext em41).kd hT
  refine g_dup dX0_init_176 (va_rf_cat _) ?_
  refine g_ic 2 dX0_init_177 rfl ?_
  replace h := bd_of h; obtain ⟨a42, ea42, h⟩ := h
  obtain ⟨ea42, ka42⟩ := isK_of ea42
  cases ea42
  replace h := bd2_of h; obtain ⟨_, m43, em43, h⟩ := h
  have C := ct_J2_init hΓ ka42 em43
  refine g_callI il_X0_190 C rfl rfl (Nat.le_of_ble_eq_true rfl) (Nat.le_of_ble_eq_true rfl) (Nat.le_of_ble_eq_true rfl) dX0_init_178 ?_
  replace hT := (C.1).kd hT
  replace h := bd_of h; obtain ⟨m44, em44, h⟩ := h
  refine g_pR hΓ.k fl_X0_193_X0 (fun _ => ⟨rfl, fun C T N e9 => by cases e9; rfl⟩) (Or.inl ⟨_, rfl⟩) em44 dX0_init_181 ?_
  replace hT := (pR_ext em44).kd hT
  refine g_this dX0_init_184 rfl ?_
  refine g_ic 3 dX0_init_185 rfl ?_
  refine g_bi (13) dX0_init_186 rfl ?_
  replace h := bd_of h; obtain ⟨m45, em45, h⟩ := h
  refine g_multi hΓ q230 q181 em45 dX0_init_188 ?_
  replace hT := (nM_ext em45).kd hT
  replace h := bd_of h; obtain ⟨m46, em46, h⟩ := h
  refine g_pR hΓ.k fl_X0_196_X0 (fun _ => ⟨rfl, fun C T N e9 => by cases e9; rfl⟩) (Or.inr ⟨_, rfl⟩) em46 dX0_init_192 ?_
  replace hT := (pR_ext em46).kd hT
  refine g_this dX0_init_195 rfl ?_
  refine g_ic 3 dX0_init_196 rfl ?_
  replace h := bd_of h; obtain ⟨m47, em47, h⟩ := h
  refine g_newa hΓ.a (Or.inr (Or.inr (Or.inl ⟨rfl, rfl⟩))) q229 em47 dX0_init_197 ?_
  replace hT := (nA_ext em47).kd hT
  replace h := bd_of h; obtain ⟨m48, em48, h⟩ := h
  refine g_pR hΓ.k fl_X0_199_X0 (fun _ => ⟨rfl, fun C T N e9 => by cases e9; rfl⟩) (Or.inr ⟨_, rfl⟩) em48 dX0_init_199 ?_
  replace hT := (pR_ext em48).kd hT
  refine g_this dX0_init_202 rfl ?_
  replace h := bd2_of h; obtain ⟨_, m49, em49, h⟩ := h
  have C := ct_X0_begin hΓ hT em49
  refine g_callVv hΓ.k vl_X0_203 hT C rfl rfl (Nat.le_of_ble_eq_true rfl) (Nat.le_of_ble_eq_true rfl) (Nat.le_of_ble_eq_true rfl) dX0_init_203 ?_
  replace hT := (C.1).kd hT
  refine g_ic 0 dX0_init_206 rfl ?_
  refine g_istore_n 1 dX0_init_207 rfl (Nat.le_of_ble_eq_true rfl) rfl ?_
  dsimp only [List.set]
  cases h
  refine G.weak [true, true] rfl ?_
  exact Hl _ rfl hT
theorem ct_X0_init {Γ : GG} (hΓ : GF Γ) {m mF : MM} {x : Nat} (hT : (m.K x).1 = 1) {r : Unit} (h : f_X0_init x m = some (r, mF)) : Ct Γ kX0_init cX0_init [.ref x] m (.inl none) mF := by
  unfold f_X0_init at h
  replace h := bd_of h; obtain ⟨q, e, h⟩ := h
  have H := rx_go_ind (P := p_X0_init Γ m mF x r) (fun z o hs Hl Hr => by
    match z with
    | (l1, m) => exact fun hT => w_X0_init_208 hΓ hT hs Hl Hr) h
  exact Ct.of (κ := kX0_init) (by decide) rfl (Nat.le_of_ble_eq_true rfl) rfl (w_X0_init_0 hΓ hT e H.1 H.2)
def p_X0_feed (Γ : GG) (m0 mF : MM) (x : Nat) (l1 : Int32) (l2 : Int32) (l3 : Int32) (l4 : Int32) (l5 : Int32) (r : Int32) : ((Option Nat × Int32 × Int32 × MM) ⊕ (Option Nat × Int32 × Int32 × Int32 × Int32 × MM)) → Prop := fun z => match z with
  | (.inl (l7, l8, l9, m)) => (m.K x).1 = 1 → G Γ kX0_feed cX0_feed m0 mF (.inl (some (.int r))) m 54 [some (.ref x), some (.int l1), some (.int l2), some (.int l3), some (.int l4), some (.int l5), none, some (va_rf l7), some (.int l8), some (.int l9), none, none] []
  | (.inr (l7, l8, l9, l10, l11, m)) => (m.K x).1 = 1 → G Γ kX0_feed cX0_feed m0 mF (.inl (some (.int r))) m 72 [some (.ref x), some (.int l1), some (.int l2), some (.int l3), some (.int l4), some (.int l5), none, some (va_rf l7), some (.int l8), some (.int l9), some (.int l10), some (.int l11)] []
set_option maxHeartbeats 4000000 in
theorem w_X0_feed_72 {Γ : GG} (hΓ : GF Γ) {m0 mF m : MM} {x : Nat} {l1 : Int32} {l2 : Int32} {l3 : Int32} {l4 : Int32} {l5 : Int32} {l7 : Option Nat} {l8 : Int32} {l9 : Int32} {l10 : Int32} {l11 : Int32} (hT : (m.K x).1 = 1) {r : Int32} {q : ((Option Nat × Int32 × Int32 × MM) ⊕ (Option Nat × Int32 × Int32 × Int32 × Int32 × MM)) ⊕ (Int32 × MM)} (h : b_X0_feed_72 x l1 l2 l3 l4 l5 l7 l8 l9 l10 l11 m = some q) (Hl : ∀ z, q = .inl z → p_X0_feed Γ m0 mF x l1 l2 l3 l4 l5 r z) (Hr : ∀ z, q = .inr z → z = (r, mF)) : G Γ kX0_feed cX0_feed m0 mF (.inl (some (.int r))) m 72 [some (.ref x), some (.int l1), some (.int l2), some (.int l3), some (.int l4), some (.int l5), none, some (va_rf l7), some (.int l8), some (.int l9), some (.int l10), some (.int l11)] [] := by
  unfold b_X0_feed_72 at h
  refine g_iload dX0_feed_72 rfl ?_
  replace h := ite_of h; rcases h with ⟨hc, h⟩ | ⟨hc, h⟩
  · refine g_ifltT dX0_feed_74 rfl hc ?_
    refine g_iinc (l9 + (1 : Int32)) dX0_feed_108 rfl rfl (Nat.le_of_ble_eq_true rfl) rfl ?_
    dsimp only [List.set]
    refine g_goto dX0_feed_111 rfl ?_
    cases h
    refine G.weak [true, true, true, true, true, true, false, true, true, true, false, false] rfl ?_
    exact Hl _ rfl hT
  · refine g_ifltF dX0_feed_74 rfl hc ?_
    refine g_this dX0_feed_77 rfl ?_
    refine g_getR hΓ.k fl_X0_156_X0 rfl hT dX0_feed_78 ?_
    refine g_this dX0_feed_81 rfl ?_
    refine g_getI hΓ.k fl_X0_206_X0 rfl hT dX0_feed_82 ?_
    refine g_iload dX0_feed_85 rfl ?_
    refine g_iload dX0_feed_87 rfl ?_
    refine g_ishr dX0_feed_89 ?_
    refine g_i2b dX0_feed_90 ?_
    replace h := bd_of h; obtain ⟨m1, em1, h⟩ := h
    refine g_bast em1 dX0_feed_91 ?_
    replace hT := (sI_ext em1).kd hT
    refine g_this dX0_feed_92 rfl ?_
    refine g_dup dX0_feed_93 rfl ?_
    refine g_getI hΓ.k fl_X0_206_X0 rfl hT dX0_feed_94 ?_
    refine g_ic 1 dX0_feed_97 rfl ?_
    refine g_iadd dX0_feed_98 ?_
    replace h := bd_of h; obtain ⟨m2, em2, h⟩ := h
    refine g_pI hΓ.k fl_X0_206_X0 (fun h9 => by cases h9) rfl (Or.inl ⟨rfl, rfl⟩) em2 dX0_feed_99 ?_
    replace hT := (pI_ext em2).kd hT
    refine g_iinc (l11 + (-8 : Int32)) dX0_feed_102 rfl rfl (Nat.le_of_ble_eq_true rfl) rfl ?_
    dsimp only [List.set]
    refine g_goto dX0_feed_105 rfl ?_
    cases h
    refine G.weak [true, true, true, true, true, true, false, true, true, true, true, true] rfl ?_
    exact Hl _ rfl hT
set_option maxHeartbeats 4000000 in
theorem w_X0_feed_54 {Γ : GG} (hΓ : GF Γ) {m0 mF m : MM} {x : Nat} {l1 : Int32} {l2 : Int32} {l3 : Int32} {l4 : Int32} {l5 : Int32} {l7 : Option Nat} {l8 : Int32} {l9 : Int32} (hT : (m.K x).1 = 1) {r : Int32} {q : ((Option Nat × Int32 × Int32 × MM) ⊕ (Option Nat × Int32 × Int32 × Int32 × Int32 × MM)) ⊕ (Int32 × MM)} (h : b_X0_feed_54 x l1 l2 l3 l4 l5 l7 l8 l9 m = some q) (Hl : ∀ z, q = .inl z → p_X0_feed Γ m0 mF x l1 l2 l3 l4 l5 r z) (Hr : ∀ z, q = .inr z → z = (r, mF)) : G Γ kX0_feed cX0_feed m0 mF (.inl (some (.int r))) m 54 [some (.ref x), some (.int l1), some (.int l2), some (.int l3), some (.int l4), some (.int l5), none, some (va_rf l7), some (.int l8), some (.int l9), none, none] [] := by
  unfold b_X0_feed_54 at h
  refine g_iload dX0_feed_54 rfl ?_
  refine g_iload dX0_feed_56 rfl ?_
  replace h := ite_of h; rcases h with ⟨hc, h⟩ | ⟨hc, h⟩
  · refine g_icgeT dX0_feed_58 rfl hc ?_
    refine g_this dX0_feed_114 rfl ?_
    refine g_getI hΓ.k fl_X0_206_X0 rfl hT dX0_feed_115 ?_
    cases h
    cases Hr _ rfl
    exact g_iret rfl dX0_feed_118
  · refine g_icgeF dX0_feed_58 rfl hc ?_
    refine g_aload dX0_feed_61 rfl ?_
    refine g_iload dX0_feed_63 rfl ?_
    replace h := bd_of h; obtain ⟨v1, ev1, h⟩ := h
    refine g_iald ev1 dX0_feed_65 ?_
    refine g_istore dX0_feed_66 (Nat.le_of_ble_eq_true rfl) rfl ?_
    dsimp only [List.set]
    refine g_bi (24) dX0_feed_68 rfl ?_
    refine g_istore dX0_feed_70 (Nat.le_of_ble_eq_true rfl) rfl ?_
    dsimp only [List.set]
    cases h
    refine G.weak [true, true, true, true, true, true, false, true, true, true, true, true] rfl ?_
    exact Hl _ rfl hT
set_option maxHeartbeats 4000000 in
theorem w_X0_feed_0 {Γ : GG} (hΓ : GF Γ) {m0 mF m : MM} {x : Nat} {l1 : Int32} {l2 : Int32} {l3 : Int32} {l4 : Int32} {l5 : Int32} (hT : (m.K x).1 = 1) {r : Int32} {q : ((Option Nat × Int32 × Int32 × MM) ⊕ (Option Nat × Int32 × Int32 × Int32 × Int32 × MM)) ⊕ (Int32 × MM)} (h : b_X0_feed_0 x l1 l2 l3 l4 l5 m = some q) (Hl : ∀ z, q = .inl z → p_X0_feed Γ m0 mF x l1 l2 l3 l4 l5 r z) (Hr : ∀ z, q = .inr z → z = (r, mF)) : G Γ kX0_feed cX0_feed m0 mF (.inl (some (.int r))) m 0 [some (.ref x), some (.int l1), some (.int l2), some (.int l3), some (.int l4), some (.int l5), none, none, none, none, none, none] [] := by
  unfold b_X0_feed_0 at h
  refine g_this dX0_feed_0 rfl ?_
  refine g_getI hΓ.k fl_X0_206_X0 rfl hT dX0_feed_1 ?_
  refine g_bi (20) dX0_feed_4 rfl ?_
  refine g_iadd dX0_feed_6 ?_
  refine g_si (1600) dX0_feed_7 rfl ?_
  replace h := ite_of h; rcases h with ⟨hc, h⟩ | ⟨hc, h⟩
  · refine g_icleT dX0_feed_10 rfl hc ?_
    refine g_ic 5 dX0_feed_15 rfl ?_
    replace h := bd_of h; obtain ⟨m1, em1, h⟩ := h
    refine g_newa hΓ.a (Or.inl ⟨rfl, rfl⟩) q181 em1 dX0_feed_16 ?_
    replace hT := (nA_ext em1).kd hT
    refine g_dup dX0_feed_18 (va_rf_cat _) ?_
    refine g_ic 0 dX0_feed_19 rfl ?_
    refine g_iload_n 1 dX0_feed_20 rfl rfl ?_
    replace h := bd_of h; obtain ⟨m2, em2, h⟩ := h
    refine g_iast em2 dX0_feed_21 ?_
    replace hT := (sI_ext em2).kd hT
    refine g_dup dX0_feed_22 (va_rf_cat _) ?_
    refine g_ic 1 dX0_feed_23 rfl ?_
    refine g_iload_n 2 dX0_feed_24 rfl rfl ?_
    replace h := bd_of h; obtain ⟨m3, em3, h⟩ := h
    refine g_iast em3 dX0_feed_25 ?_
    replace hT := (sI_ext em3).kd hT
    refine g_dup dX0_feed_26 (va_rf_cat _) ?_
    refine g_ic 2 dX0_feed_27 rfl ?_
    refine g_iload_n 3 dX0_feed_28 rfl rfl ?_
    replace h := bd_of h; obtain ⟨m4, em4, h⟩ := h
    refine g_iast em4 dX0_feed_29 ?_
    replace hT := (sI_ext em4).kd hT
    refine g_dup dX0_feed_30 (va_rf_cat _) ?_
    refine g_ic 3 dX0_feed_31 rfl ?_
    refine g_iload dX0_feed_32 rfl ?_
    replace h := bd_of h; obtain ⟨m5, em5, h⟩ := h
    refine g_iast em5 dX0_feed_34 ?_
    replace hT := (sI_ext em5).kd hT
    refine g_dup dX0_feed_35 (va_rf_cat _) ?_
    refine g_ic 4 dX0_feed_36 rfl ?_
    refine g_iload dX0_feed_37 rfl ?_
    replace h := bd_of h; obtain ⟨m6, em6, h⟩ := h
    refine g_iast em6 dX0_feed_39 ?_
    replace hT := (sI_ext em6).kd hT
    refine g_astore dX0_feed_40 (Nat.le_of_ble_eq_true rfl) rfl ?_
    dsimp only [List.set]
    refine g_aload dX0_feed_42 rfl ?_
    refine g_astore dX0_feed_44 (Nat.le_of_ble_eq_true rfl) (lvC_rf rfl) ?_
    dsimp only [List.set]
    refine g_aload dX0_feed_46 rfl ?_
    replace h := bd_of h; obtain ⟨v7, ev7, h⟩ := h
    refine g_alen (Nat.le_of_ble_eq_true rfl) ev7 dX0_feed_48 ?_
    refine g_istore dX0_feed_49 (Nat.le_of_ble_eq_true rfl) (lvC_rf rfl) ?_
    dsimp only [List.set]
    refine g_ic 0 dX0_feed_51 rfl ?_
    refine g_istore dX0_feed_52 (Nat.le_of_ble_eq_true rfl) rfl ?_
    dsimp only [List.set]
    cases h
    refine G.weak [true, true, true, true, true, true, false, true, true, true, false, false] rfl ?_
    exact Hl _ rfl hT
  · refine g_icleF dX0_feed_10 rfl hc ?_
    refine g_ic (-1) dX0_feed_13 rfl ?_
    cases h
    cases Hr _ rfl
    exact g_iret rfl dX0_feed_14
theorem ct_X0_feed {Γ : GG} (hΓ : GF Γ) {m mF : MM} {x : Nat} {l1 : Int32} {l2 : Int32} {l3 : Int32} {l4 : Int32} {l5 : Int32} (hT : (m.K x).1 = 1) {r : Int32} (h : f_X0_feed x l1 l2 l3 l4 l5 m = some (r, mF)) : Ct Γ kX0_feed cX0_feed [.ref x, .int l1, .int l2, .int l3, .int l4, .int l5] m (.inl (some (.int r))) mF := by
  unfold f_X0_feed at h
  replace h := bd_of h; obtain ⟨q, e, h⟩ := h
  have H := rx_go_ind (P := p_X0_feed Γ m mF x l1 l2 l3 l4 l5 r) (fun z o hs Hl Hr => by
    match z with
    | (.inl (l7, l8, l9, m)) => exact fun hT => w_X0_feed_54 hΓ hT hs Hl Hr
    | (.inr (l7, l8, l9, l10, l11, m)) => exact fun hT => w_X0_feed_72 hΓ hT hs Hl Hr) h
  exact Ct.of (κ := kX0_feed) (by decide) rfl (Nat.le_of_ble_eq_true rfl) rfl (w_X0_feed_0 hΓ hT e H.1 H.2)
set_option maxHeartbeats 4000000 in
theorem w_X0_end_0 {Γ : GG} (hΓ : GF Γ) {m0 mF m : MM} {x : Nat} {l1 : Int32} (hT : (m.K x).1 = 1) {r : Int32} (h : b_X0_end_0 x l1 m = some (r, mF)) : G Γ kX0_end cX0_end m0 mF (.inl (some (.int r))) m 0 [some (.ref x), some (.int l1)] [] := by
  unfold b_X0_end_0 at h
  refine g_iload_n 1 dX0_end_0 rfl rfl ?_
  replace h := ite_of h; rcases h with ⟨hc, h⟩ | ⟨hc, h⟩
  · refine g_ifltT dX0_end_1 rfl hc ?_
    refine g_ic (-1) dX0_end_12 rfl ?_
    cases h
    exact g_iret rfl dX0_end_13
  · refine g_ifltF dX0_end_1 rfl hc ?_
    refine g_iload_n 1 dX0_end_4 rfl rfl ?_
    refine g_this dX0_end_5 rfl ?_
    refine g_getI hΓ.k fl_X0_206_X0 rfl hT dX0_end_6 ?_
    replace h := ite_of h; rcases h with ⟨hc, h⟩ | ⟨hc, h⟩
    · refine g_icleT dX0_end_9 rfl hc ?_
      refine g_this dX0_end_14 rfl ?_
      refine g_iload_n 1 dX0_end_15 rfl rfl ?_
      replace h := bd_of h; obtain ⟨m1, em1, h⟩ := h
      refine g_pI hΓ.k fl_X0_206_X0 (fun h9 => by cases h9) rfl (Or.inl ⟨rfl, rfl⟩) em1 dX0_end_16 ?_
      replace hT := (pI_ext em1).kd hT
      refine g_iload_n 1 dX0_end_19 rfl rfl ?_
      cases h
      exact g_iret rfl dX0_end_20
    · refine g_icleF dX0_end_9 rfl hc ?_
      refine g_ic (-1) dX0_end_12 rfl ?_
      cases h
      exact g_iret rfl dX0_end_13
theorem ct_X0_end {Γ : GG} (hΓ : GF Γ) {m mF : MM} {x : Nat} {l1 : Int32} (hT : (m.K x).1 = 1) {r : Int32} (h : f_X0_end x l1 m = some (r, mF)) : Ct Γ kX0_end cX0_end [.ref x, .int l1] m (.inl (some (.int r))) mF := by
  unfold f_X0_end at h
  exact Ct.of (κ := kX0_end) (by decide) rfl (Nat.le_of_ble_eq_true rfl) rfl (w_X0_end_0 hΓ hT h)
def p_J2_clear (Γ : GG) (m0 mF : MM) (x : Nat) (r : Unit) : ((Option Nat × Int32 × Int32 × MM)) → Prop := fun z => match z with
  | (l1, l2, l3, m) => (m.K x).1 = 9 → G Γ kJ2_clear cJ2_clear m0 mF (.inl none) m 27 [some (.ref x), some (va_rf l1), some (.int l2), some (.int l3)] []
set_option maxHeartbeats 4000000 in
theorem w_J2_clear_27 {Γ : GG} (hΓ : GF Γ) {m0 mF m : MM} {x : Nat} {l1 : Option Nat} {l2 : Int32} {l3 : Int32} (hT : (m.K x).1 = 9) {r : Unit} {q : ((Option Nat × Int32 × Int32 × MM)) ⊕ (Unit × MM)} (h : b_J2_clear_27 x l1 l2 l3 m = some q) (Hl : ∀ z, q = .inl z → p_J2_clear Γ m0 mF x r z) (Hr : ∀ z, q = .inr z → z = (r, mF)) : G Γ kJ2_clear cJ2_clear m0 mF (.inl none) m 27 [some (.ref x), some (va_rf l1), some (.int l2), some (.int l3)] [] := by
  unfold b_J2_clear_27 at h
  refine g_iload_n 3 dJ2_clear_27 rfl rfl ?_
  refine g_iload_n 2 dJ2_clear_28 rfl rfl ?_
  replace h := ite_of h; rcases h with ⟨hc, h⟩ | ⟨hc, h⟩
  · refine g_icgeT dJ2_clear_29 rfl hc ?_
    cases h
    cases Hr _ rfl
    exact g_vret rfl dJ2_clear_42
  · refine g_icgeF dJ2_clear_29 rfl hc ?_
    refine g_aload_n 1 dJ2_clear_32 rfl rfl ?_
    refine g_iload_n 3 dJ2_clear_33 rfl rfl ?_
    refine g_null dJ2_clear_34 ?_
    replace h := bd_of h; obtain ⟨m1, em1, h⟩ := h
    refine g_aast54 hΓ em1 dJ2_clear_35 ?_
    replace hT := (sR_ext em1).kd hT
    refine g_iinc (l3 + (1 : Int32)) dJ2_clear_36 rfl rfl (Nat.le_of_ble_eq_true rfl) rfl ?_
    dsimp only [List.set]
    refine g_goto dJ2_clear_39 rfl ?_
    cases h
    refine G.weak [true, true, true, true] rfl ?_
    exact Hl _ rfl hT
set_option maxHeartbeats 4000000 in
theorem w_J2_clear_0 {Γ : GG} (hΓ : GF Γ) {m0 mF m : MM} {x : Nat} (hT : (m.K x).1 = 9) {r : Unit} {q : ((Option Nat × Int32 × Int32 × MM)) ⊕ (Unit × MM)} (h : b_J2_clear_0 x m = some q) (Hl : ∀ z, q = .inl z → p_J2_clear Γ m0 mF x r z) (Hr : ∀ z, q = .inr z → z = (r, mF)) : G Γ kJ2_clear cJ2_clear m0 mF (.inl none) m 0 [some (.ref x), none, none, none] [] := by
  unfold b_J2_clear_0 at h
  refine g_this dJ2_clear_0 rfl ?_
  refine g_dup dJ2_clear_1 rfl ?_
  refine g_getI hΓ.k fl_J2_63_J2 rfl hT dJ2_clear_2 ?_
  refine g_ic 1 dJ2_clear_5 rfl ?_
  refine g_iadd dJ2_clear_6 ?_
  replace h := bd_of h; obtain ⟨m1, em1, h⟩ := h
  refine g_pI hΓ.k fl_J2_63_J2 (fun h9 => by cases h9) rfl (Or.inl ⟨rfl, rfl⟩) em1 dJ2_clear_7 ?_
  replace hT := (pI_ext em1).kd hT
  refine g_this dJ2_clear_10 rfl ?_
  refine g_getR hΓ.k fl_J2_9_J2 rfl hT dJ2_clear_11 ?_
  refine g_astore_n 1 dJ2_clear_14 rfl (Nat.le_of_ble_eq_true rfl) rfl ?_
  dsimp only [List.set]
  refine g_this dJ2_clear_15 rfl ?_
  refine g_getI hΓ.k fl_J2_48_J2 rfl hT dJ2_clear_16 ?_
  refine g_istore_n 2 dJ2_clear_19 rfl (Nat.le_of_ble_eq_true rfl) (lvC_rf rfl) ?_
  dsimp only [List.set]
  refine g_this dJ2_clear_20 rfl ?_
  refine g_ic 0 dJ2_clear_21 rfl ?_
  refine g_dup_x1 dJ2_clear_22 rfl rfl ?_
  replace h := bd_of h; obtain ⟨m2, em2, h⟩ := h
  refine g_pI hΓ.k fl_J2_48_J2 (fun h9 => by cases h9) rfl (Or.inl ⟨rfl, rfl⟩) em2 dJ2_clear_23 ?_
  replace hT := (pI_ext em2).kd hT
  refine g_istore_n 3 dJ2_clear_26 rfl (Nat.le_of_ble_eq_true rfl) rfl ?_
  dsimp only [List.set]
  cases h
  refine G.weak [true, true, true, true] rfl ?_
  exact Hl _ rfl hT
theorem ct_J2_clear {Γ : GG} (hΓ : GF Γ) {m mF : MM} {x : Nat} (hT : (m.K x).1 = 9) {r : Unit} (h : f_J2_clear x m = some (r, mF)) : Ct Γ kJ2_clear cJ2_clear [.ref x] m (.inl none) mF := by
  unfold f_J2_clear at h
  replace h := bd_of h; obtain ⟨q, e, h⟩ := h
  have H := rx_go_ind (P := p_J2_clear Γ m mF x r) (fun z o hs Hl Hr => by
    match z with
    | (l1, l2, l3, m) => exact fun hT => w_J2_clear_27 hΓ hT hs Hl Hr) h
  exact Ct.of (κ := kJ2_clear) (by decide) rfl (Nat.le_of_ble_eq_true rfl) rfl (w_J2_clear_0 hΓ hT e H.1 H.2)
set_option maxHeartbeats 4000000 in
theorem w_J2_size_0 {Γ : GG} (hΓ : GF Γ) {m0 mF m : MM} {x : Nat} (hT : (m.K x).1 = 9) {r : Int32} (h : b_J2_size_0 x m = some (r, mF)) : G Γ kJ2_size cJ2_size m0 mF (.inl (some (.int r))) m 0 [some (.ref x)] [] := by
  unfold b_J2_size_0 at h
  refine g_this dJ2_size_0 rfl ?_
  refine g_getI hΓ.k fl_J2_48_J2 rfl hT dJ2_size_1 ?_
  cases h
  exact g_iret rfl dJ2_size_4
theorem ct_J2_size {Γ : GG} (hΓ : GF Γ) {m mF : MM} {x : Nat} (hT : (m.K x).1 = 9) {r : Int32} (h : f_J2_size x m = some (r, mF)) : Ct Γ kJ2_size cJ2_size [.ref x] m (.inl (some (.int r))) mF := by
  unfold f_J2_size at h
  exact Ct.of (κ := kJ2_size) (by decide) rfl (Nat.le_of_ble_eq_true rfl) rfl (w_J2_size_0 hΓ hT h)
set_option maxHeartbeats 4000000 in
theorem w_X3_init_0 {Γ : GG} (hΓ : GF Γ) {m0 mF m : MM} {x : Nat} {l1 : Option Nat} (hT : (m.K x).1 = 4) {r : Unit} (h : b_X3_init_0 x l1 m = some (r, mF)) : G Γ kX3_init cX3_init m0 mF (.inl none) m 0 [some (.ref x), some (va_rf l1)] [] := by
  unfold b_X3_init_0 at h
  refine g_this dX3_init_0 rfl ?_
  refine g_aload_n 1 dX3_init_1 rfl rfl ?_
  replace h := bd_of h; obtain ⟨m1, em1, h⟩ := h
  refine g_pR hΓ.k fl_X3_3_X3 (fun _ => ⟨rfl, fun C T N e9 => by cases e9; rfl⟩) (Or.inl ⟨_, rfl⟩) em1 dX3_init_2 ?_
  replace hT := (pR_ext em1).kd hT
  refine g_this dX3_init_5 rfl ?_
  refine g_objInit q365 q145 q146 (Nat.le_of_ble_eq_true rfl) (Nat.le_of_ble_eq_true rfl) (Nat.le_of_ble_eq_true rfl) dX3_init_6 ?_
  refine g_this dX3_init_9 rfl ?_
  refine g_ldcS (hΓ.str (c := 7) (idx := 15) (tx := "") (by decide)) dX3_init_10 ?_
  replace h := bd_of h; obtain ⟨m2, em2, h⟩ := h
  refine g_pR hΓ.k fl_X3_17_X3 (fun h9 => by cases h9) (Or.inl ⟨_, rfl⟩) em2 dX3_init_12 ?_
  replace hT := (pR_ext em2).kd hT
  refine g_this dX3_init_15 rfl ?_
  replace h := bd_of h; obtain ⟨m3, em3, h⟩ := h
  refine g_nO hΓ.k nl_X3_21 ty_X1 em3 dX3_init_16 ?_
  replace hT := (nO_ext em3).kd hT
  refine g_dup dX3_init_19 (va_rf_cat _) ?_
  replace h := bd_of h; obtain ⟨a4, ea4, h⟩ := h
  obtain ⟨ea4, ka4⟩ := isK_of ea4
  cases ea4
  replace h := bd2_of h; obtain ⟨_, m5, em5, h⟩ := h
  have C := ct_X1_init hΓ ka4 em5
  refine g_callIN hΓ il_X3_23 C rfl rfl (Nat.le_of_ble_eq_true rfl) (Nat.le_of_ble_eq_true rfl) (Nat.le_of_ble_eq_true rfl) dX3_init_20 ?_
  replace hT := (C.1).kd hT
  replace h := bd_of h; obtain ⟨m6, em6, h⟩ := h
  refine g_pR hΓ.k fl_X3_24_X3 (fun _ => ⟨rfl, fun C T N e9 => by cases e9; rfl⟩) (Or.inl ⟨_, rfl⟩) em6 dX3_init_23 ?_
  replace hT := (pR_ext em6).kd hT
  cases h
  exact g_vret rfl dX3_init_26
theorem ct_X3_init {Γ : GG} (hΓ : GF Γ) {m mF : MM} {x : Nat} {l1 : Option Nat} (hT : (m.K x).1 = 4) {r : Unit} (h : f_X3_init x l1 m = some (r, mF)) : Ct Γ kX3_init cX3_init [.ref x, va_rf l1] m (.inl none) mF := by
  unfold f_X3_init at h
  exact Ct.of (κ := kX3_init) (by decide) rfl (by cases l1 <;> exact Nat.le_of_ble_eq_true rfl) rfl (by have w9 := w_X3_init_0 (m0 := m) hΓ hT h; cases l1 <;> exact w9)
set_option maxHeartbeats 4000000 in
theorem w_J11_checkIndex_0 {Γ : GG} (hΓ : GF Γ) {m0 mF m : MM} {l0 : Int32} {l1 : Int32} {l2 : Option Nat} {r : Int32} (h : b_J11_checkIndex_0 l0 l1 l2 m = some (r, mF)) : G Γ kJ11_checkIndex cJ11_checkIndex m0 mF (.inl (some (.int r))) m 0 [some (.int l0), some (.int l1), some (va_rf l2)] [] := by
  unfold b_J11_checkIndex_0 at h
  refine g_iload_n 0 dJ11_checkIndex_0 rfl rfl ?_
  replace h := ite_of h; rcases h with ⟨hc, h⟩ | ⟨hc, h⟩
  · refine g_ifltT dJ11_checkIndex_1 rfl hc ?_
    cases h
  · refine g_ifltF dJ11_checkIndex_1 rfl hc ?_
    refine g_iload_n 0 dJ11_checkIndex_4 rfl rfl ?_
    refine g_iload_n 1 dJ11_checkIndex_5 rfl rfl ?_
    replace h := ite_of h; rcases h with ⟨hc, h⟩ | ⟨hc, h⟩
    · refine g_icltT dJ11_checkIndex_6 rfl hc ?_
      cases h
    · refine g_icltF dJ11_checkIndex_6 rfl hc ?_
      cases h
theorem ct_J11_checkIndex {Γ : GG} (hΓ : GF Γ) {m mF : MM} {l0 : Int32} {l1 : Int32} {l2 : Option Nat} {r : Int32} (h : f_J11_checkIndex l0 l1 l2 m = some (r, mF)) : Ct Γ kJ11_checkIndex cJ11_checkIndex [.int l0, .int l1, va_rf l2] m (.inl (some (.int r))) mF := by
  unfold f_J11_checkIndex at h
  exact Ct.of (κ := kJ11_checkIndex) (by decide) rfl (by cases l2 <;> exact Nat.le_of_ble_eq_true rfl) rfl (by have w9 := w_J11_checkIndex_0 (m0 := m) hΓ h; cases l2 <;> exact w9)
set_option maxHeartbeats 4000000 in
theorem w_J14_checkIndex_0 {Γ : GG} (hΓ : GF Γ) {m0 mF m : MM} {l0 : Int32} {l1 : Int32} {r : Int32} (h : b_J14_checkIndex_0 l0 l1 m = some (r, mF)) : G Γ kJ14_checkIndex cJ14_checkIndex m0 mF (.inl (some (.int r))) m 0 [some (.int l0), some (.int l1)] [] := by
  unfold b_J14_checkIndex_0 at h
  refine g_iload_n 0 dJ14_checkIndex_0 rfl rfl ?_
  refine g_iload_n 1 dJ14_checkIndex_1 rfl rfl ?_
  refine g_null dJ14_checkIndex_2 ?_
  replace h := bd2_of h; obtain ⟨v1, m2, em2, h⟩ := h
  have C := ct_J11_checkIndex hΓ em2
  refine g_callSi sl_J14_105 C rfl rfl (Nat.le_of_ble_eq_true rfl) (Nat.le_of_ble_eq_true rfl) (Nat.le_of_ble_eq_true rfl) dJ14_checkIndex_3 ?_
  cases h
  exact g_iret rfl dJ14_checkIndex_6
theorem ct_J14_checkIndex {Γ : GG} (hΓ : GF Γ) {m mF : MM} {l0 : Int32} {l1 : Int32} {r : Int32} (h : f_J14_checkIndex l0 l1 m = some (r, mF)) : Ct Γ kJ14_checkIndex cJ14_checkIndex [.int l0, .int l1] m (.inl (some (.int r))) mF := by
  unfold f_J14_checkIndex at h
  exact Ct.of (κ := kJ14_checkIndex) (by decide) rfl (Nat.le_of_ble_eq_true rfl) rfl (w_J14_checkIndex_0 hΓ h)
set_option maxHeartbeats 4000000 in
theorem w_J2_elementData_0 {Γ : GG} (hΓ : GF Γ) {m0 mF m : MM} {x : Nat} {l1 : Int32} (hT : (m.K x).1 = 9) {r : Option Nat} (h : b_J2_elementData_0 x l1 m = some (r, mF)) : G Γ kJ2_elementData cJ2_elementData m0 mF (.inl (some (va_rf r))) m 0 [some (.ref x), some (.int l1)] [] := by
  unfold b_J2_elementData_0 at h
  refine g_this dJ2_elementData_0 rfl ?_
  refine g_getR hΓ.k fl_J2_9_J2 rfl hT dJ2_elementData_1 ?_
  refine g_iload_n 1 dJ2_elementData_4 rfl rfl ?_
  replace h := bd_of h; obtain ⟨v1, ev1, h⟩ := h
  refine g_aald (Or.inl rfl) ev1 dJ2_elementData_5 ?_
  cases h
  exact g_aret rfl (Or.inl ⟨_, rfl⟩) dJ2_elementData_6
theorem ct_J2_elementData {Γ : GG} (hΓ : GF Γ) {m mF : MM} {x : Nat} {l1 : Int32} (hT : (m.K x).1 = 9) {r : Option Nat} (h : f_J2_elementData x l1 m = some (r, mF)) : Ct Γ kJ2_elementData cJ2_elementData [.ref x, .int l1] m (.inl (some (va_rf r))) mF := by
  unfold f_J2_elementData at h
  exact Ct.of (κ := kJ2_elementData) (by decide) rfl (Nat.le_of_ble_eq_true rfl) rfl (w_J2_elementData_0 hΓ hT h)
set_option maxHeartbeats 4000000 in
theorem w_J2_get_0 {Γ : GG} (hΓ : GF Γ) {m0 mF m : MM} {x : Nat} {l1 : Int32} (hT : (m.K x).1 = 9) {r : Option Nat} (h : b_J2_get_0 x l1 m = some (r, mF)) : G Γ kJ2_get cJ2_get m0 mF (.inl (some (va_rf r))) m 0 [some (.ref x), some (.int l1)] [] := by
  unfold b_J2_get_0 at h
  refine g_iload_n 1 dJ2_get_0 rfl rfl ?_
  refine g_this dJ2_get_1 rfl ?_
  refine g_getI hΓ.k fl_J2_48_J2 rfl hT dJ2_get_2 ?_
  replace h := bd2_of h; obtain ⟨v1, m2, em2, h⟩ := h
  have C := ct_J14_checkIndex hΓ em2
  refine g_callSi sl_J2_118 C rfl rfl (Nat.le_of_ble_eq_true rfl) (Nat.le_of_ble_eq_true rfl) (Nat.le_of_ble_eq_true rfl) dJ2_get_5 ?_
  replace hT := (C.1).kd hT
  refine g_pop dJ2_get_8 rfl ?_
  refine g_this dJ2_get_9 rfl ?_
  refine g_iload_n 1 dJ2_get_10 rfl rfl ?_
  replace h := bd2_of h; obtain ⟨v3, m4, em4, h⟩ := h
  have C := ct_J2_elementData hΓ hT em4
  refine g_callVr hΓ.k vl_J2_123 hT C rfl rfl (Nat.le_of_ble_eq_true rfl) (Nat.le_of_ble_eq_true rfl) (Nat.le_of_ble_eq_true rfl) dJ2_get_11 ?_
  replace hT := (C.1).kd hT
  cases h
  exact g_aret rfl (Or.inl ⟨_, rfl⟩) dJ2_get_14
theorem ct_J2_get {Γ : GG} (hΓ : GF Γ) {m mF : MM} {x : Nat} {l1 : Int32} (hT : (m.K x).1 = 9) {r : Option Nat} (h : f_J2_get x l1 m = some (r, mF)) : Ct Γ kJ2_get cJ2_get [.ref x, .int l1] m (.inl (some (va_rf r))) mF := by
  unfold f_J2_get at h
  exact Ct.of (κ := kJ2_get) (by decide) rfl (Nat.le_of_ble_eq_true rfl) rfl (w_J2_get_0 hΓ hT h)
def p_J10_equals (Γ : GG) (m0 mF : MM) (l0 : Option Nat) (l1 : Option Nat) (r : Int32) : ((Int32 × MM)) → Prop := fun z => match z with
  | (l2, m) => G Γ kJ10_equals cJ10_equals m0 mF (.inl (some (.int r))) m 9 [some (va_rf l0), some (va_rf l1), some (.int l2)] []
set_option maxHeartbeats 4000000 in
theorem w_J10_equals_9 {Γ : GG} (hΓ : GF Γ) {m0 mF m : MM} {l0 : Option Nat} {l1 : Option Nat} {l2 : Int32} {r : Int32} {q : ((Int32 × MM)) ⊕ (Int32 × MM)} (h : b_J10_equals_9 l0 l1 l2 m = some q) (Hl : ∀ z, q = .inl z → p_J10_equals Γ m0 mF l0 l1 r z) (Hr : ∀ z, q = .inr z → z = (r, mF)) : G Γ kJ10_equals cJ10_equals m0 mF (.inl (some (.int r))) m 9 [some (va_rf l0), some (va_rf l1), some (.int l2)] [] := by
  unfold b_J10_equals_9 at h
  refine g_iload_n 2 dJ10_equals_9 rfl rfl ?_
  refine g_aload_n 0 dJ10_equals_10 rfl rfl ?_
  replace h := bd_of h; obtain ⟨v1, ev1, h⟩ := h
  refine g_alen (Nat.le_of_ble_eq_true rfl) ev1 dJ10_equals_11 ?_
  replace h := ite_of h; rcases h with ⟨hc, h⟩ | ⟨hc, h⟩
  · refine g_icgeT dJ10_equals_12 rfl hc ?_
    refine g_ic 1 dJ10_equals_32 rfl ?_
    cases h
    cases Hr _ rfl
    exact g_zret rfl (by decide) dJ10_equals_33
  · refine g_icgeF dJ10_equals_12 rfl hc ?_
    refine g_aload_n 0 dJ10_equals_15 rfl rfl ?_
    refine g_iload_n 2 dJ10_equals_16 rfl rfl ?_
    replace h := bd_of h; obtain ⟨v2, ev2, h⟩ := h
    refine g_bald ev2 dJ10_equals_17 ?_
    refine g_aload_n 1 dJ10_equals_18 rfl rfl ?_
    refine g_iload_n 2 dJ10_equals_19 rfl rfl ?_
    replace h := bd_of h; obtain ⟨v3, ev3, h⟩ := h
    refine g_bald ev3 dJ10_equals_20 ?_
    replace h := ite_of h; rcases h with ⟨hc, h⟩ | ⟨hc, h⟩
    · refine g_iceqT dJ10_equals_21 rfl hc ?_
      refine g_iinc (l2 + (1 : Int32)) dJ10_equals_26 rfl rfl (Nat.le_of_ble_eq_true rfl) (lvC_rf rfl) ?_
      dsimp only [List.set]
      refine g_goto dJ10_equals_29 rfl ?_
      cases h
      refine G.weak [true, true, true] rfl ?_
      exact Hl _ rfl
    · refine g_iceqF dJ10_equals_21 rfl hc ?_
      refine g_ic 0 dJ10_equals_24 rfl ?_
      cases h
      cases Hr _ rfl
      exact g_zret rfl (by decide) dJ10_equals_25
set_option maxHeartbeats 4000000 in
theorem w_J10_equals_0 {Γ : GG} (hΓ : GF Γ) {m0 mF m : MM} {l0 : Option Nat} {l1 : Option Nat} {r : Int32} {q : ((Int32 × MM)) ⊕ (Int32 × MM)} (h : b_J10_equals_0 l0 l1 m = some q) (Hl : ∀ z, q = .inl z → p_J10_equals Γ m0 mF l0 l1 r z) (Hr : ∀ z, q = .inr z → z = (r, mF)) : G Γ kJ10_equals cJ10_equals m0 mF (.inl (some (.int r))) m 0 [some (va_rf l0), some (va_rf l1), none] [] := by
  unfold b_J10_equals_0 at h
  refine g_aload_n 0 dJ10_equals_0 rfl rfl ?_
  replace h := bd_of h; obtain ⟨v1, ev1, h⟩ := h
  refine g_alen (Nat.le_of_ble_eq_true rfl) ev1 dJ10_equals_1 ?_
  refine g_aload_n 1 dJ10_equals_2 rfl rfl ?_
  replace h := bd_of h; obtain ⟨v2, ev2, h⟩ := h
  refine g_alen (Nat.le_of_ble_eq_true rfl) ev2 dJ10_equals_3 ?_
  replace h := ite_of h; rcases h with ⟨hc, h⟩ | ⟨hc, h⟩
  · refine g_icneF dJ10_equals_4 rfl hc ?_
    refine g_ic 0 dJ10_equals_7 rfl ?_
    refine g_istore_n 2 dJ10_equals_8 rfl (Nat.le_of_ble_eq_true rfl) (lvC_rf rfl) ?_
    dsimp only [List.set]
    cases h
    refine G.weak [true, true, true] rfl ?_
    exact Hl _ rfl
  · refine g_icneT dJ10_equals_4 rfl hc ?_
    refine g_ic 0 dJ10_equals_34 rfl ?_
    cases h
    cases Hr _ rfl
    exact g_zret rfl (by decide) dJ10_equals_35
theorem ct_J10_equals {Γ : GG} (hΓ : GF Γ) {m mF : MM} {l0 : Option Nat} {l1 : Option Nat} {r : Int32} (h : f_J10_equals l0 l1 m = some (r, mF)) : Ct Γ kJ10_equals cJ10_equals [va_rf l0, va_rf l1] m (.inl (some (.int r))) mF := by
  unfold f_J10_equals at h
  replace h := bd_of h; obtain ⟨q, e, h⟩ := h
  have H := rx_go_ind (P := p_J10_equals Γ m mF l0 l1 r) (fun z o hs Hl Hr => by
    match z with
    | (l2, m) => exact w_J10_equals_9 hΓ hs Hl Hr) h
  exact Ct.of (κ := kJ10_equals) (by decide) rfl (by cases l0 <;> cases l1 <;> exact Nat.le_of_ble_eq_true rfl) rfl (by have w9 := w_J10_equals_0 (m0 := m) hΓ e H.1 H.2; cases l0 <;> cases l1 <;> exact w9)
set_option maxHeartbeats 4000000 in
theorem w_J5_equals_36 {Γ : GG} (hΓ : GF Γ) {m0 mF m : MM} {x : Nat} {l1 : Option Nat} {l2 : Option Nat} (hT : (m.K x).1 = 11) {r : Int32} (h : b_J5_equals_36 x l1 l2 m = some (r, mF)) : G Γ kJ5_equals cJ5_equals m0 mF (.inl (some (.int r))) m 36 [some (.ref x), some (va_rf l1), some (va_rf l2)] [] := by
  unfold b_J5_equals_36 at h
  refine g_this dJ5_equals_36 rfl ?_
  refine g_getR hΓ.k fl_J5_9_J5 rfl hT dJ5_equals_37 ?_
  refine g_aload_n 2 dJ5_equals_40 rfl rfl ?_
  replace h := bd_of h; obtain ⟨v1, ev1, h⟩ := h
  refine g_fR hΓ.k fl_J5_9_J5 rfl ev1 dJ5_equals_41 ?_
  replace h := bd2_of h; obtain ⟨v2, m3, em3, h⟩ := h
  have C := ct_J10_equals hΓ em3
  refine g_callSi sl_J5_541 C rfl rfl (Nat.le_of_ble_eq_true rfl) (Nat.le_of_ble_eq_true rfl) (Nat.le_of_ble_eq_true rfl) dJ5_equals_44 ?_
  replace hT := (C.1).kd hT
  replace h := ite_of h; rcases h with ⟨hc, h⟩ | ⟨hc, h⟩
  · refine g_ifeqT dJ5_equals_47 rfl hc ?_
    refine g_ic 0 dJ5_equals_54 rfl ?_
    cases h
    exact g_zret rfl (by decide) dJ5_equals_55
  · refine g_ifeqF dJ5_equals_47 rfl hc ?_
    refine g_ic 1 dJ5_equals_50 rfl ?_
    refine g_goto dJ5_equals_51 rfl ?_
    cases h
    exact g_zret rfl (by decide) dJ5_equals_55
set_option maxHeartbeats 4000000 in
theorem w_J5_equals_0 {Γ : GG} (hΓ : GF Γ) {m0 mF m : MM} {x : Nat} {l1 : Option Nat} (hT : (m.K x).1 = 11) {r : Int32} (h : b_J5_equals_0 x l1 m = some (r, mF)) : G Γ kJ5_equals cJ5_equals m0 mF (.inl (some (.int r))) m 0 [some (.ref x), some (va_rf l1), none] [] := by
  unfold b_J5_equals_0 at h
  refine g_this dJ5_equals_0 rfl ?_
  refine g_aload_n 1 dJ5_equals_1 rfl rfl ?_
  replace h := ite_of h; rcases h with ⟨hc, h⟩ | ⟨hc, h⟩
  · refine g_acneF dJ5_equals_2 rfl hc ?_
    refine g_ic 1 dJ5_equals_5 rfl ?_
    cases h
    exact g_zret rfl (by decide) dJ5_equals_6
  · refine g_acneT dJ5_equals_2 rfl hc ?_
    refine g_aload_n 1 dJ5_equals_7 rfl rfl ?_
    replace h := bd_of h; obtain ⟨v1, ev1, h⟩ := h
    refine g_inst hΓ q609 ⟨rfl, by decide, _, _, rfl⟩ ev1 dJ5_equals_8 ?_
    replace h := ite_of h; rcases h with ⟨hc, h⟩ | ⟨hc, h⟩
    · refine g_ifeqT dJ5_equals_11 rfl hc ?_
      refine g_ic 0 dJ5_equals_54 rfl ?_
      cases h
      exact g_zret rfl (by decide) dJ5_equals_55
    · refine g_ifeqF dJ5_equals_11 rfl hc ?_
      refine g_aload_n 1 dJ5_equals_14 rfl rfl ?_
      replace h := ite_of h; rcases h with ⟨hc, h⟩ | ⟨hc, h⟩
      · refine g_cast hΓ q609 ⟨rfl, by decide, _, _, rfl⟩ hc dJ5_equals_15 ?_
        refine g_astore_n 2 dJ5_equals_18 rfl (Nat.le_of_ble_eq_true rfl) (lvC_rf rfl) ?_
        dsimp only [List.set]
        refine g_getsI hΓ.cs q569 dJ5_equals_19 ?_
        replace h := ite_of h; rcases h with ⟨hc, h⟩ | ⟨hc, h⟩
        · refine g_ifeqT dJ5_equals_22 rfl hc ?_
          refine G.weak [true, true, true] rfl ?_
          exact w_J5_equals_36 hΓ hT h
        · refine g_ifeqF dJ5_equals_22 rfl hc ?_
          refine g_this dJ5_equals_25 rfl ?_
          refine g_getI hΓ.k fl_J5_15_J5 rfl hT dJ5_equals_26 ?_
          refine g_aload_n 2 dJ5_equals_29 rfl rfl ?_
          replace h := bd_of h; obtain ⟨v2, ev2, h⟩ := h
          refine g_fI hΓ.k fl_J5_15_J5 rfl ev2 dJ5_equals_30 ?_
          replace h := ite_of h; rcases h with ⟨hc, h⟩ | ⟨hc, h⟩
          · refine g_icneF dJ5_equals_33 rfl hc ?_
            refine G.weak [true, true, true] rfl ?_
            exact w_J5_equals_36 hΓ hT h
          · refine g_icneT dJ5_equals_33 rfl hc ?_
            refine g_ic 0 dJ5_equals_54 rfl ?_
            cases h
            exact g_zret rfl (by decide) dJ5_equals_55
      · cases h
theorem ct_J5_equals {Γ : GG} (hΓ : GF Γ) {m mF : MM} {x : Nat} {l1 : Option Nat} (hT : (m.K x).1 = 11) {r : Int32} (h : f_J5_equals x l1 m = some (r, mF)) : Ct Γ kJ5_equals cJ5_equals [.ref x, va_rf l1] m (.inl (some (.int r))) mF := by
  unfold f_J5_equals at h
  exact Ct.of (κ := kJ5_equals) (by decide) rfl (by cases l1 <;> exact Nat.le_of_ble_eq_true rfl) rfl (by have w9 := w_J5_equals_0 (m0 := m) hΓ hT h; cases l1 <;> exact w9)
def p_X1_rule (Γ : GG) (m0 mF : MM) (x : Nat) (l1 : Option Nat) (r : Int32) : ((Int32 × Int32 × MM)) → Prop := fun z => match z with
  | (l2, l3, m) => (m.K x).1 = 2 → G Γ kX1_rule cX1_rule m0 mF (.inl (some (.int r))) m 4 [some (.ref x), some (va_rf l1), some (.int l2), some (.int l3)] []
set_option maxHeartbeats 4000000 in
theorem w_X1_rule_4 {Γ : GG} (hΓ : GF Γ) {m0 mF m : MM} {x : Nat} {l1 : Option Nat} {l2 : Int32} {l3 : Int32} (hT : (m.K x).1 = 2) {r : Int32} {q : ((Int32 × Int32 × MM)) ⊕ (Int32 × MM)} (h : b_X1_rule_4 x l1 l2 l3 m = some q) (Hl : ∀ z, q = .inl z → p_X1_rule Γ m0 mF x l1 r z) (Hr : ∀ z, q = .inr z → z = (r, mF)) : G Γ kX1_rule cX1_rule m0 mF (.inl (some (.int r))) m 4 [some (.ref x), some (va_rf l1), some (.int l2), some (.int l3)] [] := by
  unfold b_X1_rule_4 at h
  refine g_iload_n 3 dX1_rule_4 rfl rfl ?_
  refine g_this dX1_rule_5 rfl ?_
  refine g_getR hΓ.k fl_X1_20_X1 rfl hT dX1_rule_6 ?_
  replace h := bd_of h; obtain ⟨a1, ea1, h⟩ := h
  obtain ⟨ea1, ka1⟩ := isK_of ea1
  replace h := bd2_of h; obtain ⟨v2, m3, em3, h⟩ := h
  have C := ct_J2_size hΓ ka1 em3
  refine g_callVi hΓ.k vl_X1_37 ka1 C rfl (by rw [ea1]; rfl) (Nat.le_of_ble_eq_true rfl) (Nat.le_of_ble_eq_true rfl) (Nat.le_of_ble_eq_true rfl) dX1_rule_9 ?_
  replace hT := (C.1).kd hT
  replace h := ite_of h; rcases h with ⟨hc, h⟩ | ⟨hc, h⟩
  · refine g_icgeT dX1_rule_12 rfl hc ?_
    refine g_iload_n 2 dX1_rule_48 rfl rfl ?_
    cases h
    cases Hr _ rfl
    exact g_iret rfl dX1_rule_49
  · refine g_icgeF dX1_rule_12 rfl hc ?_
    refine g_this dX1_rule_15 rfl ?_
    refine g_getR hΓ.k fl_X1_20_X1 rfl hT dX1_rule_16 ?_
    refine g_iload_n 3 dX1_rule_19 rfl rfl ?_
    replace h := bd_of h; obtain ⟨a4, ea4, h⟩ := h
    obtain ⟨ea4, ka4⟩ := isK_of ea4
    replace h := bd2_of h; obtain ⟨v5, m6, em6, h⟩ := h
    have C := ct_J2_get hΓ ka4 em6
    refine g_callVr hΓ.k vl_X1_41 ka4 C rfl (by rw [ea4]; rfl) (Nat.le_of_ble_eq_true rfl) (Nat.le_of_ble_eq_true rfl) (Nat.le_of_ble_eq_true rfl) dX1_rule_20 ?_
    replace hT := (C.1).kd hT
    replace h := ite_of h; rcases h with ⟨hc, h⟩ | ⟨hc, h⟩
    · refine g_cast hΓ q781 ⟨rfl, by decide, _, _, rfl⟩ hc dX1_rule_23 ?_
      replace h := bd_of h; obtain ⟨v7, ev7, h⟩ := h
      refine g_fR hΓ.k fl_X1_53_X5 rfl ev7 dX1_rule_26 ?_
      refine g_aload_n 1 dX1_rule_29 rfl rfl ?_
      replace h := bd_of h; obtain ⟨a8, ea8, h⟩ := h
      obtain ⟨ea8, ka8⟩ := isK_of ea8
      cases ea8
      replace h := bd2_of h; obtain ⟨v9, m10, em10, h⟩ := h
      have C := ct_J5_equals hΓ ka8 em10
      refine g_callVi hΓ.k vl_X1_47 ka8 C rfl rfl (Nat.le_of_ble_eq_true rfl) (Nat.le_of_ble_eq_true rfl) (Nat.le_of_ble_eq_true rfl) dX1_rule_30 ?_
      replace hT := (C.1).kd hT
      replace h := ite_of h; rcases h with ⟨hc, h⟩ | ⟨hc, h⟩
      · refine g_ifeqT dX1_rule_33 rfl hc ?_
        refine g_iload_n 2 dX1_rule_40 rfl rfl ?_
        refine g_istore_n 2 dX1_rule_41 rfl (Nat.le_of_ble_eq_true rfl) (lvC_rf rfl) ?_
        dsimp only [List.set]
        refine g_iinc (l3 + (1 : Int32)) dX1_rule_42 rfl rfl (Nat.le_of_ble_eq_true rfl) rfl ?_
        dsimp only [List.set]
        refine g_goto dX1_rule_45 rfl ?_
        cases h
        refine G.weak [true, true, true, true] rfl ?_
        exact Hl _ rfl hT
      · refine g_ifeqF dX1_rule_33 rfl hc ?_
        refine g_iload_n 3 dX1_rule_36 rfl rfl ?_
        refine g_goto dX1_rule_37 rfl ?_
        refine g_istore_n 2 dX1_rule_41 rfl (Nat.le_of_ble_eq_true rfl) (lvC_rf rfl) ?_
        dsimp only [List.set]
        refine g_iinc (l3 + (1 : Int32)) dX1_rule_42 rfl rfl (Nat.le_of_ble_eq_true rfl) rfl ?_
        dsimp only [List.set]
        refine g_goto dX1_rule_45 rfl ?_
        cases h
        refine G.weak [true, true, true, true] rfl ?_
        exact Hl _ rfl hT
    · cases h
set_option maxHeartbeats 4000000 in
theorem w_X1_rule_0 {Γ : GG} (hΓ : GF Γ) {m0 mF m : MM} {x : Nat} {l1 : Option Nat} (hT : (m.K x).1 = 2) {r : Int32} {q : ((Int32 × Int32 × MM)) ⊕ (Int32 × MM)} (h : b_X1_rule_0 x l1 m = some q) (Hl : ∀ z, q = .inl z → p_X1_rule Γ m0 mF x l1 r z) (Hr : ∀ z, q = .inr z → z = (r, mF)) : G Γ kX1_rule cX1_rule m0 mF (.inl (some (.int r))) m 0 [some (.ref x), some (va_rf l1), none, none] [] := by
  unfold b_X1_rule_0 at h
  refine g_ic (-1) dX1_rule_0 rfl ?_
  refine g_istore_n 2 dX1_rule_1 rfl (Nat.le_of_ble_eq_true rfl) (lvC_rf rfl) ?_
  dsimp only [List.set]
  refine g_ic 0 dX1_rule_2 rfl ?_
  refine g_istore_n 3 dX1_rule_3 rfl (Nat.le_of_ble_eq_true rfl) rfl ?_
  dsimp only [List.set]
  cases h
  refine G.weak [true, true, true, true] rfl ?_
  exact Hl _ rfl hT
theorem ct_X1_rule {Γ : GG} (hΓ : GF Γ) {m mF : MM} {x : Nat} {l1 : Option Nat} (hT : (m.K x).1 = 2) {r : Int32} (h : f_X1_rule x l1 m = some (r, mF)) : Ct Γ kX1_rule cX1_rule [.ref x, va_rf l1] m (.inl (some (.int r))) mF := by
  unfold f_X1_rule at h
  replace h := bd_of h; obtain ⟨q, e, h⟩ := h
  have H := rx_go_ind (P := p_X1_rule Γ m mF x l1 r) (fun z o hs Hl Hr => by
    match z with
    | (l2, l3, m) => exact fun hT => w_X1_rule_4 hΓ hT hs Hl Hr) h
  exact Ct.of (κ := kX1_rule) (by decide) rfl (by cases l1 <;> exact Nat.le_of_ble_eq_true rfl) rfl (by have w9 := w_X1_rule_0 (m0 := m) hΓ hT e H.1 H.2; cases l1 <;> exact w9)
def p_X1_word (Γ : GG) (m0 mF : MM) (x : Nat) (l1 : Option Nat) (r : Int32) : ((Int32 × Int32 × MM)) → Prop := fun z => match z with
  | (l2, l3, m) => (m.K x).1 = 2 → G Γ kX1_word cX1_word m0 mF (.inl (some (.int r))) m 4 [some (.ref x), some (va_rf l1), some (.int l2), some (.int l3)] []
set_option maxHeartbeats 4000000 in
theorem w_X1_word_4 {Γ : GG} (hΓ : GF Γ) {m0 mF m : MM} {x : Nat} {l1 : Option Nat} {l2 : Int32} {l3 : Int32} (hT : (m.K x).1 = 2) {r : Int32} {q : ((Int32 × Int32 × MM)) ⊕ (Int32 × MM)} (h : b_X1_word_4 x l1 l2 l3 m = some q) (Hl : ∀ z, q = .inl z → p_X1_word Γ m0 mF x l1 r z) (Hr : ∀ z, q = .inr z → z = (r, mF)) : G Γ kX1_word cX1_word m0 mF (.inl (some (.int r))) m 4 [some (.ref x), some (va_rf l1), some (.int l2), some (.int l3)] [] := by
  unfold b_X1_word_4 at h
  refine g_iload_n 3 dX1_word_4 rfl rfl ?_
  refine g_this dX1_word_5 rfl ?_
  refine g_getR hΓ.k fl_X1_14_X1 rfl hT dX1_word_6 ?_
  replace h := bd_of h; obtain ⟨a1, ea1, h⟩ := h
  obtain ⟨ea1, ka1⟩ := isK_of ea1
  replace h := bd2_of h; obtain ⟨v2, m3, em3, h⟩ := h
  have C := ct_J2_size hΓ ka1 em3
  refine g_callVi hΓ.k vl_X1_37 ka1 C rfl (by rw [ea1]; rfl) (Nat.le_of_ble_eq_true rfl) (Nat.le_of_ble_eq_true rfl) (Nat.le_of_ble_eq_true rfl) dX1_word_9 ?_
  replace hT := (C.1).kd hT
  replace h := ite_of h; rcases h with ⟨hc, h⟩ | ⟨hc, h⟩
  · refine g_icgeT dX1_word_12 rfl hc ?_
    refine g_iload_n 2 dX1_word_45 rfl rfl ?_
    cases h
    cases Hr _ rfl
    exact g_iret rfl dX1_word_46
  · refine g_icgeF dX1_word_12 rfl hc ?_
    refine g_this dX1_word_15 rfl ?_
    refine g_getR hΓ.k fl_X1_14_X1 rfl hT dX1_word_16 ?_
    refine g_iload_n 3 dX1_word_19 rfl rfl ?_
    replace h := bd_of h; obtain ⟨a4, ea4, h⟩ := h
    obtain ⟨ea4, ka4⟩ := isK_of ea4
    replace h := bd2_of h; obtain ⟨v5, m6, em6, h⟩ := h
    have C := ct_J2_get hΓ ka4 em6
    refine g_callVr hΓ.k vl_X1_41 ka4 C rfl (by rw [ea4]; rfl) (Nat.le_of_ble_eq_true rfl) (Nat.le_of_ble_eq_true rfl) (Nat.le_of_ble_eq_true rfl) dX1_word_20 ?_
    replace hT := (C.1).kd hT
    replace h := ite_of h; rcases h with ⟨hc, h⟩ | ⟨hc, h⟩
    · refine g_cast hΓ q775 ⟨rfl, by decide, _, _, rfl⟩ hc dX1_word_23 ?_
      refine g_aload_n 1 dX1_word_26 rfl rfl ?_
      replace h := bd_of h; obtain ⟨a7, ea7, h⟩ := h
      obtain ⟨ea7, ka7⟩ := isK_of ea7
      cases ea7
      replace h := bd2_of h; obtain ⟨v8, m9, em9, h⟩ := h
      have C := ct_J5_equals hΓ ka7 em9
      refine g_callVi hΓ.k vl_X1_47 ka7 C rfl rfl (Nat.le_of_ble_eq_true rfl) (Nat.le_of_ble_eq_true rfl) (Nat.le_of_ble_eq_true rfl) dX1_word_27 ?_
      replace hT := (C.1).kd hT
      replace h := ite_of h; rcases h with ⟨hc, h⟩ | ⟨hc, h⟩
      · refine g_ifeqT dX1_word_30 rfl hc ?_
        refine g_iload_n 2 dX1_word_37 rfl rfl ?_
        refine g_istore_n 2 dX1_word_38 rfl (Nat.le_of_ble_eq_true rfl) (lvC_rf rfl) ?_
        dsimp only [List.set]
        refine g_iinc (l3 + (1 : Int32)) dX1_word_39 rfl rfl (Nat.le_of_ble_eq_true rfl) rfl ?_
        dsimp only [List.set]
        refine g_goto dX1_word_42 rfl ?_
        cases h
        refine G.weak [true, true, true, true] rfl ?_
        exact Hl _ rfl hT
      · refine g_ifeqF dX1_word_30 rfl hc ?_
        refine g_iload_n 3 dX1_word_33 rfl rfl ?_
        refine g_goto dX1_word_34 rfl ?_
        refine g_istore_n 2 dX1_word_38 rfl (Nat.le_of_ble_eq_true rfl) (lvC_rf rfl) ?_
        dsimp only [List.set]
        refine g_iinc (l3 + (1 : Int32)) dX1_word_39 rfl rfl (Nat.le_of_ble_eq_true rfl) rfl ?_
        dsimp only [List.set]
        refine g_goto dX1_word_42 rfl ?_
        cases h
        refine G.weak [true, true, true, true] rfl ?_
        exact Hl _ rfl hT
    · cases h
set_option maxHeartbeats 4000000 in
theorem w_X1_word_0 {Γ : GG} (hΓ : GF Γ) {m0 mF m : MM} {x : Nat} {l1 : Option Nat} (hT : (m.K x).1 = 2) {r : Int32} {q : ((Int32 × Int32 × MM)) ⊕ (Int32 × MM)} (h : b_X1_word_0 x l1 m = some q) (Hl : ∀ z, q = .inl z → p_X1_word Γ m0 mF x l1 r z) (Hr : ∀ z, q = .inr z → z = (r, mF)) : G Γ kX1_word cX1_word m0 mF (.inl (some (.int r))) m 0 [some (.ref x), some (va_rf l1), none, none] [] := by
  unfold b_X1_word_0 at h
  refine g_ic (-1) dX1_word_0 rfl ?_
  refine g_istore_n 2 dX1_word_1 rfl (Nat.le_of_ble_eq_true rfl) (lvC_rf rfl) ?_
  dsimp only [List.set]
  refine g_ic 0 dX1_word_2 rfl ?_
  refine g_istore_n 3 dX1_word_3 rfl (Nat.le_of_ble_eq_true rfl) rfl ?_
  dsimp only [List.set]
  cases h
  refine G.weak [true, true, true, true] rfl ?_
  exact Hl _ rfl hT
theorem ct_X1_word {Γ : GG} (hΓ : GF Γ) {m mF : MM} {x : Nat} {l1 : Option Nat} (hT : (m.K x).1 = 2) {r : Int32} (h : f_X1_word x l1 m = some (r, mF)) : Ct Γ kX1_word cX1_word [.ref x, va_rf l1] m (.inl (some (.int r))) mF := by
  unfold f_X1_word at h
  replace h := bd_of h; obtain ⟨q, e, h⟩ := h
  have H := rx_go_ind (P := p_X1_word Γ m mF x l1 r) (fun z o hs Hl Hr => by
    match z with
    | (l2, l3, m) => exact fun hT => w_X1_word_4 hΓ hT hs Hl Hr) h
  exact Ct.of (κ := kX1_word) (by decide) rfl (by cases l1 <;> exact Nat.le_of_ble_eq_true rfl) rfl (by have w9 := w_X1_word_0 (m0 := m) hΓ hT e H.1 H.2; cases l1 <;> exact w9)
set_option maxHeartbeats 4000000 in
theorem w_J12_init_2_0 {Γ : GG} (hΓ : GF Γ) {m0 mF m : MM} {x : Nat} {l1 : Option Nat} {l2 : Option Nat} {l3 : Int32} {l4 : Int32} (hT : (m.K x).1 = 5) {r : Unit} (h : b_J12_init_2_0 x l1 l2 l3 l4 m = some (r, mF)) : G Γ kJ12_init_2 cJ12_init_2 m0 mF (.inl none) m 0 [some (.ref x), some (va_rf l1), some (va_rf l2), some (.int l3), some (.int l4)] [] := by
  unfold b_J12_init_2_0 at h
  refine g_this dJ12_init_2_0 rfl ?_
  refine g_objInit q714 q145 q146 (Nat.le_of_ble_eq_true rfl) (Nat.le_of_ble_eq_true rfl) (Nat.le_of_ble_eq_true rfl) dJ12_init_2_1 ?_
  refine g_this dJ12_init_2_4 rfl ?_
  refine g_this dJ12_init_2_5 rfl ?_
  replace h := bd_of h; obtain ⟨m1, em1, h⟩ := h
  refine g_pR hΓ.k fl_J12_7_X4 (fun h9 => by cases h9) (Or.inl ⟨_, rfl⟩) em1 dJ12_init_2_6 ?_
  replace hT := (pR_ext em1).kd hT
  refine g_this dJ12_init_2_9 rfl ?_
  refine g_getsR hΓ.us q715 dJ12_init_2_10 ?_
  replace h := bd_of h; obtain ⟨m2, em2, h⟩ := h
  refine g_pR hΓ.k fl_J12_17_X4 (fun h9 => by cases h9) (Or.inr ⟨_, rfl⟩) em2 dJ12_init_2_13 ?_
  replace hT := (pR_ext em2).kd hT
  refine g_this dJ12_init_2_16 rfl ?_
  refine g_getsR hΓ.ss q717 dJ12_init_2_17 ?_
  replace h := bd_of h; obtain ⟨m3, em3, h⟩ := h
  refine g_pR hΓ.k fl_J12_24_X4 (fun h9 => by cases h9) (Or.inl ⟨_, rfl⟩) em3 dJ12_init_2_20 ?_
  replace hT := (pR_ext em3).kd hT
  refine g_iload dJ12_init_2_23 rfl ?_
  replace h := ite_of h; rcases h with ⟨hc, h⟩ | ⟨hc, h⟩
  · refine g_ifeqT dJ12_init_2_25 rfl hc ?_
    refine g_this dJ12_init_2_36 rfl ?_
    refine g_null dJ12_init_2_37 ?_
    replace h := bd_of h; obtain ⟨m4, em4, h⟩ := h
    refine g_pR hΓ.k fl_J12_17_X4 (fun h9 => by cases h9) (Or.inr ⟨_, rfl⟩) em4 dJ12_init_2_38 ?_
    replace hT := (pR_ext em4).kd hT
    refine g_this dJ12_init_2_41 rfl ?_
    refine g_aload_n 1 dJ12_init_2_42 rfl rfl ?_
    replace h := bd_of h; obtain ⟨m5, em5, h⟩ := h
    refine g_pR hΓ.k fl_J12_31_X4 (fun h9 => by cases h9) (Or.inl ⟨_, rfl⟩) em5 dJ12_init_2_43 ?_
    replace hT := (pR_ext em5).kd hT
    refine g_this dJ12_init_2_46 rfl ?_
    refine g_aload_n 2 dJ12_init_2_47 rfl rfl ?_
    replace h := bd_of h; obtain ⟨m6, em6, h⟩ := h
    refine g_pR hΓ.k fl_J12_7_X4 (fun h9 => by cases h9) (Or.inl ⟨_, rfl⟩) em6 dJ12_init_2_48 ?_
    replace hT := (pR_ext em6).kd hT
    refine g_iload_n 3 dJ12_init_2_51 rfl rfl ?_
    replace h := ite_of h; rcases h with ⟨hc, h⟩ | ⟨hc, h⟩
    · refine g_ifneF dJ12_init_2_52 rfl hc ?_
      refine g_this dJ12_init_2_55 rfl ?_
      refine g_null dJ12_init_2_56 ?_
      replace h := bd_of h; obtain ⟨m7, em7, h⟩ := h
      refine g_pR hΓ.k fl_J12_24_X4 (fun h9 => by cases h9) (Or.inl ⟨_, rfl⟩) em7 dJ12_init_2_57 ?_
      replace hT := (pR_ext em7).kd hT
      cases h
      exact g_vret rfl dJ12_init_2_60
    · refine g_ifneT dJ12_init_2_52 rfl hc ?_
      cases h
      exact g_vret rfl dJ12_init_2_60
  · refine g_ifeqF dJ12_init_2_25 rfl hc ?_
    cases h
theorem ct_J12_init_2 {Γ : GG} (hΓ : GF Γ) {m mF : MM} {x : Nat} {l1 : Option Nat} {l2 : Option Nat} {l3 : Int32} {l4 : Int32} (hT : (m.K x).1 = 5) {r : Unit} (h : f_J12_init_2 x l1 l2 l3 l4 m = some (r, mF)) : Ct Γ kJ12_init_2 cJ12_init_2 [.ref x, va_rf l1, va_rf l2, .int l3, .int l4] m (.inl none) mF := by
  unfold f_J12_init_2 at h
  exact Ct.of (κ := kJ12_init_2) (by decide) rfl (by cases l1 <;> cases l2 <;> exact Nat.le_of_ble_eq_true rfl) rfl (by have w9 := w_J12_init_2_0 (m0 := m) hΓ hT h; cases l1 <;> cases l2 <;> exact w9)
set_option maxHeartbeats 4000000 in
theorem w_J13_init_0 {Γ : GG} (hΓ : GF Γ) {m0 mF m : MM} {x : Nat} {l1 : Option Nat} {l2 : Option Nat} {l3 : Int32} {l4 : Int32} (hT : (m.K x).1 = 5) {r : Unit} (h : b_J13_init_0 x l1 l2 l3 l4 m = some (r, mF)) : G Γ kJ13_init cJ13_init m0 mF (.inl none) m 0 [some (.ref x), some (va_rf l1), some (va_rf l2), some (.int l3), some (.int l4)] [] := by
  unfold b_J13_init_0 at h
  refine g_this dJ13_init_0 rfl ?_
  refine g_aload_n 1 dJ13_init_1 rfl rfl ?_
  refine g_aload_n 2 dJ13_init_2 rfl rfl ?_
  refine g_iload_n 3 dJ13_init_3 rfl rfl ?_
  refine g_iload dJ13_init_4 rfl ?_
  replace h := bd2_of h; obtain ⟨_, m1, em1, h⟩ := h
  have C := ct_J12_init_2 hΓ hT em1
  refine g_callI il_J13_16 C rfl rfl (Nat.le_of_ble_eq_true rfl) (Nat.le_of_ble_eq_true rfl) (Nat.le_of_ble_eq_true rfl) dJ13_init_6 ?_
  replace hT := (C.1).kd hT
  cases h
  exact g_vret rfl dJ13_init_9
theorem ct_J13_init {Γ : GG} (hΓ : GF Γ) {m mF : MM} {x : Nat} {l1 : Option Nat} {l2 : Option Nat} {l3 : Int32} {l4 : Int32} (hT : (m.K x).1 = 5) {r : Unit} (h : f_J13_init x l1 l2 l3 l4 m = some (r, mF)) : Ct Γ kJ13_init cJ13_init [.ref x, va_rf l1, va_rf l2, .int l3, .int l4] m (.inl none) mF := by
  unfold f_J13_init at h
  exact Ct.of (κ := kJ13_init) (by decide) rfl (by cases l1 <;> cases l2 <;> exact Nat.le_of_ble_eq_true rfl) rfl (by have w9 := w_J13_init_0 (m0 := m) hΓ hT h; cases l1 <;> cases l2 <;> exact w9)
set_option maxHeartbeats 4000000 in
theorem w_X4_init_0 {Γ : GG} (hΓ : GF Γ) {m0 mF m : MM} {x : Nat} {l1 : Int32} {l2 : Int32} (hT : (m.K x).1 = 5) {r : Unit} (h : b_X4_init_0 x l1 l2 m = some (r, mF)) : G Γ kX4_init cX4_init m0 mF (.inl none) m 0 [some (.ref x), some (.int l1), some (.int l2)] [] := by
  unfold b_X4_init_0 at h
  refine g_this dX4_init_0 rfl ?_
  refine g_null dX4_init_1 ?_
  refine g_null dX4_init_2 ?_
  refine g_ic 0 dX4_init_3 rfl ?_
  refine g_ic 0 dX4_init_4 rfl ?_
  replace h := bd2_of h; obtain ⟨_, m1, em1, h⟩ := h
  have C := ct_J13_init hΓ hT em1
  refine g_callI il_X4_1 C rfl rfl (Nat.le_of_ble_eq_true rfl) (Nat.le_of_ble_eq_true rfl) (Nat.le_of_ble_eq_true rfl) dX4_init_5 ?_
  replace hT := (C.1).kd hT
  refine g_this dX4_init_8 rfl ?_
  refine g_iload_n 1 dX4_init_9 rfl rfl ?_
  replace h := bd_of h; obtain ⟨m2, em2, h⟩ := h
  refine g_pI hΓ.k fl_X4_7_X4 (fun _ => ⟨rfl, fun C T N e9 => by cases e9; rfl⟩) rfl (Or.inl ⟨rfl, rfl⟩) em2 dX4_init_10 ?_
  replace hT := (pI_ext em2).kd hT
  refine g_this dX4_init_13 rfl ?_
  refine g_iload_n 2 dX4_init_14 rfl rfl ?_
  replace h := bd_of h; obtain ⟨m3, em3, h⟩ := h
  refine g_pI hΓ.k fl_X4_13_X4 (fun _ => ⟨rfl, fun C T N e9 => by cases e9; rfl⟩) rfl (Or.inl ⟨rfl, rfl⟩) em3 dX4_init_15 ?_
  replace hT := (pI_ext em3).kd hT
  cases h
  exact g_vret rfl dX4_init_18
theorem ct_X4_init {Γ : GG} (hΓ : GF Γ) {m mF : MM} {x : Nat} {l1 : Int32} {l2 : Int32} (hT : (m.K x).1 = 5) {r : Unit} (h : f_X4_init x l1 l2 m = some (r, mF)) : Ct Γ kX4_init cX4_init [.ref x, .int l1, .int l2] m (.inl none) mF := by
  unfold f_X4_init at h
  exact Ct.of (κ := kX4_init) (by decide) rfl (Nat.le_of_ble_eq_true rfl) rfl (w_X4_init_0 hΓ hT h)
set_option maxHeartbeats 4000000 in
theorem w_X3_part_39 {Γ : GG} (hΓ : GF Γ) {m0 mF m : MM} {x : Nat} {l1 : Option Nat} {l2 : Int32} {l3 : Int32} {l4 : Int32} (hT : (m.K x).1 = 4) {r : Int32 ⊕ Nat} (h : b_X3_part_39 x l1 l2 l3 l4 m = some (r, mF)) : G Γ kX3_part cX3_part m0 mF (oci r) m 39 [some (.ref x), some (va_rf l1), some (.int l2), some (.int l3), some (.int l4)] [] := by
  unfold b_X3_part_39 at h
  refine g_iload_n 3 dX3_part_39 rfl rfl ?_
  replace h := ite_of h; rcases h with ⟨hc, h⟩ | ⟨hc, h⟩
  · refine g_ifltT dX3_part_40 rfl hc ?_
    refine g_bi (8) dX3_part_47 rfl ?_
    refine g_iload dX3_part_49 rfl ?_
    refine g_iadd dX3_part_51 ?_
    cases h
    exact g_iret rfl dX3_part_52
  · refine g_ifltF dX3_part_40 rfl hc ?_
    refine g_iload_n 3 dX3_part_43 rfl rfl ?_
    refine g_goto dX3_part_44 rfl ?_
    cases h
    exact g_iret rfl dX3_part_52
set_option maxHeartbeats 4000000 in
theorem w_X3_part_0 {Γ : GG} (hΓ : GF Γ) {m0 mF m : MM} {x : Nat} {l1 : Option Nat} {l2 : Int32} (hT : (m.K x).1 = 4) {r : Int32 ⊕ Nat} (h : b_X3_part_0 x l1 l2 m = some (r, mF)) : G Γ kX3_part cX3_part m0 mF (oci r) m 0 [some (.ref x), some (va_rf l1), some (.int l2), none, none] [] := by
  unfold b_X3_part_0 at h
  refine g_this dX3_part_0 rfl ?_
  refine g_getR hΓ.k fl_X3_24_X3 rfl hT dX3_part_1 ?_
  refine g_aload_n 1 dX3_part_4 rfl rfl ?_
  replace h := bd_of h; obtain ⟨a1, ea1, h⟩ := h
  obtain ⟨ea1, ka1⟩ := isK_of ea1
  replace h := bd2_of h; obtain ⟨v2, m3, em3, h⟩ := h
  have C := ct_X1_word hΓ ka1 em3
  refine g_callVi hΓ.k vl_X3_109 ka1 C rfl (by rw [ea1]; rfl) (Nat.le_of_ble_eq_true rfl) (Nat.le_of_ble_eq_true rfl) (Nat.le_of_ble_eq_true rfl) dX3_part_5 ?_
  replace hT := (C.1).kd hT
  refine g_istore_n 3 dX3_part_8 rfl (Nat.le_of_ble_eq_true rfl) rfl ?_
  dsimp only [List.set]
  refine g_this dX3_part_9 rfl ?_
  refine g_getR hΓ.k fl_X3_24_X3 rfl hT dX3_part_10 ?_
  refine g_aload_n 1 dX3_part_13 rfl rfl ?_
  replace h := bd_of h; obtain ⟨a4, ea4, h⟩ := h
  obtain ⟨ea4, ka4⟩ := isK_of ea4
  replace h := bd2_of h; obtain ⟨v5, m6, em6, h⟩ := h
  have C := ct_X1_rule hΓ ka4 em6
  refine g_callVi hΓ.k vl_X3_112 ka4 C rfl (by rw [ea4]; rfl) (Nat.le_of_ble_eq_true rfl) (Nat.le_of_ble_eq_true rfl) (Nat.le_of_ble_eq_true rfl) dX3_part_14 ?_
  replace hT := (C.1).kd hT
  refine g_istore dX3_part_17 (Nat.le_of_ble_eq_true rfl) rfl ?_
  dsimp only [List.set]
  refine g_iload_n 3 dX3_part_19 rfl rfl ?_
  replace h := ite_of h; rcases h with ⟨hc, h⟩ | ⟨hc, h⟩
  · refine g_ifgeT dX3_part_20 rfl hc ?_
    refine G.weak [true, true, true, true, true] rfl ?_
    exact w_X3_part_39 hΓ hT h
  · refine g_ifgeF dX3_part_20 rfl hc ?_
    refine g_iload dX3_part_23 rfl ?_
    replace h := ite_of h; rcases h with ⟨hc, h⟩ | ⟨hc, h⟩
    · refine g_ifgeT dX3_part_25 rfl hc ?_
      refine G.weak [true, true, true, true, true] rfl ?_
      exact w_X3_part_39 hΓ hT h
    · refine g_ifgeF dX3_part_25 rfl hc ?_
      replace h := bd_of h; obtain ⟨m7, em7, h⟩ := h
      refine g_nO hΓ.k nl_X3_72 ty_X4 em7 dX3_part_28 ?_
      replace hT := (nO_ext em7).kd hT
      refine g_dup dX3_part_31 (va_rf_cat _) ?_
      refine g_bi (6) dX3_part_32 rfl ?_
      refine g_iload_n 2 dX3_part_34 rfl rfl ?_
      replace h := bd_of h; obtain ⟨a8, ea8, h⟩ := h
      obtain ⟨ea8, ka8⟩ := isK_of ea8
      cases ea8
      replace h := bd2_of h; obtain ⟨_, m9, em9, h⟩ := h
      have C := ct_X4_init hΓ ka8 em9
      refine g_callI il_X3_74 C rfl rfl (Nat.le_of_ble_eq_true rfl) (Nat.le_of_ble_eq_true rfl) (Nat.le_of_ble_eq_true rfl) dX3_part_35 ?_
      replace hT := (C.1).kd hT
      replace h := bd_of h; obtain ⟨q10, eq10, h⟩ := h
      cases h
      exact g_athrowR eq10 rfl dX3_part_38
theorem ct_X3_part {Γ : GG} (hΓ : GF Γ) {m mF : MM} {x : Nat} {l1 : Option Nat} {l2 : Int32} (hT : (m.K x).1 = 4) {r : Int32 ⊕ Nat} (h : f_X3_part x l1 l2 m = some (r, mF)) : Ct Γ kX3_part cX3_part [.ref x, va_rf l1, .int l2] m (oci r) mF := by
  unfold f_X3_part at h
  exact Ct.of (κ := kX3_part) (by decide) rfl (by cases l1 <;> exact Nat.le_of_ble_eq_true rfl) rfl (by have w9 := w_X3_part_0 (m0 := m) hΓ hT h; cases l1 <;> exact w9)
def p_X3_bind (Γ : GG) (m0 mF : MM) (x : Nat) (l1 : Int32) (r : Unit ⊕ Nat) : ((Option Nat × Int32 × MM) ⊕ (Option Nat × Int32 × Option Nat × Int32 × MM)) → Prop := fun z => match z with
  | (.inl (l2, l3, m)) => (m.K x).1 = 4 → G Γ kX3_bind cX3_bind m0 mF (ocv r) m 17 [some (.ref x), some (.int l1), some (va_rf l2), some (.int l3), none, none] []
  | (.inr (l2, l3, l4, l5, m)) => (m.K x).1 = 4 → G Γ kX3_bind cX3_bind m0 mF (ocv r) m 59 [some (.ref x), some (.int l1), some (va_rf l2), some (.int l3), some (va_rf l4), some (.int l5)] []
set_option maxHeartbeats 4000000 in
theorem w_X3_bind_59 {Γ : GG} (hΓ : GF Γ) {m0 mF m : MM} {x : Nat} {l1 : Int32} {l2 : Option Nat} {l3 : Int32} {l4 : Option Nat} {l5 : Int32} (hT : (m.K x).1 = 4) {r : Unit ⊕ Nat} {q : ((Option Nat × Int32 × MM) ⊕ (Option Nat × Int32 × Option Nat × Int32 × MM)) ⊕ ((Unit ⊕ Nat) × MM)} (h : b_X3_bind_59 x l1 l2 l3 l4 l5 m = some q) (Hl : ∀ z, q = .inl z → p_X3_bind Γ m0 mF x l1 r z) (Hr : ∀ z, q = .inr z → z = (r, mF)) : G Γ kX3_bind cX3_bind m0 mF (ocv r) m 59 [some (.ref x), some (.int l1), some (va_rf l2), some (.int l3), some (va_rf l4), some (.int l5)] [] := by
  unfold b_X3_bind_59 at h
  refine g_iload dX3_bind_59 rfl ?_
  refine g_aload dX3_bind_61 rfl ?_
  replace h := bd_of h; obtain ⟨v1, ev1, h⟩ := h
  refine g_fR hΓ.k fl_X3_207_X6 rfl ev1 dX3_bind_63 ?_
  replace h := bd_of h; obtain ⟨v2, ev2, h⟩ := h
  refine g_alen (Nat.le_of_ble_eq_true rfl) ev2 dX3_bind_66 ?_
  replace h := ite_of h; rcases h with ⟨hc, h⟩ | ⟨hc, h⟩
  · refine g_icgeT dX3_bind_67 rfl hc ?_
    refine g_aload dX3_bind_109 rfl ?_
    replace h := bd_of h; obtain ⟨v3, ev3, h⟩ := h
    refine g_fR hΓ.k fl_X3_207_X6 rfl ev3 dX3_bind_111 ?_
    replace h := bd_of h; obtain ⟨v4, ev4, h⟩ := h
    refine g_alen (Nat.le_of_ble_eq_true rfl) ev4 dX3_bind_114 ?_
    refine g_ic 1 dX3_bind_115 rfl ?_
    replace h := ite_of h; rcases h with ⟨hc, h⟩ | ⟨hc, h⟩
    · refine g_icneF dX3_bind_116 rfl hc ?_
      refine g_aload dX3_bind_119 rfl ?_
      replace h := bd_of h; obtain ⟨v5, ev5, h⟩ := h
      refine g_fR hΓ.k fl_X3_207_X6 rfl ev5 dX3_bind_121 ?_
      refine g_ic 0 dX3_bind_124 rfl ?_
      replace h := bd_of h; obtain ⟨v6, ev6, h⟩ := h
      refine g_iald ev6 dX3_bind_125 ?_
      refine g_bi (8) dX3_bind_126 rfl ?_
      replace h := ite_of h; rcases h with ⟨hc, h⟩ | ⟨hc, h⟩
      · refine g_icltT dX3_bind_128 rfl hc ?_
        refine g_iinc (l3 + (1 : Int32)) dX3_bind_162 rfl rfl (Nat.le_of_ble_eq_true rfl) (lvC_rf rfl) ?_
        dsimp only [List.set]
        refine g_goto dX3_bind_165 rfl ?_
        cases h
        refine G.weak [true, true, true, true, false, false] rfl ?_
        exact Hl _ rfl hT
      · refine g_icltF dX3_bind_128 rfl hc ?_
        refine g_aload dX3_bind_131 rfl ?_
        replace h := bd_of h; obtain ⟨v7, ev7, h⟩ := h
        refine g_fR hΓ.k fl_X3_207_X6 rfl ev7 dX3_bind_133 ?_
        refine g_ic 0 dX3_bind_136 rfl ?_
        replace h := bd_of h; obtain ⟨v8, ev8, h⟩ := h
        refine g_iald ev8 dX3_bind_137 ?_
        refine g_bi (8) dX3_bind_138 rfl ?_
        refine g_isub dX3_bind_140 ?_
        refine g_iload_n 1 dX3_bind_141 rfl rfl ?_
        replace h := ite_of h; rcases h with ⟨hc, h⟩ | ⟨hc, h⟩
        · refine g_icgtT dX3_bind_142 rfl hc ?_
          refine g_iinc (l3 + (1 : Int32)) dX3_bind_162 rfl rfl (Nat.le_of_ble_eq_true rfl) (lvC_rf rfl) ?_
          dsimp only [List.set]
          refine g_goto dX3_bind_165 rfl ?_
          cases h
          refine G.weak [true, true, true, true, false, false] rfl ?_
          exact Hl _ rfl hT
        · refine g_icgtF dX3_bind_142 rfl hc ?_
          replace h := bd_of h; obtain ⟨m9, em9, h⟩ := h
          refine g_nO hΓ.k nl_X3_72 ty_X4 em9 dX3_bind_145 ?_
          replace hT := (nO_ext em9).kd hT
          refine g_dup dX3_bind_148 (va_rf_cat _) ?_
          refine g_bi (7) dX3_bind_149 rfl ?_
          refine g_aload dX3_bind_151 rfl ?_
          replace h := bd_of h; obtain ⟨v10, ev10, h⟩ := h
          refine g_fR hΓ.k fl_X3_198_X6 rfl ev10 dX3_bind_153 ?_
          refine g_ic 0 dX3_bind_156 rfl ?_
          replace h := bd_of h; obtain ⟨v11, ev11, h⟩ := h
          refine g_iald ev11 dX3_bind_157 ?_
          replace h := bd_of h; obtain ⟨a12, ea12, h⟩ := h
          obtain ⟨ea12, ka12⟩ := isK_of ea12
          cases ea12
          replace h := bd2_of h; obtain ⟨_, m13, em13, h⟩ := h
          have C := ct_X4_init hΓ ka12 em13
          refine g_callI il_X3_74 C rfl rfl (Nat.le_of_ble_eq_true rfl) (Nat.le_of_ble_eq_true rfl) (Nat.le_of_ble_eq_true rfl) dX3_bind_158 ?_
          replace hT := (C.1).kd hT
          replace h := bd_of h; obtain ⟨q14, eq14, h⟩ := h
          cases h
          cases Hr _ rfl
          exact g_athrowR eq14 rfl dX3_bind_161
    · refine g_icneT dX3_bind_116 rfl hc ?_
      refine g_iinc (l3 + (1 : Int32)) dX3_bind_162 rfl rfl (Nat.le_of_ble_eq_true rfl) (lvC_rf rfl) ?_
      dsimp only [List.set]
      refine g_goto dX3_bind_165 rfl ?_
      cases h
      refine G.weak [true, true, true, true, false, false] rfl ?_
      exact Hl _ rfl hT
  · refine g_icgeF dX3_bind_67 rfl hc ?_
    refine g_aload dX3_bind_70 rfl ?_
    replace h := bd_of h; obtain ⟨v15, ev15, h⟩ := h
    refine g_fR hΓ.k fl_X3_207_X6 rfl ev15 dX3_bind_72 ?_
    refine g_iload dX3_bind_75 rfl ?_
    refine g_this dX3_bind_77 rfl ?_
    refine g_aload dX3_bind_78 rfl ?_
    replace h := bd_of h; obtain ⟨v16, ev16, h⟩ := h
    refine g_fR hΓ.k fl_X3_195_X6 rfl ev16 dX3_bind_80 ?_
    refine g_iload dX3_bind_83 rfl ?_
    replace h := bd_of h; obtain ⟨a17, ea17, h⟩ := h
    obtain ⟨ea17, ka17⟩ := isK_of ea17
    cases ea17
    replace h := bd2_of h; obtain ⟨v18, m19, em19, h⟩ := h
    have C := ct_J2_get hΓ ka17 em19
    refine g_callVr hΓ.k vl_X3_203 ka17 C rfl rfl (Nat.le_of_ble_eq_true rfl) (Nat.le_of_ble_eq_true rfl) (Nat.le_of_ble_eq_true rfl) dX3_bind_85 ?_
    replace hT := (C.1).kd hT
    replace h := ite_of h; rcases h with ⟨hc, h⟩ | ⟨hc, h⟩
    · refine g_cast hΓ q903 ⟨rfl, by decide, _, _, rfl⟩ hc dX3_bind_88 ?_
      refine g_aload dX3_bind_91 rfl ?_
      replace h := bd_of h; obtain ⟨v20, ev20, h⟩ := h
      refine g_fR hΓ.k fl_X3_198_X6 rfl ev20 dX3_bind_93 ?_
      refine g_iload dX3_bind_96 rfl ?_
      replace h := bd_of h; obtain ⟨v21, ev21, h⟩ := h
      refine g_iald ev21 dX3_bind_98 ?_
      replace h := bdxl_of h; rcases h with ⟨v22, m23, em23, h⟩ | ⟨q9, m23, em23, h⟩
      · have C := ct_X3_part hΓ hT em23
        refine g_callVi hΓ.k vl_X3_210 hT C rfl rfl (Nat.le_of_ble_eq_true rfl) (Nat.le_of_ble_eq_true rfl) (Nat.le_of_ble_eq_true rfl) dX3_bind_99 ?_
        replace hT := C.1.kd hT
        replace h := bd_of h; obtain ⟨m24, em24, h⟩ := h
        refine g_iast em24 dX3_bind_102 ?_
        replace hT := (sI_ext em24).kd hT
        refine g_iinc (l5 + (1 : Int32)) dX3_bind_103 rfl rfl (Nat.le_of_ble_eq_true rfl) (lvC_rf rfl) ?_
        dsimp only [List.set]
        refine g_goto dX3_bind_106 rfl ?_
        cases h
        refine G.weak [true, true, true, true, true, true] rfl ?_
        exact Hl _ rfl hT
      · have C := ct_X3_part hΓ hT em23
        cases h
        cases Hr _ rfl
        exact g_outV hΓ.k rfl vl_X3_210 hT C rfl rfl (Nat.le_of_ble_eq_true rfl) (Nat.le_of_ble_eq_true rfl) (Nat.le_of_ble_eq_true rfl) dX3_bind_99
    · cases h
set_option maxHeartbeats 4000000 in
theorem w_X3_bind_17 {Γ : GG} (hΓ : GF Γ) {m0 mF m : MM} {x : Nat} {l1 : Int32} {l2 : Option Nat} {l3 : Int32} (hT : (m.K x).1 = 4) {r : Unit ⊕ Nat} {q : ((Option Nat × Int32 × MM) ⊕ (Option Nat × Int32 × Option Nat × Int32 × MM)) ⊕ ((Unit ⊕ Nat) × MM)} (h : b_X3_bind_17 x l1 l2 l3 m = some q) (Hl : ∀ z, q = .inl z → p_X3_bind Γ m0 mF x l1 r z) (Hr : ∀ z, q = .inr z → z = (r, mF)) : G Γ kX3_bind cX3_bind m0 mF (ocv r) m 17 [some (.ref x), some (.int l1), some (va_rf l2), some (.int l3), none, none] [] := by
  unfold b_X3_bind_17 at h
  refine g_iload_n 3 dX3_bind_17 rfl rfl ?_
  refine g_aload_n 2 dX3_bind_18 rfl rfl ?_
  replace h := bd_of h; obtain ⟨v1, ev1, h⟩ := h
  refine g_fR hΓ.k fl_X3_183_X5 rfl ev1 dX3_bind_19 ?_
  replace h := bd_of h; obtain ⟨a2, ea2, h⟩ := h
  obtain ⟨ea2, ka2⟩ := isK_of ea2
  cases ea2
  replace h := bd2_of h; obtain ⟨v3, m4, em4, h⟩ := h
  have C := ct_J2_size hΓ ka2 em4
  refine g_callVi hΓ.k vl_X3_122 ka2 C rfl rfl (Nat.le_of_ble_eq_true rfl) (Nat.le_of_ble_eq_true rfl) (Nat.le_of_ble_eq_true rfl) dX3_bind_22 ?_
  replace hT := (C.1).kd hT
  replace h := ite_of h; rcases h with ⟨hc, h⟩ | ⟨hc, h⟩
  · refine g_icgeT dX3_bind_25 rfl hc ?_
    cases h
    cases Hr _ rfl
    exact g_vret rfl dX3_bind_168
  · refine g_icgeF dX3_bind_25 rfl hc ?_
    refine g_aload_n 2 dX3_bind_28 rfl rfl ?_
    replace h := bd_of h; obtain ⟨v5, ev5, h⟩ := h
    refine g_fR hΓ.k fl_X3_183_X5 rfl ev5 dX3_bind_29 ?_
    refine g_iload_n 3 dX3_bind_32 rfl rfl ?_
    replace h := bd_of h; obtain ⟨a6, ea6, h⟩ := h
    obtain ⟨ea6, ka6⟩ := isK_of ea6
    cases ea6
    replace h := bd2_of h; obtain ⟨v7, m8, em8, h⟩ := h
    have C := ct_J2_get hΓ ka6 em8
    refine g_callVr hΓ.k vl_X3_203 ka6 C rfl rfl (Nat.le_of_ble_eq_true rfl) (Nat.le_of_ble_eq_true rfl) (Nat.le_of_ble_eq_true rfl) dX3_bind_33 ?_
    replace hT := (C.1).kd hT
    replace h := ite_of h; rcases h with ⟨hc, h⟩ | ⟨hc, h⟩
    · refine g_cast hΓ q868 ⟨rfl, by decide, _, _, rfl⟩ hc dX3_bind_36 ?_
      refine g_astore dX3_bind_39 (Nat.le_of_ble_eq_true rfl) rfl ?_
      dsimp only [List.set]
      refine g_aload dX3_bind_41 rfl ?_
      refine g_aload dX3_bind_43 rfl ?_
      replace h := bd_of h; obtain ⟨v9, ev9, h⟩ := h
      refine g_fR hΓ.k fl_X3_195_X6 rfl ev9 dX3_bind_45 ?_
      replace h := bd_of h; obtain ⟨a10, ea10, h⟩ := h
      obtain ⟨ea10, ka10⟩ := isK_of ea10
      cases ea10
      replace h := bd2_of h; obtain ⟨v11, m12, em12, h⟩ := h
      have C := ct_J2_size hΓ ka10 em12
      refine g_callVi hΓ.k vl_X3_122 ka10 C rfl rfl (Nat.le_of_ble_eq_true rfl) (Nat.le_of_ble_eq_true rfl) (Nat.le_of_ble_eq_true rfl) dX3_bind_48 ?_
      replace hT := (C.1).kd hT
      replace h := bd_of h; obtain ⟨m13, em13, h⟩ := h
      refine g_newa hΓ.a (Or.inl ⟨rfl, rfl⟩) q181 em13 dX3_bind_51 ?_
      replace hT := (nA_ext em13).kd hT
      replace h := bd_of h; obtain ⟨m14, em14, h⟩ := h
      refine g_pR hΓ.k fl_X3_207_X6 (fun h9 => by cases h9) (Or.inr ⟨_, rfl⟩) em14 dX3_bind_53 ?_
      replace hT := (pR_ext em14).kd hT
      refine g_ic 0 dX3_bind_56 rfl ?_
      refine g_istore dX3_bind_57 (Nat.le_of_ble_eq_true rfl) (lvC_rf rfl) ?_
      dsimp only [List.set]
      cases h
      refine G.weak [true, true, true, true, true, true] rfl ?_
      exact Hl _ rfl hT
    · cases h
set_option maxHeartbeats 4000000 in
theorem w_X3_bind_0 {Γ : GG} (hΓ : GF Γ) {m0 mF m : MM} {x : Nat} {l1 : Int32} (hT : (m.K x).1 = 4) {r : Unit ⊕ Nat} {q : ((Option Nat × Int32 × MM) ⊕ (Option Nat × Int32 × Option Nat × Int32 × MM)) ⊕ ((Unit ⊕ Nat) × MM)} (h : b_X3_bind_0 x l1 m = some q) (Hl : ∀ z, q = .inl z → p_X3_bind Γ m0 mF x l1 r z) (Hr : ∀ z, q = .inr z → z = (r, mF)) : G Γ kX3_bind cX3_bind m0 mF (ocv r) m 0 [some (.ref x), some (.int l1), none, none, none, none] [] := by
  unfold b_X3_bind_0 at h
  refine g_this dX3_bind_0 rfl ?_
  refine g_getR hΓ.k fl_X3_24_X3 rfl hT dX3_bind_1 ?_
  replace h := bd_of h; obtain ⟨v1, ev1, h⟩ := h
  refine g_fR hΓ.k fl_X3_134_X1 rfl ev1 dX3_bind_4 ?_
  refine g_iload_n 1 dX3_bind_7 rfl rfl ?_
  replace h := bd_of h; obtain ⟨a2, ea2, h⟩ := h
  obtain ⟨ea2, ka2⟩ := isK_of ea2
  cases ea2
  replace h := bd2_of h; obtain ⟨v3, m4, em4, h⟩ := h
  have C := ct_J2_get hΓ ka2 em4
  refine g_callVr hΓ.k vl_X3_203 ka2 C rfl rfl (Nat.le_of_ble_eq_true rfl) (Nat.le_of_ble_eq_true rfl) (Nat.le_of_ble_eq_true rfl) dX3_bind_8 ?_
  replace hT := (C.1).kd hT
  replace h := ite_of h; rcases h with ⟨hc, h⟩ | ⟨hc, h⟩
  · refine g_cast hΓ q846 ⟨rfl, by decide, _, _, rfl⟩ hc dX3_bind_11 ?_
    refine g_astore_n 2 dX3_bind_14 rfl (Nat.le_of_ble_eq_true rfl) rfl ?_
    dsimp only [List.set]
    refine g_ic 0 dX3_bind_15 rfl ?_
    refine g_istore_n 3 dX3_bind_16 rfl (Nat.le_of_ble_eq_true rfl) (lvC_rf rfl) ?_
    dsimp only [List.set]
    cases h
    refine G.weak [true, true, true, true, false, false] rfl ?_
    exact Hl _ rfl hT
  · cases h
theorem ct_X3_bind {Γ : GG} (hΓ : GF Γ) {m mF : MM} {x : Nat} {l1 : Int32} (hT : (m.K x).1 = 4) {r : Unit ⊕ Nat} (h : f_X3_bind x l1 m = some (r, mF)) : Ct Γ kX3_bind cX3_bind [.ref x, .int l1] m (ocv r) mF := by
  unfold f_X3_bind at h
  replace h := bd_of h; obtain ⟨q, e, h⟩ := h
  have H := rx_go_ind (P := p_X3_bind Γ m mF x l1 r) (fun z o hs Hl Hr => by
    match z with
    | (.inl (l2, l3, m)) => exact fun hT => w_X3_bind_17 hΓ hT hs Hl Hr
    | (.inr (l2, l3, l4, l5, m)) => exact fun hT => w_X3_bind_59 hΓ hT hs Hl Hr) h
  exact Ct.of (κ := kX3_bind) (by decide) rfl (Nat.le_of_ble_eq_true rfl) rfl (w_X3_bind_0 hΓ hT e H.1 H.2)
set_option maxHeartbeats 4000000 in
theorem w_J10_canEncode_0 {Γ : GG} (hΓ : GF Γ) {m0 mF m : MM} {l0 : Int32} {r : Int32} (h : b_J10_canEncode_0 l0 m = some (r, mF)) : G Γ kJ10_canEncode cJ10_canEncode m0 mF (.inl (some (.int r))) m 0 [some (.int l0)] [] := by
  unfold b_J10_canEncode_0 at h
  refine g_iload_n 0 dJ10_canEncode_0 rfl rfl ?_
  refine g_si (255) dJ10_canEncode_1 rfl ?_
  replace h := ite_of h; rcases h with ⟨hc, h⟩ | ⟨hc, h⟩
  · refine g_icgtT dJ10_canEncode_4 rfl hc ?_
    refine g_ic 0 dJ10_canEncode_11 rfl ?_
    cases h
    exact g_zret rfl (by decide) dJ10_canEncode_12
  · refine g_icgtF dJ10_canEncode_4 rfl hc ?_
    refine g_ic 1 dJ10_canEncode_7 rfl ?_
    refine g_goto dJ10_canEncode_8 rfl ?_
    cases h
    exact g_zret rfl (by decide) dJ10_canEncode_12
theorem ct_J10_canEncode {Γ : GG} (hΓ : GF Γ) {m mF : MM} {l0 : Int32} {r : Int32} (h : f_J10_canEncode l0 m = some (r, mF)) : Ct Γ kJ10_canEncode cJ10_canEncode [.int l0] m (.inl (some (.int r))) mF := by
  unfold f_J10_canEncode at h
  exact Ct.of (κ := kJ10_canEncode) (by decide) rfl (Nat.le_of_ble_eq_true rfl) rfl (w_J10_canEncode_0 hΓ h)
set_option maxHeartbeats 4000000 in
theorem w_J3_ensureCapacityInternal_0 {Γ : GG} (hΓ : GF Γ) {m0 mF m : MM} {x : Nat} {l1 : Int32} (hT : (m.K x).1 = 10) {r : Unit} (h : b_J3_ensureCapacityInternal_0 x l1 m = some (r, mF)) : G Γ kJ3_ensureCapacityInternal cJ3_ensureCapacityInternal m0 mF (.inl none) m 0 [some (.ref x), some (.int l1), none] [] := by
  unfold b_J3_ensureCapacityInternal_0 at h
  refine g_this dJ3_ensureCapacityInternal_0 rfl ?_
  refine g_getR hΓ.k fl_J3_15_J4 rfl hT dJ3_ensureCapacityInternal_1 ?_
  replace h := bd_of h; obtain ⟨v1, ev1, h⟩ := h
  refine g_alen (Nat.le_of_ble_eq_true rfl) ev1 dJ3_ensureCapacityInternal_4 ?_
  refine g_this dJ3_ensureCapacityInternal_5 rfl ?_
  refine g_getI hΓ.k fl_J3_22_J4 rfl hT dJ3_ensureCapacityInternal_6 ?_
  refine g_ishr dJ3_ensureCapacityInternal_9 ?_
  refine g_istore_n 2 dJ3_ensureCapacityInternal_10 rfl (Nat.le_of_ble_eq_true rfl) rfl ?_
  dsimp only [List.set]
  refine g_iload_n 1 dJ3_ensureCapacityInternal_11 rfl rfl ?_
  refine g_iload_n 2 dJ3_ensureCapacityInternal_12 rfl rfl ?_
  refine g_isub dJ3_ensureCapacityInternal_13 ?_
  replace h := ite_of h; rcases h with ⟨hc, h⟩ | ⟨hc, h⟩
  · refine g_ifleT dJ3_ensureCapacityInternal_14 rfl hc ?_
    cases h
    exact g_vret rfl dJ3_ensureCapacityInternal_38
  · refine g_ifleF dJ3_ensureCapacityInternal_14 rfl hc ?_
    cases h
theorem ct_J3_ensureCapacityInternal {Γ : GG} (hΓ : GF Γ) {m mF : MM} {x : Nat} {l1 : Int32} (hT : (m.K x).1 = 10) {r : Unit} (h : f_J3_ensureCapacityInternal x l1 m = some (r, mF)) : Ct Γ kJ3_ensureCapacityInternal cJ3_ensureCapacityInternal [.ref x, .int l1] m (.inl none) mF := by
  unfold f_J3_ensureCapacityInternal at h
  exact Ct.of (κ := kJ3_ensureCapacityInternal) (by decide) rfl (Nat.le_of_ble_eq_true rfl) rfl (w_J3_ensureCapacityInternal_0 hΓ hT h)
set_option maxHeartbeats 4000000 in
theorem w_J3_isLatin1_0 {Γ : GG} (hΓ : GF Γ) {m0 mF m : MM} {x : Nat} (hT : (m.K x).1 = 10) {r : Int32} (h : b_J3_isLatin1_0 x m = some (r, mF)) : G Γ kJ3_isLatin1 cJ3_isLatin1 m0 mF (.inl (some (.int r))) m 0 [some (.ref x)] [] := by
  unfold b_J3_isLatin1_0 at h
  refine g_getsI hΓ.cs q416 dJ3_isLatin1_0 ?_
  replace h := ite_of h; rcases h with ⟨hc, h⟩ | ⟨hc, h⟩
  · refine g_ifeqT dJ3_isLatin1_3 rfl hc ?_
    refine g_ic 0 dJ3_isLatin1_17 rfl ?_
    cases h
    exact g_zret rfl (by decide) dJ3_isLatin1_18
  · refine g_ifeqF dJ3_isLatin1_3 rfl hc ?_
    refine g_this dJ3_isLatin1_6 rfl ?_
    refine g_getI hΓ.k fl_J3_22_J4 rfl hT dJ3_isLatin1_7 ?_
    replace h := ite_of h; rcases h with ⟨hc, h⟩ | ⟨hc, h⟩
    · refine g_ifneF dJ3_isLatin1_10 rfl hc ?_
      refine g_ic 1 dJ3_isLatin1_13 rfl ?_
      refine g_goto dJ3_isLatin1_14 rfl ?_
      cases h
      exact g_zret rfl (by decide) dJ3_isLatin1_18
    · refine g_ifneT dJ3_isLatin1_10 rfl hc ?_
      refine g_ic 0 dJ3_isLatin1_17 rfl ?_
      cases h
      exact g_zret rfl (by decide) dJ3_isLatin1_18
theorem ct_J3_isLatin1 {Γ : GG} (hΓ : GF Γ) {m mF : MM} {x : Nat} (hT : (m.K x).1 = 10) {r : Int32} (h : f_J3_isLatin1 x m = some (r, mF)) : Ct Γ kJ3_isLatin1 cJ3_isLatin1 [.ref x] m (.inl (some (.int r))) mF := by
  unfold f_J3_isLatin1 at h
  exact Ct.of (κ := kJ3_isLatin1) (by decide) rfl (Nat.le_of_ble_eq_true rfl) rfl (w_J3_isLatin1_0 hΓ hT h)
set_option maxHeartbeats 4000000 in
theorem w_J3_append_0 {Γ : GG} (hΓ : GF Γ) {m0 mF m : MM} {x : Nat} {l1 : Int32} (hT : (m.K x).1 = 10) {r : Option Nat} (h : b_J3_append_0 x l1 m = some (r, mF)) : G Γ kJ3_append cJ3_append m0 mF (.inl (some (va_rf r))) m 0 [some (.ref x), some (.int l1)] [] := by
  unfold b_J3_append_0 at h
  refine g_this dJ3_append_0 rfl ?_
  refine g_this dJ3_append_1 rfl ?_
  refine g_getI hΓ.k fl_J3_79_J4 rfl hT dJ3_append_2 ?_
  refine g_ic 1 dJ3_append_5 rfl ?_
  refine g_iadd dJ3_append_6 ?_
  replace h := bd2_of h; obtain ⟨_, m1, em1, h⟩ := h
  have C := ct_J3_ensureCapacityInternal hΓ hT em1
  refine g_callVPv hΓ vl_J3_100 hT C rfl rfl (Nat.le_of_ble_eq_true rfl) (Nat.le_of_ble_eq_true rfl) (Nat.le_of_ble_eq_true rfl) dJ3_append_7 ?_
  replace hT := (C.1).kd hT
  refine g_this dJ3_append_10 rfl ?_
  replace h := bd2_of h; obtain ⟨v2, m3, em3, h⟩ := h
  have C := ct_J3_isLatin1 hΓ hT em3
  refine g_callVUi hΓ.k vl_J3_83 hT C rfl rfl (Nat.le_of_ble_eq_true rfl) (Nat.le_of_ble_eq_true rfl) (Nat.le_of_ble_eq_true rfl) dJ3_append_11 ?_
  replace hT := (C.1).kd hT
  replace h := ite_of h; rcases h with ⟨hc, h⟩ | ⟨hc, h⟩
  · refine g_ifeqT dJ3_append_14 rfl hc ?_
    cases h
  · refine g_ifeqF dJ3_append_14 rfl hc ?_
    refine g_iload_n 1 dJ3_append_17 rfl rfl ?_
    replace h := bd2_of h; obtain ⟨v4, m5, em5, h⟩ := h
    have C := ct_J10_canEncode hΓ em5
    refine g_callSi sl_J3_191 C rfl rfl (Nat.le_of_ble_eq_true rfl) (Nat.le_of_ble_eq_true rfl) (Nat.le_of_ble_eq_true rfl) dJ3_append_18 ?_
    replace hT := (C.1).kd hT
    replace h := ite_of h; rcases h with ⟨hc, h⟩ | ⟨hc, h⟩
    · refine g_ifeqT dJ3_append_21 rfl hc ?_
      cases h
    · refine g_ifeqF dJ3_append_21 rfl hc ?_
      refine g_this dJ3_append_24 rfl ?_
      refine g_getR hΓ.k fl_J3_15_J4 rfl hT dJ3_append_25 ?_
      refine g_this dJ3_append_28 rfl ?_
      refine g_dup dJ3_append_29 rfl ?_
      refine g_getI hΓ.k fl_J3_79_J4 rfl hT dJ3_append_30 ?_
      refine g_dup_x1 dJ3_append_33 rfl rfl ?_
      refine g_ic 1 dJ3_append_34 rfl ?_
      refine g_iadd dJ3_append_35 ?_
      replace h := bd_of h; obtain ⟨m6, em6, h⟩ := h
      refine g_pI hΓ.k fl_J3_79_J4 (fun h9 => by cases h9) rfl (Or.inl ⟨rfl, rfl⟩) em6 dJ3_append_36 ?_
      replace hT := (pI_ext em6).kd hT
      refine g_iload_n 1 dJ3_append_39 rfl rfl ?_
      refine g_i2b dJ3_append_40 ?_
      replace h := bd_of h; obtain ⟨m7, em7, h⟩ := h
      refine g_bast em7 dJ3_append_41 ?_
      replace hT := (sI_ext em7).kd hT
      refine g_goto dJ3_append_42 rfl ?_
      refine g_this dJ3_append_75 rfl ?_
      cases h
      exact g_aret rfl (Or.inl ⟨_, rfl⟩) dJ3_append_76
theorem ct_J3_append {Γ : GG} (hΓ : GF Γ) {m mF : MM} {x : Nat} {l1 : Int32} (hT : (m.K x).1 = 10) {r : Option Nat} (h : f_J3_append x l1 m = some (r, mF)) : Ct Γ kJ3_append cJ3_append [.ref x, .int l1] m (.inl (some (va_rf r))) mF := by
  unfold f_J3_append at h
  exact Ct.of (κ := kJ3_append) (by decide) rfl (Nat.le_of_ble_eq_true rfl) rfl (w_J3_append_0 hΓ hT h)
set_option maxHeartbeats 4000000 in
theorem w_J4_append_0 {Γ : GG} (hΓ : GF Γ) {m0 mF m : MM} {x : Nat} {l1 : Int32} (hT : (m.K x).1 = 10) {r : Option Nat} (h : b_J4_append_0 x l1 m = some (r, mF)) : G Γ kJ4_append cJ4_append m0 mF (.inl (some (va_rf r))) m 0 [some (.ref x), some (.int l1)] [] := by
  unfold b_J4_append_0 at h
  refine g_this dJ4_append_0 rfl ?_
  refine g_iload_n 1 dJ4_append_1 rfl rfl ?_
  replace h := bd2_of h; obtain ⟨v1, m2, em2, h⟩ := h
  have C := ct_J3_append hΓ hT em2
  refine g_callUr hΓ.k ul_J4_50 hT C rfl rfl (Nat.le_of_ble_eq_true rfl) (Nat.le_of_ble_eq_true rfl) (Nat.le_of_ble_eq_true rfl) dJ4_append_2 ?_
  replace hT := (C.1).kd hT
  refine g_pop dJ4_append_5 (va_rf_cat _) ?_
  refine g_this dJ4_append_6 rfl ?_
  cases h
  exact g_aret rfl (Or.inl ⟨_, rfl⟩) dJ4_append_7
theorem ct_J4_append {Γ : GG} (hΓ : GF Γ) {m mF : MM} {x : Nat} {l1 : Int32} (hT : (m.K x).1 = 10) {r : Option Nat} (h : f_J4_append x l1 m = some (r, mF)) : Ct Γ kJ4_append cJ4_append [.ref x, .int l1] m (.inl (some (va_rf r))) mF := by
  unfold f_J4_append at h
  exact Ct.of (κ := kJ4_append) (by decide) rfl (Nat.le_of_ble_eq_true rfl) rfl (w_J4_append_0 hΓ hT h)
set_option maxHeartbeats 4000000 in
theorem w_J3_init_0 {Γ : GG} (hΓ : GF Γ) {m0 mF m : MM} {x : Nat} {l1 : Int32} (hT : (m.K x).1 = 10) {r : Unit} (h : b_J3_init_0 x l1 m = some (r, mF)) : G Γ kJ3_init cJ3_init m0 mF (.inl none) m 0 [some (.ref x), some (.int l1)] [] := by
  unfold b_J3_init_0 at h
  refine g_this dJ3_init_0 rfl ?_
  refine g_objInit q415 q145 q146 (Nat.le_of_ble_eq_true rfl) (Nat.le_of_ble_eq_true rfl) (Nat.le_of_ble_eq_true rfl) dJ3_init_1 ?_
  refine g_getsI hΓ.cs q416 dJ3_init_4 ?_
  replace h := ite_of h; rcases h with ⟨hc, h⟩ | ⟨hc, h⟩
  · refine g_ifeqT dJ3_init_7 rfl hc ?_
    cases h
  · refine g_ifeqF dJ3_init_7 rfl hc ?_
    refine g_this dJ3_init_10 rfl ?_
    refine g_iload_n 1 dJ3_init_11 rfl rfl ?_
    replace h := bd_of h; obtain ⟨m1, em1, h⟩ := h
    refine g_newa hΓ.a (Or.inr (Or.inl ⟨rfl, rfl⟩)) q183 em1 dJ3_init_12 ?_
    replace hT := (nA_ext em1).kd hT
    replace h := bd_of h; obtain ⟨m2, em2, h⟩ := h
    refine g_pR hΓ.k fl_J3_15_J4 (fun h9 => by cases h9) (Or.inr ⟨_, rfl⟩) em2 dJ3_init_14 ?_
    replace hT := (pR_ext em2).kd hT
    refine g_this dJ3_init_17 rfl ?_
    refine g_ic 0 dJ3_init_18 rfl ?_
    replace h := bd_of h; obtain ⟨m3, em3, h⟩ := h
    refine g_pI hΓ.k fl_J3_22_J4 (fun h9 => by cases h9) rfl (Or.inr (Or.inl ⟨rfl, rfl⟩)) em3 dJ3_init_19 ?_
    replace hT := (pI_ext em3).kd hT
    refine g_goto dJ3_init_22 rfl ?_
    cases h
    exact g_vret rfl dJ3_init_38
theorem ct_J3_init {Γ : GG} (hΓ : GF Γ) {m mF : MM} {x : Nat} {l1 : Int32} (hT : (m.K x).1 = 10) {r : Unit} (h : f_J3_init x l1 m = some (r, mF)) : Ct Γ kJ3_init cJ3_init [.ref x, .int l1] m (.inl none) mF := by
  unfold f_J3_init at h
  exact Ct.of (κ := kJ3_init) (by decide) rfl (Nat.le_of_ble_eq_true rfl) rfl (w_J3_init_0 hΓ hT h)
set_option maxHeartbeats 4000000 in
theorem w_J4_init_0 {Γ : GG} (hΓ : GF Γ) {m0 mF m : MM} {x : Nat} {l1 : Int32} (hT : (m.K x).1 = 10) {r : Unit} (h : b_J4_init_0 x l1 m = some (r, mF)) : G Γ kJ4_init cJ4_init m0 mF (.inl none) m 0 [some (.ref x), some (.int l1)] [] := by
  unfold b_J4_init_0 at h
  refine g_this dJ4_init_0 rfl ?_
  refine g_iload_n 1 dJ4_init_1 rfl rfl ?_
  replace h := bd2_of h; obtain ⟨_, m1, em1, h⟩ := h
  have C := ct_J3_init hΓ hT em1
  refine g_callI il_J4_1 C rfl rfl (Nat.le_of_ble_eq_true rfl) (Nat.le_of_ble_eq_true rfl) (Nat.le_of_ble_eq_true rfl) dJ4_init_2 ?_
  replace hT := (C.1).kd hT
  cases h
  exact g_vret rfl dJ4_init_5
theorem ct_J4_init {Γ : GG} (hΓ : GF Γ) {m mF : MM} {x : Nat} {l1 : Int32} (hT : (m.K x).1 = 10) {r : Unit} (h : f_J4_init x l1 m = some (r, mF)) : Ct Γ kJ4_init cJ4_init [.ref x, .int l1] m (.inl none) mF := by
  unfold f_J4_init at h
  exact Ct.of (κ := kJ4_init) (by decide) rfl (Nat.le_of_ble_eq_true rfl) rfl (w_J4_init_0 hΓ hT h)
set_option maxHeartbeats 4000000 in
theorem w_J3_getValue_0 {Γ : GG} (hΓ : GF Γ) {m0 mF m : MM} {x : Nat} (hT : (m.K x).1 = 10) {r : Option Nat} (h : b_J3_getValue_0 x m = some (r, mF)) : G Γ kJ3_getValue cJ3_getValue m0 mF (.inl (some (va_rf r))) m 0 [some (.ref x)] [] := by
  unfold b_J3_getValue_0 at h
  refine g_this dJ3_getValue_0 rfl ?_
  refine g_getR hΓ.k fl_J3_15_J4 rfl hT dJ3_getValue_1 ?_
  cases h
  exact g_aret rfl (Or.inr ⟨_, rfl⟩) dJ3_getValue_4
theorem ct_J3_getValue {Γ : GG} (hΓ : GF Γ) {m mF : MM} {x : Nat} (hT : (m.K x).1 = 10) {r : Option Nat} (h : f_J3_getValue x m = some (r, mF)) : Ct Γ kJ3_getValue cJ3_getValue [.ref x] m (.inl (some (va_rf r))) mF := by
  unfold f_J3_getValue at h
  exact Ct.of (κ := kJ3_getValue) (by decide) rfl (Nat.le_of_ble_eq_true rfl) rfl (w_J3_getValue_0 hΓ hT h)
set_option maxHeartbeats 4000000 in
theorem w_J3_length_0 {Γ : GG} (hΓ : GF Γ) {m0 mF m : MM} {x : Nat} (hT : (m.K x).1 = 10) {r : Int32} (h : b_J3_length_0 x m = some (r, mF)) : G Γ kJ3_length cJ3_length m0 mF (.inl (some (.int r))) m 0 [some (.ref x)] [] := by
  unfold b_J3_length_0 at h
  refine g_this dJ3_length_0 rfl ?_
  refine g_getI hΓ.k fl_J3_79_J4 rfl hT dJ3_length_1 ?_
  cases h
  exact g_iret rfl dJ3_length_4
theorem ct_J3_length {Γ : GG} (hΓ : GF Γ) {m mF : MM} {x : Nat} (hT : (m.K x).1 = 10) {r : Int32} (h : f_J3_length x m = some (r, mF)) : Ct Γ kJ3_length cJ3_length [.ref x] m (.inl (some (.int r))) mF := by
  unfold f_J3_length at h
  exact Ct.of (κ := kJ3_length) (by decide) rfl (Nat.le_of_ble_eq_true rfl) rfl (w_J3_length_0 hΓ hT h)
set_option maxHeartbeats 4000000 in
theorem w_J4_length_0 {Γ : GG} (hΓ : GF Γ) {m0 mF m : MM} {x : Nat} (hT : (m.K x).1 = 10) {r : Int32} (h : b_J4_length_0 x m = some (r, mF)) : G Γ kJ4_length cJ4_length m0 mF (.inl (some (.int r))) m 0 [some (.ref x)] [] := by
  unfold b_J4_length_0 at h
  refine g_this dJ4_length_0 rfl ?_
  replace h := bd2_of h; obtain ⟨v1, m2, em2, h⟩ := h
  have C := ct_J3_length hΓ hT em2
  refine g_callUi hΓ.k ul_J4_343 hT C rfl rfl (Nat.le_of_ble_eq_true rfl) (Nat.le_of_ble_eq_true rfl) (Nat.le_of_ble_eq_true rfl) dJ4_length_1 ?_
  replace hT := (C.1).kd hT
  cases h
  exact g_iret rfl dJ4_length_4
theorem ct_J4_length {Γ : GG} (hΓ : GF Γ) {m mF : MM} {x : Nat} (hT : (m.K x).1 = 10) {r : Int32} (h : f_J4_length x m = some (r, mF)) : Ct Γ kJ4_length cJ4_length [.ref x] m (.inl (some (.int r))) mF := by
  unfold f_J4_length at h
  exact Ct.of (κ := kJ4_length) (by decide) rfl (Nat.le_of_ble_eq_true rfl) rfl (w_J4_length_0 hΓ hT h)
set_option maxHeartbeats 4000000 in
theorem w_J9_checkLength_0 {Γ : GG} (hΓ : GF Γ) {m0 mF m : MM} {l0 : Int32} {l1 : Int32} {r : Unit} (h : b_J9_checkLength_0 l0 l1 m = some (r, mF)) : G Γ kJ9_checkLength cJ9_checkLength m0 mF (.inl none) m 0 [some (.int l0), some (.int l1)] [] := by
  unfold b_J9_checkLength_0 at h
  refine g_iload_n 1 dJ9_checkLength_0 rfl rfl ?_
  refine g_iload_n 0 dJ9_checkLength_1 rfl rfl ?_
  replace h := ite_of h; rcases h with ⟨hc, h⟩ | ⟨hc, h⟩
  · refine g_icgeT dJ9_checkLength_2 rfl hc ?_
    cases h
    exact g_vret rfl dJ9_checkLength_37
  · refine g_icgeF dJ9_checkLength_2 rfl hc ?_
    cases h
theorem ct_J9_checkLength {Γ : GG} (hΓ : GF Γ) {m mF : MM} {l0 : Int32} {l1 : Int32} {r : Unit} (h : f_J9_checkLength l0 l1 m = some (r, mF)) : Ct Γ kJ9_checkLength cJ9_checkLength [.int l0, .int l1] m (.inl none) mF := by
  unfold f_J9_checkLength at h
  exact Ct.of (κ := kJ9_checkLength) (by decide) rfl (Nat.le_of_ble_eq_true rfl) rfl (w_J9_checkLength_0 hΓ h)
set_option maxHeartbeats 4000000 in
theorem w_J9_copyOfRangeByte_0 {Γ : GG} (hΓ : GF Γ) {m0 mF m : MM} {l0 : Option Nat} {l1 : Int32} {l2 : Int32} {r : Option Nat} (h : b_J9_copyOfRangeByte_0 l0 l1 l2 m = some (r, mF)) : G Γ kJ9_copyOfRangeByte cJ9_copyOfRangeByte m0 mF (.inl (some (va_rf r))) m 0 [some (va_rf l0), some (.int l1), some (.int l2), none, none] [] := by
  unfold b_J9_copyOfRangeByte_0 at h
  refine g_iload_n 1 dJ9_copyOfRangeByte_0 rfl rfl ?_
  refine g_iload_n 2 dJ9_copyOfRangeByte_1 rfl rfl ?_
  replace h := bd2_of h; obtain ⟨_, m1, em1, h⟩ := h
  have C := ct_J9_checkLength hΓ em1
  refine g_callSv sl_J9_343 C rfl rfl (Nat.le_of_ble_eq_true rfl) (Nat.le_of_ble_eq_true rfl) (Nat.le_of_ble_eq_true rfl) dJ9_copyOfRangeByte_2 ?_
  refine g_iload_n 2 dJ9_copyOfRangeByte_5 rfl rfl ?_
  refine g_iload_n 1 dJ9_copyOfRangeByte_6 rfl rfl ?_
  refine g_isub dJ9_copyOfRangeByte_7 ?_
  refine g_istore_n 3 dJ9_copyOfRangeByte_8 rfl (Nat.le_of_ble_eq_true rfl) rfl ?_
  dsimp only [List.set]
  refine g_iload_n 3 dJ9_copyOfRangeByte_9 rfl rfl ?_
  replace h := bd_of h; obtain ⟨m2, em2, h⟩ := h
  refine g_newa hΓ.a (Or.inr (Or.inl ⟨rfl, rfl⟩)) q183 em2 dJ9_copyOfRangeByte_10 ?_
  refine g_astore dJ9_copyOfRangeByte_12 (Nat.le_of_ble_eq_true rfl) rfl ?_
  dsimp only [List.set]
  refine g_aload_n 0 dJ9_copyOfRangeByte_14 rfl rfl ?_
  refine g_iload_n 1 dJ9_copyOfRangeByte_15 rfl rfl ?_
  refine g_aload dJ9_copyOfRangeByte_16 rfl ?_
  refine g_ic 0 dJ9_copyOfRangeByte_18 rfl ?_
  refine g_aload_n 0 dJ9_copyOfRangeByte_19 rfl rfl ?_
  replace h := bd_of h; obtain ⟨v3, ev3, h⟩ := h
  refine g_alen (Nat.le_of_ble_eq_true rfl) ev3 dJ9_copyOfRangeByte_20 ?_
  refine g_iload_n 1 dJ9_copyOfRangeByte_21 rfl rfl ?_
  refine g_isub dJ9_copyOfRangeByte_22 ?_
  refine g_iload_n 3 dJ9_copyOfRangeByte_23 rfl rfl ?_
  refine g_mmin q474 q475 q127 q476 (Nat.le_of_ble_eq_true rfl) (Nat.le_of_ble_eq_true rfl) (Nat.le_of_ble_eq_true rfl) dJ9_copyOfRangeByte_24 ?_
  replace h := bd_of h; obtain ⟨m4, em4, h⟩ := h
  refine g_copy51 hΓ q477 (Nat.le_of_ble_eq_true rfl) (Nat.le_of_ble_eq_true rfl) (Nat.le_of_ble_eq_true rfl) em4 dJ9_copyOfRangeByte_27 ?_
  refine g_aload dJ9_copyOfRangeByte_30 rfl ?_
  cases h
  exact g_aret rfl (Or.inr ⟨_, rfl⟩) dJ9_copyOfRangeByte_32
theorem ct_J9_copyOfRangeByte {Γ : GG} (hΓ : GF Γ) {m mF : MM} {l0 : Option Nat} {l1 : Int32} {l2 : Int32} {r : Option Nat} (h : f_J9_copyOfRangeByte l0 l1 l2 m = some (r, mF)) : Ct Γ kJ9_copyOfRangeByte cJ9_copyOfRangeByte [va_rf l0, .int l1, .int l2] m (.inl (some (va_rf r))) mF := by
  unfold f_J9_copyOfRangeByte at h
  exact Ct.of (κ := kJ9_copyOfRangeByte) (by decide) rfl (by cases l0 <;> exact Nat.le_of_ble_eq_true rfl) rfl (by have w9 := w_J9_copyOfRangeByte_0 (m0 := m) hΓ h; cases l0 <;> exact w9)
set_option maxHeartbeats 4000000 in
theorem w_J9_copyOfRange_10 {Γ : GG} (hΓ : GF Γ) {m0 mF m : MM} {l0 : Option Nat} {l1 : Int32} {l2 : Int32} {r : Option Nat} (h : b_J9_copyOfRange_10 l0 l1 l2 m = some (r, mF)) : G Γ kJ9_copyOfRange cJ9_copyOfRange m0 mF (.inl (some (va_rf r))) m 10 [some (va_rf l0), some (.int l1), some (.int l2)] [] := by
  unfold b_J9_copyOfRange_10 at h
  refine g_aload_n 0 dJ9_copyOfRange_10 rfl rfl ?_
  refine g_iload_n 1 dJ9_copyOfRange_11 rfl rfl ?_
  refine g_iload_n 2 dJ9_copyOfRange_12 rfl rfl ?_
  replace h := bd2_of h; obtain ⟨v1, m2, em2, h⟩ := h
  have C := ct_J9_copyOfRangeByte hΓ em2
  refine g_callSr sl_J9_339 C rfl rfl (Nat.le_of_ble_eq_true rfl) (Nat.le_of_ble_eq_true rfl) (Nat.le_of_ble_eq_true rfl) dJ9_copyOfRange_13 ?_
  cases h
  exact g_aret rfl (Or.inr ⟨_, rfl⟩) dJ9_copyOfRange_16
set_option maxHeartbeats 4000000 in
theorem w_J9_copyOfRange_0 {Γ : GG} (hΓ : GF Γ) {m0 mF m : MM} {l0 : Option Nat} {l1 : Int32} {l2 : Int32} {r : Option Nat} (h : b_J9_copyOfRange_0 l0 l1 l2 m = some (r, mF)) : G Γ kJ9_copyOfRange cJ9_copyOfRange m0 mF (.inl (some (va_rf r))) m 0 [some (va_rf l0), some (.int l1), some (.int l2)] [] := by
  unfold b_J9_copyOfRange_0 at h
  refine g_iload_n 1 dJ9_copyOfRange_0 rfl rfl ?_
  replace h := ite_of h; rcases h with ⟨hc, h⟩ | ⟨hc, h⟩
  · refine g_ifneF dJ9_copyOfRange_1 rfl hc ?_
    refine g_iload_n 2 dJ9_copyOfRange_4 rfl rfl ?_
    refine g_aload_n 0 dJ9_copyOfRange_5 rfl rfl ?_
    replace h := bd_of h; obtain ⟨v1, ev1, h⟩ := h
    refine g_alen (Nat.le_of_ble_eq_true rfl) ev1 dJ9_copyOfRange_6 ?_
    replace h := ite_of h; rcases h with ⟨hc, h⟩ | ⟨hc, h⟩
    · refine g_iceqT dJ9_copyOfRange_7 rfl hc ?_
      refine g_aload_n 0 dJ9_copyOfRange_17 rfl rfl ?_
      replace h := bd_of h; obtain ⟨m2, em2, h⟩ := h
      refine g_clone hΓ q467 q468 q469 q470 q471 (Nat.le_of_ble_eq_true rfl) (Nat.le_of_ble_eq_true rfl) (Nat.le_of_ble_eq_true rfl) em2 dJ9_copyOfRange_18 ?_
      replace h := ite_of h; rcases h with ⟨hc, h⟩ | ⟨hc, h⟩
      · refine g_castZ hΓ q473 ⟨by decide, by decide⟩ rfl hc dJ9_copyOfRange_21 ?_
        cases h
        exact g_aret rfl (Or.inr ⟨_, rfl⟩) dJ9_copyOfRange_24
      · cases h
    · refine g_iceqF dJ9_copyOfRange_7 rfl hc ?_
      refine G.weak [true, true, true] rfl ?_
      exact w_J9_copyOfRange_10 hΓ h
  · refine g_ifneT dJ9_copyOfRange_1 rfl hc ?_
    refine G.weak [true, true, true] rfl ?_
    exact w_J9_copyOfRange_10 hΓ h
theorem ct_J9_copyOfRange {Γ : GG} (hΓ : GF Γ) {m mF : MM} {l0 : Option Nat} {l1 : Int32} {l2 : Int32} {r : Option Nat} (h : f_J9_copyOfRange l0 l1 l2 m = some (r, mF)) : Ct Γ kJ9_copyOfRange cJ9_copyOfRange [va_rf l0, .int l1, .int l2] m (.inl (some (va_rf r))) mF := by
  unfold f_J9_copyOfRange at h
  exact Ct.of (κ := kJ9_copyOfRange) (by decide) rfl (by cases l0 <;> exact Nat.le_of_ble_eq_true rfl) rfl (by have w9 := w_J9_copyOfRange_0 (m0 := m) hΓ h; cases l0 <;> exact w9)
set_option maxHeartbeats 4000000 in
theorem w_J5_init_2_0 {Γ : GG} (hΓ : GF Γ) {m0 mF m : MM} {x : Nat} {l1 : Option Nat} {l2 : Option Nat} (hT : (m.K x).1 = 11) {r : Unit} (h : b_J5_init_2_0 x l1 l2 m = some (r, mF)) : G Γ kJ5_init_2 cJ5_init_2 m0 mF (.inl none) m 0 [some (.ref x), some (va_rf l1), some (va_rf l2), none, none] [] := by
  unfold b_J5_init_2_0 at h
  refine g_this dJ5_init_2_0 rfl ?_
  refine g_objInit q545 q145 q146 (Nat.le_of_ble_eq_true rfl) (Nat.le_of_ble_eq_true rfl) (Nat.le_of_ble_eq_true rfl) dJ5_init_2_1 ?_
  refine g_aload_n 1 dJ5_init_2_4 rfl rfl ?_
  replace h := bd_of h; obtain ⟨a1, ea1, h⟩ := h
  obtain ⟨ea1, ka1⟩ := isK_of ea1
  cases ea1
  replace h := bd2_of h; obtain ⟨v2, m3, em3, h⟩ := h
  have C := ct_J3_getValue hΓ ka1 em3
  refine g_callVUr hΓ.k vl_J5_552 ka1 C rfl rfl (Nat.le_of_ble_eq_true rfl) (Nat.le_of_ble_eq_true rfl) (Nat.le_of_ble_eq_true rfl) dJ5_init_2_5 ?_
  replace hT := (C.1).kd hT
  refine g_astore_n 3 dJ5_init_2_8 rfl (Nat.le_of_ble_eq_true rfl) (lvC_rf rfl) ?_
  dsimp only [List.set]
  refine g_aload_n 1 dJ5_init_2_9 rfl rfl ?_
  replace h := bd_of h; obtain ⟨a4, ea4, h⟩ := h
  obtain ⟨ea4, ka4⟩ := isK_of ea4
  cases ea4
  replace h := bd2_of h; obtain ⟨v5, m6, em6, h⟩ := h
  have C := ct_J4_length hΓ ka4 em6
  refine g_callVOi hΓ vo_J5_549 ka4 C rfl rfl (Nat.le_of_ble_eq_true rfl) (Nat.le_of_ble_eq_true rfl) (Nat.le_of_ble_eq_true rfl) dJ5_init_2_10 ?_
  replace hT := (C.1).kd hT
  refine g_istore dJ5_init_2_13 (Nat.le_of_ble_eq_true rfl) (lvC_rf rfl) ?_
  dsimp only [List.set]
  refine g_aload_n 1 dJ5_init_2_15 rfl rfl ?_
  replace h := bd_of h; obtain ⟨a7, ea7, h⟩ := h
  obtain ⟨ea7, ka7⟩ := isK_of ea7
  cases ea7
  replace h := bd2_of h; obtain ⟨v8, m9, em9, h⟩ := h
  have C := ct_J3_isLatin1 hΓ ka7 em9
  refine g_callVUi hΓ.k vl_J5_1047 ka7 C rfl rfl (Nat.le_of_ble_eq_true rfl) (Nat.le_of_ble_eq_true rfl) (Nat.le_of_ble_eq_true rfl) dJ5_init_2_16 ?_
  replace hT := (C.1).kd hT
  replace h := ite_of h; rcases h with ⟨hc, h⟩ | ⟨hc, h⟩
  · refine g_ifeqT dJ5_init_2_19 rfl hc ?_
    cases h
  · refine g_ifeqF dJ5_init_2_19 rfl hc ?_
    refine g_this dJ5_init_2_22 rfl ?_
    refine g_ic 0 dJ5_init_2_23 rfl ?_
    replace h := bd_of h; obtain ⟨m10, em10, h⟩ := h
    refine g_pI hΓ.k fl_J5_15_J5 (fun _ => ⟨rfl, fun C T N e9 => by cases e9; rfl⟩) rfl (Or.inr (Or.inl ⟨rfl, rfl⟩)) em10 dJ5_init_2_24 ?_
    replace hT := (pI_ext em10).kd hT
    refine g_this dJ5_init_2_27 rfl ?_
    refine g_aload_n 3 dJ5_init_2_28 rfl rfl ?_
    refine g_ic 0 dJ5_init_2_29 rfl ?_
    refine g_iload dJ5_init_2_30 rfl ?_
    replace h := bd2_of h; obtain ⟨v11, m12, em12, h⟩ := h
    have C := ct_J9_copyOfRange hΓ em12
    refine g_callSr sl_J5_54 C rfl rfl (Nat.le_of_ble_eq_true rfl) (Nat.le_of_ble_eq_true rfl) (Nat.le_of_ble_eq_true rfl) dJ5_init_2_32 ?_
    replace hT := (C.1).kd hT
    replace h := bd_of h; obtain ⟨m13, em13, h⟩ := h
    refine g_pR hΓ.k fl_J5_9_J5 (fun _ => ⟨rfl, fun C T N e9 => by cases e9; rfl⟩) (Or.inr ⟨_, rfl⟩) em13 dJ5_init_2_35 ?_
    replace hT := (pR_ext em13).kd hT
    refine g_goto dJ5_init_2_38 rfl ?_
    cases h
    exact g_vret rfl dJ5_init_2_97
theorem ct_J5_init_2 {Γ : GG} (hΓ : GF Γ) {m mF : MM} {x : Nat} {l1 : Option Nat} {l2 : Option Nat} (hT : (m.K x).1 = 11) {r : Unit} (h : f_J5_init_2 x l1 l2 m = some (r, mF)) : Ct Γ kJ5_init_2 cJ5_init_2 [.ref x, va_rf l1, va_rf l2] m (.inl none) mF := by
  unfold f_J5_init_2 at h
  exact Ct.of (κ := kJ5_init_2) (by decide) rfl (by cases l1 <;> cases l2 <;> exact Nat.le_of_ble_eq_true rfl) rfl (by have w9 := w_J5_init_2_0 (m0 := m) hΓ hT h; cases l1 <;> cases l2 <;> exact w9)
set_option maxHeartbeats 4000000 in
theorem w_J5_init_0 {Γ : GG} (hΓ : GF Γ) {m0 mF m : MM} {x : Nat} {l1 : Option Nat} (hT : (m.K x).1 = 11) {r : Unit} (h : b_J5_init_0 x l1 m = some (r, mF)) : G Γ kJ5_init cJ5_init m0 mF (.inl none) m 0 [some (.ref x), some (va_rf l1)] [] := by
  unfold b_J5_init_0 at h
  refine g_this dJ5_init_0 rfl ?_
  refine g_aload_n 1 dJ5_init_1 rfl rfl ?_
  refine g_null dJ5_init_2 ?_
  replace h := bd2_of h; obtain ⟨_, m1, em1, h⟩ := h
  have C := ct_J5_init_2 hΓ hT em1
  refine g_callI il_J5_489 C rfl rfl (Nat.le_of_ble_eq_true rfl) (Nat.le_of_ble_eq_true rfl) (Nat.le_of_ble_eq_true rfl) dJ5_init_3 ?_
  replace hT := (C.1).kd hT
  cases h
  exact g_vret rfl dJ5_init_6
theorem ct_J5_init {Γ : GG} (hΓ : GF Γ) {m mF : MM} {x : Nat} {l1 : Option Nat} (hT : (m.K x).1 = 11) {r : Unit} (h : f_J5_init x l1 m = some (r, mF)) : Ct Γ kJ5_init cJ5_init [.ref x, va_rf l1] m (.inl none) mF := by
  unfold f_J5_init at h
  exact Ct.of (κ := kJ5_init) (by decide) rfl (by cases l1 <;> exact Nat.le_of_ble_eq_true rfl) rfl (by have w9 := w_J5_init_0 (m0 := m) hΓ hT h; cases l1 <;> exact w9)
set_option maxHeartbeats 4000000 in
theorem w_J4_toString_0 {Γ : GG} (hΓ : GF Γ) {m0 mF m : MM} {x : Nat} (hT : (m.K x).1 = 10) {r : Option Nat} (h : b_J4_toString_0 x m = some (r, mF)) : G Γ kJ4_toString cJ4_toString m0 mF (.inl (some (va_rf r))) m 0 [some (.ref x)] [] := by
  unfold b_J4_toString_0 at h
  replace h := bd_of h; obtain ⟨m1, em1, h⟩ := h
  refine g_nO hΓ.k nl_J4_18 ty_J5 em1 dJ4_toString_0 ?_
  replace hT := (nO_ext em1).kd hT
  refine g_dup dJ4_toString_3 (va_rf_cat _) ?_
  refine g_this dJ4_toString_4 rfl ?_
  replace h := bd_of h; obtain ⟨a2, ea2, h⟩ := h
  obtain ⟨ea2, ka2⟩ := isK_of ea2
  cases ea2
  replace h := bd2_of h; obtain ⟨_, m3, em3, h⟩ := h
  have C := ct_J5_init hΓ ka2 em3
  refine g_callI il_J4_137 C rfl rfl (Nat.le_of_ble_eq_true rfl) (Nat.le_of_ble_eq_true rfl) (Nat.le_of_ble_eq_true rfl) dJ4_toString_5 ?_
  replace hT := (C.1).kd hT
  cases h
  exact g_aret rfl (Or.inl ⟨_, rfl⟩) dJ4_toString_8
theorem ct_J4_toString {Γ : GG} (hΓ : GF Γ) {m mF : MM} {x : Nat} (hT : (m.K x).1 = 10) {r : Option Nat} (h : f_J4_toString x m = some (r, mF)) : Ct Γ kJ4_toString cJ4_toString [.ref x] m (.inl (some (va_rf r))) mF := by
  unfold f_J4_toString at h
  exact Ct.of (κ := kJ4_toString) (by decide) rfl (Nat.le_of_ble_eq_true rfl) rfl (w_J4_toString_0 hΓ hT h)
set_option maxHeartbeats 4000000 in
theorem w_X3_here_0 {Γ : GG} (hΓ : GF Γ) {m0 mF m : MM} {x : Nat} {l1 : Int32} (hT : (m.K x).1 = 4) {r : Int32} (h : b_X3_here_0 x l1 m = some (r, mF)) : G Γ kX3_here cX3_here m0 mF (.inl (some (.int r))) m 0 [some (.ref x), some (.int l1)] [] := by
  unfold b_X3_here_0 at h
  refine g_this dX3_here_0 rfl ?_
  refine g_getI hΓ.k fl_X3_28_X3 rfl hT dX3_here_1 ?_
  refine g_iload_n 1 dX3_here_4 rfl rfl ?_
  refine g_iadd dX3_here_5 ?_
  refine g_this dX3_here_6 rfl ?_
  refine g_getR hΓ.k fl_X3_3_X3 rfl hT dX3_here_7 ?_
  replace h := bd_of h; obtain ⟨v1, ev1, h⟩ := h
  refine g_fIN hΓ fl_X3_32_X0 rfl ev1 dX3_here_10 ?_
  replace h := ite_of h; rcases h with ⟨hc, h⟩ | ⟨hc, h⟩
  · refine g_icgeT dX3_here_13 rfl hc ?_
    refine g_ic (-1) dX3_here_37 rfl ?_
    cases h
    exact g_iret rfl dX3_here_38
  · refine g_icgeF dX3_here_13 rfl hc ?_
    refine g_this dX3_here_16 rfl ?_
    refine g_getR hΓ.k fl_X3_3_X3 rfl hT dX3_here_17 ?_
    replace h := bd_of h; obtain ⟨v2, ev2, h⟩ := h
    refine g_fRN hΓ fl_X3_35_X0 rfl ev2 dX3_here_20 ?_
    refine g_this dX3_here_23 rfl ?_
    refine g_getI hΓ.k fl_X3_28_X3 rfl hT dX3_here_24 ?_
    refine g_iload_n 1 dX3_here_27 rfl rfl ?_
    refine g_iadd dX3_here_28 ?_
    replace h := bd_of h; obtain ⟨v3, ev3, h⟩ := h
    refine g_bald ev3 dX3_here_29 ?_
    refine g_si (255) dX3_here_30 rfl ?_
    refine g_iand dX3_here_33 ?_
    refine g_goto dX3_here_34 rfl ?_
    cases h
    exact g_iret rfl dX3_here_38
theorem ct_X3_here {Γ : GG} (hΓ : GF Γ) {m mF : MM} {x : Nat} {l1 : Int32} (hT : (m.K x).1 = 4) {r : Int32} (h : f_X3_here x l1 m = some (r, mF)) : Ct Γ kX3_here cX3_here [.ref x, .int l1] m (.inl (some (.int r))) mF := by
  unfold f_X3_here at h
  exact Ct.of (κ := kX3_here) (by decide) rfl (Nat.le_of_ble_eq_true rfl) rfl (w_X3_here_0 hΓ hT h)
set_option maxHeartbeats 4000000 in
theorem w_X3_isDigit_0 {Γ : GG} (hΓ : GF Γ) {m0 mF m : MM} {x : Nat} {l1 : Int32} (hT : (m.K x).1 = 4) {r : Int32} (h : b_X3_isDigit_0 x l1 m = some (r, mF)) : G Γ kX3_isDigit cX3_isDigit m0 mF (.inl (some (.int r))) m 0 [some (.ref x), some (.int l1)] [] := by
  unfold b_X3_isDigit_0 at h
  refine g_this dX3_isDigit_0 rfl ?_
  refine g_iload_n 1 dX3_isDigit_1 rfl rfl ?_
  replace h := bd2_of h; obtain ⟨v1, m2, em2, h⟩ := h
  have C := ct_X3_here hΓ hT em2
  refine g_callVi hΓ.k vl_X3_39 hT C rfl rfl (Nat.le_of_ble_eq_true rfl) (Nat.le_of_ble_eq_true rfl) (Nat.le_of_ble_eq_true rfl) dX3_isDigit_2 ?_
  replace hT := (C.1).kd hT
  refine g_bi (48) dX3_isDigit_5 rfl ?_
  replace h := ite_of h; rcases h with ⟨hc, h⟩ | ⟨hc, h⟩
  · refine g_icltT dX3_isDigit_7 rfl hc ?_
    refine g_ic 0 dX3_isDigit_24 rfl ?_
    cases h
    exact g_zret rfl (by decide) dX3_isDigit_25
  · refine g_icltF dX3_isDigit_7 rfl hc ?_
    refine g_this dX3_isDigit_10 rfl ?_
    refine g_iload_n 1 dX3_isDigit_11 rfl rfl ?_
    replace h := bd2_of h; obtain ⟨v3, m4, em4, h⟩ := h
    have C := ct_X3_here hΓ hT em4
    refine g_callVi hΓ.k vl_X3_39 hT C rfl rfl (Nat.le_of_ble_eq_true rfl) (Nat.le_of_ble_eq_true rfl) (Nat.le_of_ble_eq_true rfl) dX3_isDigit_12 ?_
    replace hT := (C.1).kd hT
    refine g_bi (57) dX3_isDigit_15 rfl ?_
    replace h := ite_of h; rcases h with ⟨hc, h⟩ | ⟨hc, h⟩
    · refine g_icgtT dX3_isDigit_17 rfl hc ?_
      refine g_ic 0 dX3_isDigit_24 rfl ?_
      cases h
      exact g_zret rfl (by decide) dX3_isDigit_25
    · refine g_icgtF dX3_isDigit_17 rfl hc ?_
      refine g_ic 1 dX3_isDigit_20 rfl ?_
      refine g_goto dX3_isDigit_21 rfl ?_
      cases h
      exact g_zret rfl (by decide) dX3_isDigit_25
theorem ct_X3_isDigit {Γ : GG} (hΓ : GF Γ) {m mF : MM} {x : Nat} {l1 : Int32} (hT : (m.K x).1 = 4) {r : Int32} (h : f_X3_isDigit x l1 m = some (r, mF)) : Ct Γ kX3_isDigit cX3_isDigit [.ref x, .int l1] m (.inl (some (.int r))) mF := by
  unfold f_X3_isDigit at h
  exact Ct.of (κ := kX3_isDigit) (by decide) rfl (Nat.le_of_ble_eq_true rfl) rfl (w_X3_isDigit_0 hΓ hT h)
set_option maxHeartbeats 4000000 in
theorem w_X3_isLetter_0 {Γ : GG} (hΓ : GF Γ) {m0 mF m : MM} {x : Nat} {l1 : Int32} (hT : (m.K x).1 = 4) {r : Int32} (h : b_X3_isLetter_0 x l1 m = some (r, mF)) : G Γ kX3_isLetter cX3_isLetter m0 mF (.inl (some (.int r))) m 0 [some (.ref x), some (.int l1)] [] := by
  unfold b_X3_isLetter_0 at h
  refine g_this dX3_isLetter_0 rfl ?_
  refine g_iload_n 1 dX3_isLetter_1 rfl rfl ?_
  replace h := bd2_of h; obtain ⟨v1, m2, em2, h⟩ := h
  have C := ct_X3_here hΓ hT em2
  refine g_callVi hΓ.k vl_X3_39 hT C rfl rfl (Nat.le_of_ble_eq_true rfl) (Nat.le_of_ble_eq_true rfl) (Nat.le_of_ble_eq_true rfl) dX3_isLetter_2 ?_
  replace hT := (C.1).kd hT
  refine g_bi (97) dX3_isLetter_5 rfl ?_
  replace h := ite_of h; rcases h with ⟨hc, h⟩ | ⟨hc, h⟩
  · refine g_icltT dX3_isLetter_7 rfl hc ?_
    refine g_ic 0 dX3_isLetter_24 rfl ?_
    cases h
    exact g_zret rfl (by decide) dX3_isLetter_25
  · refine g_icltF dX3_isLetter_7 rfl hc ?_
    refine g_this dX3_isLetter_10 rfl ?_
    refine g_iload_n 1 dX3_isLetter_11 rfl rfl ?_
    replace h := bd2_of h; obtain ⟨v3, m4, em4, h⟩ := h
    have C := ct_X3_here hΓ hT em4
    refine g_callVi hΓ.k vl_X3_39 hT C rfl rfl (Nat.le_of_ble_eq_true rfl) (Nat.le_of_ble_eq_true rfl) (Nat.le_of_ble_eq_true rfl) dX3_isLetter_12 ?_
    replace hT := (C.1).kd hT
    refine g_bi (122) dX3_isLetter_15 rfl ?_
    replace h := ite_of h; rcases h with ⟨hc, h⟩ | ⟨hc, h⟩
    · refine g_icgtT dX3_isLetter_17 rfl hc ?_
      refine g_ic 0 dX3_isLetter_24 rfl ?_
      cases h
      exact g_zret rfl (by decide) dX3_isLetter_25
    · refine g_icgtF dX3_isLetter_17 rfl hc ?_
      refine g_ic 1 dX3_isLetter_20 rfl ?_
      refine g_goto dX3_isLetter_21 rfl ?_
      cases h
      exact g_zret rfl (by decide) dX3_isLetter_25
theorem ct_X3_isLetter {Γ : GG} (hΓ : GF Γ) {m mF : MM} {x : Nat} {l1 : Int32} (hT : (m.K x).1 = 4) {r : Int32} (h : f_X3_isLetter x l1 m = some (r, mF)) : Ct Γ kX3_isLetter cX3_isLetter [.ref x, .int l1] m (.inl (some (.int r))) mF := by
  unfold f_X3_isLetter at h
  exact Ct.of (κ := kX3_isLetter) (by decide) rfl (Nat.le_of_ble_eq_true rfl) rfl (w_X3_isLetter_0 hΓ hT h)
def p_X3_go (Γ : GG) (m0 mF : MM) (x : Nat) (r : Unit) : ((MM) ⊕ (Int32 × Option Nat × MM) ⊕ (Int32 × MM)) → Prop := fun z => match z with
  | (.inl m) => (m.K x).1 = 4 → G Γ kX3_go cX3_go m0 mF (.inl none) m 0 [some (.ref x), none, none, none] []
  | (.inr (.inl (l2, l3, m))) => (m.K x).1 = 4 → G Γ kX3_go cX3_go m0 mF (.inl none) m 84 [some (.ref x), none, some (.int l2), some (va_rf l3)] []
  | (.inr (.inr (l2, m))) => (m.K x).1 = 4 → G Γ kX3_go cX3_go m0 mF (.inl none) m 151 [some (.ref x), none, some (.int l2), none] []
set_option maxHeartbeats 4000000 in
theorem w_X3_go_20 {Γ : GG} (hΓ : GF Γ) {m0 mF m : MM} {x : Nat} (hT : (m.K x).1 = 4) {r : Unit} {q : ((MM) ⊕ (Int32 × Option Nat × MM) ⊕ (Int32 × MM)) ⊕ (Unit × MM)} (h : b_X3_go_20 x m = some q) (Hl : ∀ z, q = .inl z → p_X3_go Γ m0 mF x r z) (Hr : ∀ z, q = .inr z → z = (r, mF)) : G Γ kX3_go cX3_go m0 mF (.inl none) m 20 [some (.ref x), none, none, none] [] := by
  unfold b_X3_go_20 at h
  refine g_this dX3_go_20 rfl ?_
  refine g_dup dX3_go_21 rfl ?_
  refine g_getI hΓ.k fl_X3_28_X3 rfl hT dX3_go_22 ?_
  refine g_ic 1 dX3_go_25 rfl ?_
  refine g_iadd dX3_go_26 ?_
  replace h := bd_of h; obtain ⟨m1, em1, h⟩ := h
  refine g_pI hΓ.k fl_X3_28_X3 (fun h9 => by cases h9) rfl (Or.inl ⟨rfl, rfl⟩) em1 dX3_go_27 ?_
  replace hT := (pI_ext em1).kd hT
  refine g_goto dX3_go_30 rfl ?_
  cases h
  refine G.weak [true, false, false, false] rfl ?_
  exact Hl _ rfl hT
set_option maxHeartbeats 4000000 in
theorem w_X3_go_224 {Γ : GG} (hΓ : GF Γ) {m0 mF m : MM} {x : Nat} {l1 : Int32} (hT : (m.K x).1 = 4) {r : Unit} {q : ((MM) ⊕ (Int32 × Option Nat × MM) ⊕ (Int32 × MM)) ⊕ (Unit × MM)} (h : b_X3_go_224 x l1 m = some q) (Hl : ∀ z, q = .inl z → p_X3_go Γ m0 mF x r z) (Hr : ∀ z, q = .inr z → z = (r, mF)) : G Γ kX3_go cX3_go m0 mF (.inl none) m 224 [some (.ref x), some (.int l1), none, none] [] := by
  unfold b_X3_go_224 at h
  refine g_this dX3_go_224 rfl ?_
  refine g_iload_n 1 dX3_go_225 rfl rfl ?_
  replace h := bd_of h; obtain ⟨m1, em1, h⟩ := h
  refine g_pI hΓ.k fl_X3_46_X3 (fun h9 => by cases h9) rfl (Or.inl ⟨rfl, rfl⟩) em1 dX3_go_226 ?_
  replace hT := (pI_ext em1).kd hT
  refine g_ic 1 dX3_go_229 rfl ?_
  refine g_istore_n 2 dX3_go_230 rfl (Nat.le_of_ble_eq_true rfl) rfl ?_
  dsimp only [List.set]
  refine g_this dX3_go_231 rfl ?_
  refine g_dup dX3_go_232 rfl ?_
  refine g_getI hΓ.k fl_X3_28_X3 rfl hT dX3_go_233 ?_
  refine g_iload_n 2 dX3_go_236 rfl rfl ?_
  refine g_iadd dX3_go_237 ?_
  replace h := bd_of h; obtain ⟨m2, em2, h⟩ := h
  refine g_pI hΓ.k fl_X3_28_X3 (fun h9 => by cases h9) rfl (Or.inl ⟨rfl, rfl⟩) em2 dX3_go_238 ?_
  replace hT := (pI_ext em2).kd hT
  cases h
  cases Hr _ rfl
  exact g_vret rfl dX3_go_241
set_option maxHeartbeats 4000000 in
theorem w_X3_go_151 {Γ : GG} (hΓ : GF Γ) {m0 mF m : MM} {x : Nat} {l2 : Int32} (hT : (m.K x).1 = 4) {r : Unit} {q : ((MM) ⊕ (Int32 × Option Nat × MM) ⊕ (Int32 × MM)) ⊕ (Unit × MM)} (h : b_X3_go_151 x l2 m = some q) (Hl : ∀ z, q = .inl z → p_X3_go Γ m0 mF x r z) (Hr : ∀ z, q = .inr z → z = (r, mF)) : G Γ kX3_go cX3_go m0 mF (.inl none) m 151 [some (.ref x), none, some (.int l2), none] [] := by
  unfold b_X3_go_151 at h
  refine g_this dX3_go_151 rfl ?_
  refine g_iload_n 2 dX3_go_152 rfl rfl ?_
  replace h := bd2_of h; obtain ⟨v1, m2, em2, h⟩ := h
  have C := ct_X3_isDigit hΓ hT em2
  refine g_callVi hΓ.k vl_X3_66 hT C rfl rfl (Nat.le_of_ble_eq_true rfl) (Nat.le_of_ble_eq_true rfl) (Nat.le_of_ble_eq_true rfl) dX3_go_153 ?_
  replace hT := (C.1).kd hT
  replace h := ite_of h; rcases h with ⟨hc, h⟩ | ⟨hc, h⟩
  · refine g_ifeqT dX3_go_156 rfl hc ?_
    refine g_iload_n 2 dX3_go_190 rfl rfl ?_
    refine g_ic 4 dX3_go_191 rfl ?_
    replace h := ite_of h; rcases h with ⟨hc, h⟩ | ⟨hc, h⟩
    · refine g_icgtT dX3_go_192 rfl hc ?_
      cases h
      cases Hr _ rfl
      exact g_vret rfl dX3_go_203
    · refine g_icgtF dX3_go_192 rfl hc ?_
      refine g_this dX3_go_195 rfl ?_
      refine g_iload_n 2 dX3_go_196 rfl rfl ?_
      replace h := bd2_of h; obtain ⟨v3, m4, em4, h⟩ := h
      have C := ct_X3_isLetter hΓ hT em4
      refine g_callVi hΓ.k vl_X3_49 hT C rfl rfl (Nat.le_of_ble_eq_true rfl) (Nat.le_of_ble_eq_true rfl) (Nat.le_of_ble_eq_true rfl) dX3_go_197 ?_
      replace hT := (C.1).kd hT
      replace h := ite_of h; rcases h with ⟨hc, h⟩ | ⟨hc, h⟩
      · refine g_ifeqT dX3_go_200 rfl hc ?_
        refine g_this dX3_go_204 rfl ?_
        refine g_ic 2 dX3_go_205 rfl ?_
        replace h := bd_of h; obtain ⟨m5, em5, h⟩ := h
        refine g_pI hΓ.k fl_X3_46_X3 (fun h9 => by cases h9) rfl (Or.inl ⟨rfl, rfl⟩) em5 dX3_go_206 ?_
        replace hT := (pI_ext em5).kd hT
        refine g_goto dX3_go_209 rfl ?_
        refine g_this dX3_go_231 rfl ?_
        refine g_dup dX3_go_232 rfl ?_
        refine g_getI hΓ.k fl_X3_28_X3 rfl hT dX3_go_233 ?_
        refine g_iload_n 2 dX3_go_236 rfl rfl ?_
        refine g_iadd dX3_go_237 ?_
        replace h := bd_of h; obtain ⟨m6, em6, h⟩ := h
        refine g_pI hΓ.k fl_X3_28_X3 (fun h9 => by cases h9) rfl (Or.inl ⟨rfl, rfl⟩) em6 dX3_go_238 ?_
        replace hT := (pI_ext em6).kd hT
        cases h
        cases Hr _ rfl
        exact g_vret rfl dX3_go_241
      · refine g_ifeqF dX3_go_200 rfl hc ?_
        cases h
        cases Hr _ rfl
        exact g_vret rfl dX3_go_203
  · refine g_ifeqF dX3_go_156 rfl hc ?_
    refine g_iload_n 2 dX3_go_159 rfl rfl ?_
    refine g_ic 4 dX3_go_160 rfl ?_
    replace h := ite_of h; rcases h with ⟨hc, h⟩ | ⟨hc, h⟩
    · refine g_icgeT dX3_go_161 rfl hc ?_
      refine g_iinc (l2 + (1 : Int32)) dX3_go_184 rfl rfl (Nat.le_of_ble_eq_true rfl) rfl ?_
      dsimp only [List.set]
      refine g_goto dX3_go_187 rfl ?_
      cases h
      refine G.weak [true, false, true, false] rfl ?_
      exact Hl _ rfl hT
    · refine g_icgeF dX3_go_161 rfl hc ?_
      refine g_this dX3_go_164 rfl ?_
      refine g_bi (10) dX3_go_165 rfl ?_
      refine g_this dX3_go_167 rfl ?_
      refine g_getI hΓ.k fl_X3_69_X3 rfl hT dX3_go_168 ?_
      refine g_imul dX3_go_171 ?_
      refine g_this dX3_go_172 rfl ?_
      refine g_iload_n 2 dX3_go_173 rfl rfl ?_
      replace h := bd2_of h; obtain ⟨v7, m8, em8, h⟩ := h
      have C := ct_X3_here hΓ hT em8
      refine g_callVi hΓ.k vl_X3_39 hT C rfl rfl (Nat.le_of_ble_eq_true rfl) (Nat.le_of_ble_eq_true rfl) (Nat.le_of_ble_eq_true rfl) dX3_go_174 ?_
      replace hT := (C.1).kd hT
      refine g_iadd dX3_go_177 ?_
      refine g_bi (48) dX3_go_178 rfl ?_
      refine g_isub dX3_go_180 ?_
      replace h := bd_of h; obtain ⟨m9, em9, h⟩ := h
      refine g_pI hΓ.k fl_X3_69_X3 (fun h9 => by cases h9) rfl (Or.inl ⟨rfl, rfl⟩) em9 dX3_go_181 ?_
      replace hT := (pI_ext em9).kd hT
      refine g_iinc (l2 + (1 : Int32)) dX3_go_184 rfl rfl (Nat.le_of_ble_eq_true rfl) rfl ?_
      dsimp only [List.set]
      refine g_goto dX3_go_187 rfl ?_
      cases h
      refine G.weak [true, false, true, false] rfl ?_
      exact Hl _ rfl hT
set_option maxHeartbeats 4000000 in
theorem w_X3_go_84 {Γ : GG} (hΓ : GF Γ) {m0 mF m : MM} {x : Nat} {l2 : Int32} {l3 : Option Nat} (hT : (m.K x).1 = 4) {r : Unit} {q : ((MM) ⊕ (Int32 × Option Nat × MM) ⊕ (Int32 × MM)) ⊕ (Unit × MM)} (h : b_X3_go_84 x l2 l3 m = some q) (Hl : ∀ z, q = .inl z → p_X3_go Γ m0 mF x r z) (Hr : ∀ z, q = .inr z → z = (r, mF)) : G Γ kX3_go cX3_go m0 mF (.inl none) m 84 [some (.ref x), none, some (.int l2), some (va_rf l3)] [] := by
  unfold b_X3_go_84 at h
  refine g_this dX3_go_84 rfl ?_
  refine g_iload_n 2 dX3_go_85 rfl rfl ?_
  replace h := bd2_of h; obtain ⟨v1, m2, em2, h⟩ := h
  have C := ct_X3_isLetter hΓ hT em2
  refine g_callVi hΓ.k vl_X3_49 hT C rfl rfl (Nat.le_of_ble_eq_true rfl) (Nat.le_of_ble_eq_true rfl) (Nat.le_of_ble_eq_true rfl) dX3_go_86 ?_
  replace hT := (C.1).kd hT
  replace h := ite_of h; rcases h with ⟨hc, h⟩ | ⟨hc, h⟩
  · refine g_ifeqT dX3_go_89 rfl hc ?_
    refine g_iload_n 2 dX3_go_115 rfl rfl ?_
    refine g_bi (8) dX3_go_116 rfl ?_
    replace h := ite_of h; rcases h with ⟨hc, h⟩ | ⟨hc, h⟩
    · refine g_icleT dX3_go_118 rfl hc ?_
      refine g_this dX3_go_122 rfl ?_
      refine g_aload_n 3 dX3_go_123 rfl rfl ?_
      replace h := bd_of h; obtain ⟨a3, ea3, h⟩ := h
      obtain ⟨ea3, ka3⟩ := isK_of ea3
      cases ea3
      replace h := bd2_of h; obtain ⟨v4, m5, em5, h⟩ := h
      have C := ct_J4_toString hΓ ka3 em5
      refine g_callVr hΓ.k vl_X3_62 ka3 C rfl rfl (Nat.le_of_ble_eq_true rfl) (Nat.le_of_ble_eq_true rfl) (Nat.le_of_ble_eq_true rfl) dX3_go_124 ?_
      replace hT := (C.1).kd hT
      replace h := bd_of h; obtain ⟨m6, em6, h⟩ := h
      refine g_pR hΓ.k fl_X3_17_X3 (fun h9 => by cases h9) (Or.inl ⟨_, rfl⟩) em6 dX3_go_127 ?_
      replace hT := (pR_ext em6).kd hT
      refine g_this dX3_go_130 rfl ?_
      refine g_ic 1 dX3_go_131 rfl ?_
      replace h := bd_of h; obtain ⟨m7, em7, h⟩ := h
      refine g_pI hΓ.k fl_X3_46_X3 (fun h9 => by cases h9) rfl (Or.inl ⟨rfl, rfl⟩) em7 dX3_go_132 ?_
      replace hT := (pI_ext em7).kd hT
      refine g_goto dX3_go_135 rfl ?_
      refine g_this dX3_go_231 rfl ?_
      refine g_dup dX3_go_232 rfl ?_
      refine g_getI hΓ.k fl_X3_28_X3 rfl hT dX3_go_233 ?_
      refine g_iload_n 2 dX3_go_236 rfl rfl ?_
      refine g_iadd dX3_go_237 ?_
      replace h := bd_of h; obtain ⟨m8, em8, h⟩ := h
      refine g_pI hΓ.k fl_X3_28_X3 (fun h9 => by cases h9) rfl (Or.inl ⟨rfl, rfl⟩) em8 dX3_go_238 ?_
      replace hT := (pI_ext em8).kd hT
      cases h
      cases Hr _ rfl
      exact g_vret rfl dX3_go_241
    · refine g_icleF dX3_go_118 rfl hc ?_
      cases h
      cases Hr _ rfl
      exact g_vret rfl dX3_go_121
  · refine g_ifeqF dX3_go_89 rfl hc ?_
    refine g_iload_n 2 dX3_go_92 rfl rfl ?_
    refine g_bi (8) dX3_go_93 rfl ?_
    replace h := ite_of h; rcases h with ⟨hc, h⟩ | ⟨hc, h⟩
    · refine g_icgeT dX3_go_95 rfl hc ?_
      refine g_iinc (l2 + (1 : Int32)) dX3_go_109 rfl rfl (Nat.le_of_ble_eq_true rfl) rfl ?_
      dsimp only [List.set]
      refine g_goto dX3_go_112 rfl ?_
      cases h
      refine G.weak [true, false, true, true] rfl ?_
      exact Hl _ rfl hT
    · refine g_icgeF dX3_go_95 rfl hc ?_
      refine g_aload_n 3 dX3_go_98 rfl rfl ?_
      refine g_this dX3_go_99 rfl ?_
      refine g_iload_n 2 dX3_go_100 rfl rfl ?_
      replace h := bd2_of h; obtain ⟨v9, m10, em10, h⟩ := h
      have C := ct_X3_here hΓ hT em10
      refine g_callVi hΓ.k vl_X3_39 hT C rfl rfl (Nat.le_of_ble_eq_true rfl) (Nat.le_of_ble_eq_true rfl) (Nat.le_of_ble_eq_true rfl) dX3_go_101 ?_
      replace hT := (C.1).kd hT
      refine g_i2c dX3_go_104 ?_
      replace h := bd_of h; obtain ⟨a11, ea11, h⟩ := h
      obtain ⟨ea11, ka11⟩ := isK_of ea11
      cases ea11
      replace h := bd2_of h; obtain ⟨v12, m13, em13, h⟩ := h
      have C := ct_J4_append hΓ ka11 em13
      refine g_callVr hΓ.k vl_X3_58 ka11 C rfl rfl (Nat.le_of_ble_eq_true rfl) (Nat.le_of_ble_eq_true rfl) (Nat.le_of_ble_eq_true rfl) dX3_go_105 ?_
      replace hT := (C.1).kd hT
      refine g_pop dX3_go_108 (va_rf_cat _) ?_
      refine g_iinc (l2 + (1 : Int32)) dX3_go_109 rfl rfl (Nat.le_of_ble_eq_true rfl) rfl ?_
      dsimp only [List.set]
      refine g_goto dX3_go_112 rfl ?_
      cases h
      refine G.weak [true, false, true, true] rfl ?_
      exact Hl _ rfl hT
set_option maxHeartbeats 4000000 in
theorem w_X3_go_0 {Γ : GG} (hΓ : GF Γ) {m0 mF m : MM} {x : Nat} (hT : (m.K x).1 = 4) {r : Unit} {q : ((MM) ⊕ (Int32 × Option Nat × MM) ⊕ (Int32 × MM)) ⊕ (Unit × MM)} (h : b_X3_go_0 x m = some q) (Hl : ∀ z, q = .inl z → p_X3_go Γ m0 mF x r z) (Hr : ∀ z, q = .inr z → z = (r, mF)) : G Γ kX3_go cX3_go m0 mF (.inl none) m 0 [some (.ref x), none, none, none] [] := by
  unfold b_X3_go_0 at h
  refine g_this dX3_go_0 rfl ?_
  refine g_ic 0 dX3_go_1 rfl ?_
  replace h := bd2_of h; obtain ⟨v1, m2, em2, h⟩ := h
  have C := ct_X3_here hΓ hT em2
  refine g_callVi hΓ.k vl_X3_39 hT C rfl rfl (Nat.le_of_ble_eq_true rfl) (Nat.le_of_ble_eq_true rfl) (Nat.le_of_ble_eq_true rfl) dX3_go_2 ?_
  replace hT := (C.1).kd hT
  refine g_bi (32) dX3_go_5 rfl ?_
  replace h := ite_of h; rcases h with ⟨hc, h⟩ | ⟨hc, h⟩
  · refine g_iceqT dX3_go_7 rfl hc ?_
    refine G.weak [true, false, false, false] rfl ?_
    exact w_X3_go_20 hΓ hT h Hl Hr
  · refine g_iceqF dX3_go_7 rfl hc ?_
    refine g_this dX3_go_10 rfl ?_
    refine g_ic 0 dX3_go_11 rfl ?_
    replace h := bd2_of h; obtain ⟨v3, m4, em4, h⟩ := h
    have C := ct_X3_here hΓ hT em4
    refine g_callVi hΓ.k vl_X3_39 hT C rfl rfl (Nat.le_of_ble_eq_true rfl) (Nat.le_of_ble_eq_true rfl) (Nat.le_of_ble_eq_true rfl) dX3_go_12 ?_
    replace hT := (C.1).kd hT
    refine g_bi (10) dX3_go_15 rfl ?_
    replace h := ite_of h; rcases h with ⟨hc, h⟩ | ⟨hc, h⟩
    · refine g_icneF dX3_go_17 rfl hc ?_
      refine G.weak [true, false, false, false] rfl ?_
      exact w_X3_go_20 hΓ hT h Hl Hr
    · refine g_icneT dX3_go_17 rfl hc ?_
      refine g_this dX3_go_33 rfl ?_
      refine g_this dX3_go_34 rfl ?_
      refine g_getI hΓ.k fl_X3_28_X3 rfl hT dX3_go_35 ?_
      replace h := bd_of h; obtain ⟨m5, em5, h⟩ := h
      refine g_pI hΓ.k fl_X3_43_X3 (fun h9 => by cases h9) rfl (Or.inl ⟨rfl, rfl⟩) em5 dX3_go_38 ?_
      replace hT := (pI_ext em5).kd hT
      refine g_this dX3_go_41 rfl ?_
      refine g_ic 0 dX3_go_42 rfl ?_
      replace h := bd2_of h; obtain ⟨v6, m7, em7, h⟩ := h
      have C := ct_X3_here hΓ hT em7
      refine g_callVi hΓ.k vl_X3_39 hT C rfl rfl (Nat.le_of_ble_eq_true rfl) (Nat.le_of_ble_eq_true rfl) (Nat.le_of_ble_eq_true rfl) dX3_go_43 ?_
      replace hT := (C.1).kd hT
      refine g_istore_n 1 dX3_go_46 rfl (Nat.le_of_ble_eq_true rfl) rfl ?_
      dsimp only [List.set]
      refine g_ic 0 dX3_go_47 rfl ?_
      refine g_istore_n 2 dX3_go_48 rfl (Nat.le_of_ble_eq_true rfl) rfl ?_
      dsimp only [List.set]
      refine g_this dX3_go_49 rfl ?_
      refine g_ic 3 dX3_go_50 rfl ?_
      replace h := bd_of h; obtain ⟨m8, em8, h⟩ := h
      refine g_pI hΓ.k fl_X3_46_X3 (fun h9 => by cases h9) rfl (Or.inl ⟨rfl, rfl⟩) em8 dX3_go_51 ?_
      replace hT := (pI_ext em8).kd hT
      refine g_iload_n 1 dX3_go_54 rfl rfl ?_
      replace h := ite_of h; rcases h with ⟨hc, h⟩ | ⟨hc, h⟩
      · refine g_ifgeT dX3_go_55 rfl hc ?_
        refine g_this dX3_go_66 rfl ?_
        refine g_ic 0 dX3_go_67 rfl ?_
        replace h := bd2_of h; obtain ⟨v9, m10, em10, h⟩ := h
        have C := ct_X3_isLetter hΓ hT em10
        refine g_callVi hΓ.k vl_X3_49 hT C rfl rfl (Nat.le_of_ble_eq_true rfl) (Nat.le_of_ble_eq_true rfl) (Nat.le_of_ble_eq_true rfl) dX3_go_68 ?_
        replace hT := (C.1).kd hT
        replace h := ite_of h; rcases h with ⟨hc, h⟩ | ⟨hc, h⟩
        · refine g_ifeqT dX3_go_71 rfl hc ?_
          refine g_this dX3_go_138 rfl ?_
          refine g_ic 0 dX3_go_139 rfl ?_
          replace h := bd2_of h; obtain ⟨v11, m12, em12, h⟩ := h
          have C := ct_X3_isDigit hΓ hT em12
          refine g_callVi hΓ.k vl_X3_66 hT C rfl rfl (Nat.le_of_ble_eq_true rfl) (Nat.le_of_ble_eq_true rfl) (Nat.le_of_ble_eq_true rfl) dX3_go_140 ?_
          replace hT := (C.1).kd hT
          replace h := ite_of h; rcases h with ⟨hc, h⟩ | ⟨hc, h⟩
          · refine g_ifeqT dX3_go_143 rfl hc ?_
            refine g_iload_n 1 dX3_go_212 rfl rfl ?_
            refine g_bi (59) dX3_go_213 rfl ?_
            replace h := ite_of h; rcases h with ⟨hc, h⟩ | ⟨hc, h⟩
            · refine g_iceqT dX3_go_215 rfl hc ?_
              refine G.weak [true, true, false, false] rfl ?_
              exact w_X3_go_224 hΓ hT h Hl Hr
            · refine g_iceqF dX3_go_215 rfl hc ?_
              refine g_iload_n 1 dX3_go_218 rfl rfl ?_
              refine g_bi (61) dX3_go_219 rfl ?_
              replace h := ite_of h; rcases h with ⟨hc, h⟩ | ⟨hc, h⟩
              · refine g_icneF dX3_go_221 rfl hc ?_
                refine G.weak [true, true, false, false] rfl ?_
                exact w_X3_go_224 hΓ hT h Hl Hr
              · refine g_icneT dX3_go_221 rfl hc ?_
                refine g_this dX3_go_231 rfl ?_
                refine g_dup dX3_go_232 rfl ?_
                refine g_getI hΓ.k fl_X3_28_X3 rfl hT dX3_go_233 ?_
                refine g_iload_n 2 dX3_go_236 rfl rfl ?_
                refine g_iadd dX3_go_237 ?_
                replace h := bd_of h; obtain ⟨m13, em13, h⟩ := h
                refine g_pI hΓ.k fl_X3_28_X3 (fun h9 => by cases h9) rfl (Or.inl ⟨rfl, rfl⟩) em13 dX3_go_238 ?_
                replace hT := (pI_ext em13).kd hT
                cases h
                cases Hr _ rfl
                exact g_vret rfl dX3_go_241
          · refine g_ifeqF dX3_go_143 rfl hc ?_
            refine g_this dX3_go_146 rfl ?_
            refine g_ic 0 dX3_go_147 rfl ?_
            replace h := bd_of h; obtain ⟨m14, em14, h⟩ := h
            refine g_pI hΓ.k fl_X3_69_X3 (fun h9 => by cases h9) rfl (Or.inl ⟨rfl, rfl⟩) em14 dX3_go_148 ?_
            replace hT := (pI_ext em14).kd hT
            cases h
            refine G.weak [true, false, true, false] rfl ?_
            exact Hl _ rfl hT
        · refine g_ifeqF dX3_go_71 rfl hc ?_
          replace h := bd_of h; obtain ⟨m15, em15, h⟩ := h
          refine g_nO hΓ.k nl_X3_53 ty_J4 em15 dX3_go_74 ?_
          replace hT := (nO_ext em15).kd hT
          refine g_dup dX3_go_77 (va_rf_cat _) ?_
          refine g_bi (8) dX3_go_78 rfl ?_
          replace h := bd_of h; obtain ⟨a16, ea16, h⟩ := h
          obtain ⟨ea16, ka16⟩ := isK_of ea16
          cases ea16
          replace h := bd2_of h; obtain ⟨_, m17, em17, h⟩ := h
          have C := ct_J4_init hΓ ka16 em17
          refine g_callI il_X3_55 C rfl rfl (Nat.le_of_ble_eq_true rfl) (Nat.le_of_ble_eq_true rfl) (Nat.le_of_ble_eq_true rfl) dX3_go_80 ?_
          replace hT := (C.1).kd hT
          refine g_astore_n 3 dX3_go_83 rfl (Nat.le_of_ble_eq_true rfl) rfl ?_
          dsimp only [List.set]
          cases h
          refine G.weak [true, false, true, true] rfl ?_
          exact Hl _ rfl hT
      · refine g_ifgeF dX3_go_55 rfl hc ?_
        refine g_this dX3_go_58 rfl ?_
        refine g_ic 0 dX3_go_59 rfl ?_
        replace h := bd_of h; obtain ⟨m18, em18, h⟩ := h
        refine g_pI hΓ.k fl_X3_46_X3 (fun h9 => by cases h9) rfl (Or.inl ⟨rfl, rfl⟩) em18 dX3_go_60 ?_
        replace hT := (pI_ext em18).kd hT
        refine g_goto dX3_go_63 rfl ?_
        refine g_this dX3_go_231 rfl ?_
        refine g_dup dX3_go_232 rfl ?_
        refine g_getI hΓ.k fl_X3_28_X3 rfl hT dX3_go_233 ?_
        refine g_iload_n 2 dX3_go_236 rfl rfl ?_
        refine g_iadd dX3_go_237 ?_
        replace h := bd_of h; obtain ⟨m19, em19, h⟩ := h
        refine g_pI hΓ.k fl_X3_28_X3 (fun h9 => by cases h9) rfl (Or.inl ⟨rfl, rfl⟩) em19 dX3_go_238 ?_
        replace hT := (pI_ext em19).kd hT
        cases h
        cases Hr _ rfl
        exact g_vret rfl dX3_go_241
theorem ct_X3_go {Γ : GG} (hΓ : GF Γ) {m mF : MM} {x : Nat} (hT : (m.K x).1 = 4) {r : Unit} (h : f_X3_go x m = some (r, mF)) : Ct Γ kX3_go cX3_go [.ref x] m (.inl none) mF := by
  unfold f_X3_go at h
  replace h := bd_of h; obtain ⟨q, e, h⟩ := h
  have H := rx_go_ind (P := p_X3_go Γ m mF x r) (fun z o hs Hl Hr => by
    match z with
    | (.inl m) => exact fun hT => w_X3_go_0 hΓ hT hs Hl Hr
    | (.inr (.inl (l2, l3, m))) => exact fun hT => w_X3_go_84 hΓ hT hs Hl Hr
    | (.inr (.inr (l2, m))) => exact fun hT => w_X3_go_151 hΓ hT hs Hl Hr) h
  exact Ct.of (κ := kX3_go) (by decide) rfl (Nat.le_of_ble_eq_true rfl) rfl (w_X3_go_0 hΓ hT e H.1 H.2)
set_option maxHeartbeats 4000000 in
theorem w_X3_is_0 {Γ : GG} (hΓ : GF Γ) {m0 mF m : MM} {x : Nat} {l1 : Option Nat} (hT : (m.K x).1 = 4) {r : Int32} (h : b_X3_is_0 x l1 m = some (r, mF)) : G Γ kX3_is cX3_is m0 mF (.inl (some (.int r))) m 0 [some (.ref x), some (va_rf l1)] [] := by
  unfold b_X3_is_0 at h
  refine g_this dX3_is_0 rfl ?_
  refine g_getI hΓ.k fl_X3_46_X3 rfl hT dX3_is_1 ?_
  refine g_ic 1 dX3_is_4 rfl ?_
  replace h := ite_of h; rcases h with ⟨hc, h⟩ | ⟨hc, h⟩
  · refine g_icneF dX3_is_5 rfl hc ?_
    refine g_this dX3_is_8 rfl ?_
    refine g_getR hΓ.k fl_X3_17_X3 rfl hT dX3_is_9 ?_
    refine g_aload_n 1 dX3_is_12 rfl rfl ?_
    replace h := bd_of h; obtain ⟨a1, ea1, h⟩ := h
    obtain ⟨ea1, ka1⟩ := isK_of ea1
    replace h := bd2_of h; obtain ⟨v2, m3, em3, h⟩ := h
    have C := ct_J5_equals hΓ ka1 em3
    refine g_callVi hΓ.k vl_X3_77 ka1 C rfl (by rw [ea1]; rfl) (Nat.le_of_ble_eq_true rfl) (Nat.le_of_ble_eq_true rfl) (Nat.le_of_ble_eq_true rfl) dX3_is_13 ?_
    replace hT := (C.1).kd hT
    replace h := ite_of h; rcases h with ⟨hc, h⟩ | ⟨hc, h⟩
    · refine g_ifeqT dX3_is_16 rfl hc ?_
      refine g_ic 0 dX3_is_23 rfl ?_
      cases h
      exact g_zret rfl (by decide) dX3_is_24
    · refine g_ifeqF dX3_is_16 rfl hc ?_
      refine g_ic 1 dX3_is_19 rfl ?_
      refine g_goto dX3_is_20 rfl ?_
      cases h
      exact g_zret rfl (by decide) dX3_is_24
  · refine g_icneT dX3_is_5 rfl hc ?_
    refine g_ic 0 dX3_is_23 rfl ?_
    cases h
    exact g_zret rfl (by decide) dX3_is_24
theorem ct_X3_is {Γ : GG} (hΓ : GF Γ) {m mF : MM} {x : Nat} {l1 : Option Nat} (hT : (m.K x).1 = 4) {r : Int32} (h : f_X3_is x l1 m = some (r, mF)) : Ct Γ kX3_is cX3_is [.ref x, va_rf l1] m (.inl (some (.int r))) mF := by
  unfold f_X3_is at h
  exact Ct.of (κ := kX3_is) (by decide) rfl (by cases l1 <;> exact Nat.le_of_ble_eq_true rfl) rfl (by have w9 := w_X3_is_0 (m0 := m) hΓ hT h; cases l1 <;> exact w9)
set_option maxHeartbeats 4000000 in
theorem w_X3_wrong_17 {Γ : GG} (hΓ : GF Γ) {m0 mF m : MM} {x : Nat} {s0 : Option Nat} {s1 : Option Nat} {s2 : Int32} (hT : (m.K x).1 = 4) {r : Option Nat} (h : b_X3_wrong_17 x s0 s1 s2 m = some (r, mF)) : G Γ kX3_wrong cX3_wrong m0 mF (.inl (some (va_rf r))) m 17 [some (.ref x)] [.int s2, va_rf s1, va_rf s0] := by
  unfold b_X3_wrong_17 at h
  refine g_this dX3_wrong_17 rfl ?_
  refine g_getI hΓ.k fl_X3_43_X3 rfl hT dX3_wrong_18 ?_
  replace h := bd_of h; obtain ⟨a1, ea1, h⟩ := h
  obtain ⟨ea1, ka1⟩ := isK_of ea1
  cases ea1
  replace h := bd2_of h; obtain ⟨_, m2, em2, h⟩ := h
  have C := ct_X4_init hΓ ka1 em2
  refine g_callI il_X3_74 C rfl rfl (Nat.le_of_ble_eq_true rfl) (Nat.le_of_ble_eq_true rfl) (Nat.le_of_ble_eq_true rfl) dX3_wrong_21 ?_
  replace hT := (C.1).kd hT
  cases h
  exact g_aret rfl (Or.inl ⟨_, rfl⟩) dX3_wrong_24
set_option maxHeartbeats 4000000 in
theorem w_X3_wrong_0 {Γ : GG} (hΓ : GF Γ) {m0 mF m : MM} {x : Nat} (hT : (m.K x).1 = 4) {r : Option Nat} (h : b_X3_wrong_0 x m = some (r, mF)) : G Γ kX3_wrong cX3_wrong m0 mF (.inl (some (va_rf r))) m 0 [some (.ref x)] [] := by
  unfold b_X3_wrong_0 at h
  replace h := bd_of h; obtain ⟨m1, em1, h⟩ := h
  refine g_nO hΓ.k nl_X3_72 ty_X4 em1 dX3_wrong_0 ?_
  replace hT := (nO_ext em1).kd hT
  refine g_dup dX3_wrong_3 (va_rf_cat _) ?_
  refine g_this dX3_wrong_4 rfl ?_
  refine g_getI hΓ.k fl_X3_46_X3 rfl hT dX3_wrong_5 ?_
  refine g_ic 3 dX3_wrong_8 rfl ?_
  replace h := ite_of h; rcases h with ⟨hc, h⟩ | ⟨hc, h⟩
  · refine g_icneF dX3_wrong_9 rfl hc ?_
    refine g_ic 1 dX3_wrong_12 rfl ?_
    refine g_goto dX3_wrong_13 rfl ?_
    refine G.weak [true] rfl ?_
    exact w_X3_wrong_17 hΓ hT h
  · refine g_icneT dX3_wrong_9 rfl hc ?_
    refine g_ic 2 dX3_wrong_16 rfl ?_
    refine G.weak [true] rfl ?_
    exact w_X3_wrong_17 hΓ hT h
theorem ct_X3_wrong {Γ : GG} (hΓ : GF Γ) {m mF : MM} {x : Nat} (hT : (m.K x).1 = 4) {r : Option Nat} (h : f_X3_wrong x m = some (r, mF)) : Ct Γ kX3_wrong cX3_wrong [.ref x] m (.inl (some (va_rf r))) mF := by
  unfold f_X3_wrong at h
  exact Ct.of (κ := kX3_wrong) (by decide) rfl (Nat.le_of_ble_eq_true rfl) rfl (w_X3_wrong_0 hΓ hT h)
set_option maxHeartbeats 4000000 in
theorem w_X3_number_29 {Γ : GG} (hΓ : GF Γ) {m0 mF m : MM} {x : Nat} {l1 : Int32} {l2 : Int32} (hT : (m.K x).1 = 4) {r : Int32 ⊕ Nat} (h : b_X3_number_29 x l1 l2 m = some (r, mF)) : G Γ kX3_number cX3_number m0 mF (oci r) m 29 [some (.ref x), some (.int l1), some (.int l2), none] [] := by
  unfold b_X3_number_29 at h
  replace h := bd_of h; obtain ⟨m1, em1, h⟩ := h
  refine g_nO hΓ.k nl_X3_72 ty_X4 em1 dX3_number_29 ?_
  replace hT := (nO_ext em1).kd hT
  refine g_dup dX3_number_32 (va_rf_cat _) ?_
  refine g_ic 4 dX3_number_33 rfl ?_
  refine g_this dX3_number_34 rfl ?_
  refine g_getI hΓ.k fl_X3_43_X3 rfl hT dX3_number_35 ?_
  replace h := bd_of h; obtain ⟨a2, ea2, h⟩ := h
  obtain ⟨ea2, ka2⟩ := isK_of ea2
  cases ea2
  replace h := bd2_of h; obtain ⟨_, m3, em3, h⟩ := h
  have C := ct_X4_init hΓ ka2 em3
  refine g_callI il_X3_74 C rfl rfl (Nat.le_of_ble_eq_true rfl) (Nat.le_of_ble_eq_true rfl) (Nat.le_of_ble_eq_true rfl) dX3_number_38 ?_
  replace hT := (C.1).kd hT
  replace h := bd_of h; obtain ⟨q4, eq4, h⟩ := h
  cases h
  exact g_athrowR eq4 rfl dX3_number_41
set_option maxHeartbeats 4000000 in
theorem w_X3_number_0 {Γ : GG} (hΓ : GF Γ) {m0 mF m : MM} {x : Nat} {l1 : Int32} {l2 : Int32} (hT : (m.K x).1 = 4) {r : Int32 ⊕ Nat} (h : b_X3_number_0 x l1 l2 m = some (r, mF)) : G Γ kX3_number cX3_number m0 mF (oci r) m 0 [some (.ref x), some (.int l1), some (.int l2), none] [] := by
  unfold b_X3_number_0 at h
  refine g_this dX3_number_0 rfl ?_
  refine g_getI hΓ.k fl_X3_46_X3 rfl hT dX3_number_1 ?_
  refine g_ic 2 dX3_number_4 rfl ?_
  replace h := ite_of h; rcases h with ⟨hc, h⟩ | ⟨hc, h⟩
  · refine g_iceqT dX3_number_5 rfl hc ?_
    refine g_this dX3_number_13 rfl ?_
    refine g_getI hΓ.k fl_X3_69_X3 rfl hT dX3_number_14 ?_
    refine g_iload_n 1 dX3_number_17 rfl rfl ?_
    replace h := ite_of h; rcases h with ⟨hc, h⟩ | ⟨hc, h⟩
    · refine g_icltT dX3_number_18 rfl hc ?_
      refine G.weak [true, true, true, false] rfl ?_
      exact w_X3_number_29 hΓ hT h
    · refine g_icltF dX3_number_18 rfl hc ?_
      refine g_this dX3_number_21 rfl ?_
      refine g_getI hΓ.k fl_X3_69_X3 rfl hT dX3_number_22 ?_
      refine g_iload_n 2 dX3_number_25 rfl rfl ?_
      replace h := ite_of h; rcases h with ⟨hc, h⟩ | ⟨hc, h⟩
      · refine g_icleT dX3_number_26 rfl hc ?_
        refine g_this dX3_number_42 rfl ?_
        refine g_getI hΓ.k fl_X3_69_X3 rfl hT dX3_number_43 ?_
        refine g_istore_n 3 dX3_number_46 rfl (Nat.le_of_ble_eq_true rfl) rfl ?_
        dsimp only [List.set]
        refine g_this dX3_number_47 rfl ?_
        replace h := bd2_of h; obtain ⟨_, m1, em1, h⟩ := h
        have C := ct_X3_go hΓ hT em1
        refine g_callVv hΓ.k vl_X3_87 hT C rfl rfl (Nat.le_of_ble_eq_true rfl) (Nat.le_of_ble_eq_true rfl) (Nat.le_of_ble_eq_true rfl) dX3_number_48 ?_
        replace hT := (C.1).kd hT
        refine g_iload_n 3 dX3_number_51 rfl rfl ?_
        cases h
        exact g_iret rfl dX3_number_52
      · refine g_icleF dX3_number_26 rfl hc ?_
        refine G.weak [true, true, true, false] rfl ?_
        exact w_X3_number_29 hΓ hT h
  · refine g_iceqF dX3_number_5 rfl hc ?_
    refine g_this dX3_number_8 rfl ?_
    replace h := bd2_of h; obtain ⟨v2, m3, em3, h⟩ := h
    have C := ct_X3_wrong hΓ hT em3
    refine g_callVr hΓ.k vl_X3_83 hT C rfl rfl (Nat.le_of_ble_eq_true rfl) (Nat.le_of_ble_eq_true rfl) (Nat.le_of_ble_eq_true rfl) dX3_number_9 ?_
    replace hT := (C.1).kd hT
    replace h := bd_of h; obtain ⟨q4, eq4, h⟩ := h
    cases h
    exact g_athrowR eq4 rfl dX3_number_12
theorem ct_X3_number {Γ : GG} (hΓ : GF Γ) {m mF : MM} {x : Nat} {l1 : Int32} {l2 : Int32} (hT : (m.K x).1 = 4) {r : Int32 ⊕ Nat} (h : f_X3_number x l1 l2 m = some (r, mF)) : Ct Γ kX3_number cX3_number [.ref x, .int l1, .int l2] m (oci r) mF := by
  unfold f_X3_number at h
  exact Ct.of (κ := kX3_number) (by decide) rfl (Nat.le_of_ble_eq_true rfl) rfl (w_X3_number_0 hΓ hT h)
set_option maxHeartbeats 4000000 in
theorem w_X3_length_0 {Γ : GG} (hΓ : GF Γ) {m0 mF m : MM} {x : Nat} (hT : (m.K x).1 = 4) {r : Unit ⊕ Nat} (h : b_X3_length_0 x m = some (r, mF)) : G Γ kX3_length cX3_length m0 mF (ocv r) m 0 [some (.ref x)] [] := by
  unfold b_X3_length_0 at h
  refine g_this dX3_length_0 rfl ?_
  replace h := bd2_of h; obtain ⟨_, m1, em1, h⟩ := h
  have C := ct_X3_go hΓ hT em1
  refine g_callVv hΓ.k vl_X3_87 hT C rfl rfl (Nat.le_of_ble_eq_true rfl) (Nat.le_of_ble_eq_true rfl) (Nat.le_of_ble_eq_true rfl) dX3_length_1 ?_
  replace hT := (C.1).kd hT
  refine g_this dX3_length_4 rfl ?_
  refine g_getR hΓ.k fl_X3_24_X3 rfl hT dX3_length_5 ?_
  refine g_this dX3_length_8 rfl ?_
  refine g_ic 1 dX3_length_9 rfl ?_
  refine g_bi (6) dX3_length_10 rfl ?_
  replace h := bdx_of h; rcases h with ⟨v2, m3, em3, h⟩ | ⟨q9, m3, em3, h⟩
  · have C := ct_X3_number hΓ hT em3
    refine g_callVi hΓ.k vl_X3_151 hT C rfl rfl (Nat.le_of_ble_eq_true rfl) (Nat.le_of_ble_eq_true rfl) (Nat.le_of_ble_eq_true rfl) dX3_length_12 ?_
    replace hT := C.1.kd hT
    replace h := bd_of h; obtain ⟨m4, em4, h⟩ := h
    refine g_pI hΓ.k fl_X3_139_X1 (fun h9 => by cases h9) rfl (Or.inl ⟨rfl, rfl⟩) em4 dX3_length_15 ?_
    replace hT := (pI_ext em4).kd hT
    cases h
    exact g_vret rfl dX3_length_18
  · have C := ct_X3_number hΓ hT em3
    cases h
    exact g_outV hΓ.k rfl vl_X3_151 hT C rfl rfl (Nat.le_of_ble_eq_true rfl) (Nat.le_of_ble_eq_true rfl) (Nat.le_of_ble_eq_true rfl) dX3_length_12
theorem ct_X3_length {Γ : GG} (hΓ : GF Γ) {m mF : MM} {x : Nat} (hT : (m.K x).1 = 4) {r : Unit ⊕ Nat} (h : f_X3_length x m = some (r, mF)) : Ct Γ kX3_length cX3_length [.ref x] m (ocv r) mF := by
  unfold f_X3_length at h
  exact Ct.of (κ := kX3_length) (by decide) rfl (Nat.le_of_ble_eq_true rfl) rfl (w_X3_length_0 hΓ hT h)
def p_J7_signedHashCode (Γ : GG) (m0 mF : MM) (l1 : Option Nat) (l2 : Int32) (l3 : Int32) (r : Int32) : ((Int32 × Int32 × Int32 × MM)) → Prop := fun z => match z with
  | (l0, l4, l5, m) => G Γ kJ7_signedHashCode cJ7_signedHashCode m0 mF (.inl (some (.int r))) m 8 [some (.int l0), some (va_rf l1), some (.int l2), some (.int l3), some (.int l4), some (.int l5)] []
set_option maxHeartbeats 4000000 in
theorem w_J7_signedHashCode_8 {Γ : GG} (hΓ : GF Γ) {m0 mF m : MM} {l1 : Option Nat} {l2 : Int32} {l3 : Int32} {l0 : Int32} {l4 : Int32} {l5 : Int32} {r : Int32} {q : ((Int32 × Int32 × Int32 × MM)) ⊕ (Int32 × MM)} (h : b_J7_signedHashCode_8 l1 l2 l3 l0 l4 l5 m = some q) (Hl : ∀ z, q = .inl z → p_J7_signedHashCode Γ m0 mF l1 l2 l3 r z) (Hr : ∀ z, q = .inr z → z = (r, mF)) : G Γ kJ7_signedHashCode cJ7_signedHashCode m0 mF (.inl (some (.int r))) m 8 [some (.int l0), some (va_rf l1), some (.int l2), some (.int l3), some (.int l4), some (.int l5)] [] := by
  unfold b_J7_signedHashCode_8 at h
  refine g_iload dJ7_signedHashCode_8 rfl ?_
  refine g_iload dJ7_signedHashCode_10 rfl ?_
  replace h := ite_of h; rcases h with ⟨hc, h⟩ | ⟨hc, h⟩
  · refine g_icgeT dJ7_signedHashCode_12 rfl hc ?_
    refine g_iload_n 0 dJ7_signedHashCode_35 rfl rfl ?_
    cases h
    cases Hr _ rfl
    exact g_iret rfl dJ7_signedHashCode_36
  · refine g_icgeF dJ7_signedHashCode_12 rfl hc ?_
    refine g_bi (31) dJ7_signedHashCode_15 rfl ?_
    refine g_iload_n 0 dJ7_signedHashCode_17 rfl rfl ?_
    refine g_imul dJ7_signedHashCode_18 ?_
    refine g_aload_n 1 dJ7_signedHashCode_19 rfl rfl ?_
    refine g_iload dJ7_signedHashCode_20 rfl ?_
    replace h := bd_of h; obtain ⟨v1, ev1, h⟩ := h
    refine g_bald ev1 dJ7_signedHashCode_22 ?_
    refine g_si (255) dJ7_signedHashCode_23 rfl ?_
    refine g_iand dJ7_signedHashCode_26 ?_
    refine g_iadd dJ7_signedHashCode_27 ?_
    refine g_istore_n 0 dJ7_signedHashCode_28 rfl (Nat.le_of_ble_eq_true rfl) rfl ?_
    dsimp only [List.set]
    refine g_iinc (l5 + (1 : Int32)) dJ7_signedHashCode_29 rfl rfl (Nat.le_of_ble_eq_true rfl) rfl ?_
    dsimp only [List.set]
    refine g_goto dJ7_signedHashCode_32 rfl ?_
    cases h
    refine G.weak [true, true, true, true, true, true] rfl ?_
    exact Hl _ rfl
set_option maxHeartbeats 4000000 in
theorem w_J7_signedHashCode_0 {Γ : GG} (hΓ : GF Γ) {m0 mF m : MM} {l1 : Option Nat} {l2 : Int32} {l3 : Int32} {l0 : Int32} {r : Int32} {q : ((Int32 × Int32 × Int32 × MM)) ⊕ (Int32 × MM)} (h : b_J7_signedHashCode_0 l1 l2 l3 l0 m = some q) (Hl : ∀ z, q = .inl z → p_J7_signedHashCode Γ m0 mF l1 l2 l3 r z) (Hr : ∀ z, q = .inr z → z = (r, mF)) : G Γ kJ7_signedHashCode cJ7_signedHashCode m0 mF (.inl (some (.int r))) m 0 [some (.int l0), some (va_rf l1), some (.int l2), some (.int l3), none, none] [] := by
  unfold b_J7_signedHashCode_0 at h
  refine g_iload_n 2 dJ7_signedHashCode_0 rfl rfl ?_
  refine g_iload_n 3 dJ7_signedHashCode_1 rfl rfl ?_
  refine g_iadd dJ7_signedHashCode_2 ?_
  refine g_istore dJ7_signedHashCode_3 (Nat.le_of_ble_eq_true rfl) rfl ?_
  dsimp only [List.set]
  refine g_iload_n 2 dJ7_signedHashCode_5 rfl rfl ?_
  refine g_istore dJ7_signedHashCode_6 (Nat.le_of_ble_eq_true rfl) rfl ?_
  dsimp only [List.set]
  cases h
  refine G.weak [true, true, true, true, true, true] rfl ?_
  exact Hl _ rfl
theorem ct_J7_signedHashCode {Γ : GG} (hΓ : GF Γ) {m mF : MM} {l0 : Int32} {l1 : Option Nat} {l2 : Int32} {l3 : Int32} {r : Int32} (h : f_J7_signedHashCode l0 l1 l2 l3 m = some (r, mF)) : Ct Γ kJ7_signedHashCode cJ7_signedHashCode [.int l0, va_rf l1, .int l2, .int l3] m (.inl (some (.int r))) mF := by
  unfold f_J7_signedHashCode at h
  replace h := bd_of h; obtain ⟨q, e, h⟩ := h
  have H := rx_go_ind (P := p_J7_signedHashCode Γ m mF l1 l2 l3 r) (fun z o hs Hl Hr => by
    match z with
    | (l0, l4, l5, m) => exact w_J7_signedHashCode_8 hΓ hs Hl Hr) h
  exact Ct.of (κ := kJ7_signedHashCode) (by decide) rfl (by cases l1 <;> exact Nat.le_of_ble_eq_true rfl) rfl (by have w9 := w_J7_signedHashCode_0 (m0 := m) hΓ e H.1 H.2; cases l1 <;> exact w9)
set_option maxHeartbeats 4000000 in
theorem w_J7_vectorizedHashCode_0 {Γ : GG} (hΓ : GF Γ) {m0 mF m : MM} {l0 : Option Nat} {l1 : Int32} {l2 : Int32} {l3 : Int32} {l4 : Int32} {r : Int32} (h : b_J7_vectorizedHashCode_0 l0 l1 l2 l3 l4 m = some (r, mF)) : G Γ kJ7_vectorizedHashCode cJ7_vectorizedHashCode m0 mF (.inl (some (.int r))) m 0 [some (va_rf l0), some (.int l1), some (.int l2), some (.int l3), some (.int l4)] [] := by
  unfold b_J7_vectorizedHashCode_0 at h
  refine g_iload dJ7_vectorizedHashCode_0 rfl ?_
  replace h := ite_of h; rcases h with ⟨hc, h⟩ | ⟨hc4, h⟩
  · refine g_tabIn (v := 4) dJ7_vectorizedHashCode_2 hc (by decide) (by decide) rfl rfl ?_
    refine g_iload_n 3 dJ7_vectorizedHashCode_44 rfl rfl ?_
    refine g_aload_n 0 dJ7_vectorizedHashCode_45 rfl rfl ?_
    replace h := ite_of h; rcases h with ⟨hc, h⟩ | ⟨hc, h⟩
    · refine g_castZ hΓ q643 ⟨by decide, by decide⟩ rfl hc dJ7_vectorizedHashCode_46 ?_
      refine g_iload_n 1 dJ7_vectorizedHashCode_49 rfl rfl ?_
      refine g_iload_n 2 dJ7_vectorizedHashCode_50 rfl rfl ?_
      replace h := bd2_of h; obtain ⟨v1, m2, em2, h⟩ := h
      have C := ct_J7_signedHashCode hΓ em2
      refine g_callSi sl_J7_62 C rfl rfl (Nat.le_of_ble_eq_true rfl) (Nat.le_of_ble_eq_true rfl) (Nat.le_of_ble_eq_true rfl) dJ7_vectorizedHashCode_51 ?_
      refine g_goto dJ7_vectorizedHashCode_54 rfl ?_
      cases h
      exact g_iret rfl dJ7_vectorizedHashCode_157
    · cases h
  replace h := ite_of h; rcases h with ⟨hc, h⟩ | ⟨hc5, h⟩
  · refine g_tabIn (v := 5) dJ7_vectorizedHashCode_2 hc (by decide) (by decide) rfl rfl ?_
    cases h
  replace h := ite_of h; rcases h with ⟨hc, h⟩ | ⟨hc6, h⟩
  · refine g_tabIn (v := 6) dJ7_vectorizedHashCode_2 hc (by decide) (by decide) rfl rfl ?_
    cases h
  replace h := ite_of h; rcases h with ⟨hc, h⟩ | ⟨hc7, h⟩
  · refine g_tabIn (v := 7) dJ7_vectorizedHashCode_2 hc (by decide) (by decide) rfl rfl ?_
    cases h
  replace h := ite_of h; rcases h with ⟨hc, h⟩ | ⟨hc8, h⟩
  · refine g_tabIn (v := 8) dJ7_vectorizedHashCode_2 hc (by decide) (by decide) rfl rfl ?_
    cases h
  replace h := ite_of h; rcases h with ⟨hc, h⟩ | ⟨hc9, h⟩
  · refine g_tabIn (v := 9) dJ7_vectorizedHashCode_2 hc (by decide) (by decide) rfl rfl ?_
    cases h
  replace h := ite_of h; rcases h with ⟨hc, h⟩ | ⟨hc10, h⟩
  · refine g_tabIn (v := 10) dJ7_vectorizedHashCode_2 hc (by decide) (by decide) rfl rfl ?_
    cases h
  refine g_tabOut dJ7_vectorizedHashCode_2 (tab_out 4 7 (by decide) (by decide) (fun j hj => by
    match j, hj with
    | 0, _ => exact hc4
    | 1, _ => exact hc5
    | 2, _ => exact hc6
    | 3, _ => exact hc7
    | 4, _ => exact hc8
    | 5, _ => exact hc9
    | 6, _ => exact hc10
    | j + 7, hj => exact absurd hj (by omega)) rfl) rfl ?_
  cases h
theorem ct_J7_vectorizedHashCode {Γ : GG} (hΓ : GF Γ) {m mF : MM} {l0 : Option Nat} {l1 : Int32} {l2 : Int32} {l3 : Int32} {l4 : Int32} {r : Int32} (h : f_J7_vectorizedHashCode l0 l1 l2 l3 l4 m = some (r, mF)) : Ct Γ kJ7_vectorizedHashCode cJ7_vectorizedHashCode [va_rf l0, .int l1, .int l2, .int l3, .int l4] m (.inl (some (.int r))) mF := by
  unfold f_J7_vectorizedHashCode at h
  exact Ct.of (κ := kJ7_vectorizedHashCode) (by decide) rfl (by cases l0 <;> exact Nat.le_of_ble_eq_true rfl) rfl (by have w9 := w_J7_vectorizedHashCode_0 (m0 := m) hΓ h; cases l0 <;> exact w9)
set_option maxHeartbeats 4000000 in
theorem w_J10_hashCode_0 {Γ : GG} (hΓ : GF Γ) {m0 mF m : MM} {l0 : Option Nat} {r : Int32} (h : b_J10_hashCode_0 l0 m = some (r, mF)) : G Γ kJ10_hashCode cJ10_hashCode m0 mF (.inl (some (.int r))) m 0 [some (va_rf l0)] [] := by
  unfold b_J10_hashCode_0 at h
  refine g_aload_n 0 dJ10_hashCode_0 rfl rfl ?_
  replace h := bd_of h; obtain ⟨v1, ev1, h⟩ := h
  refine g_alen (Nat.le_of_ble_eq_true rfl) ev1 dJ10_hashCode_1 ?_
  replace h := ite_of h; rcases h with ⟨hc, h⟩ | ⟨hk0, h⟩
  · refine g_lookup dJ10_hashCode_2 (by decide) (by rw [hc] <;> rfl) rfl ?_
    refine g_ic 0 dJ10_hashCode_28 rfl ?_
    refine g_goto dJ10_hashCode_29 rfl ?_
    cases h
    exact g_iret rfl dJ10_hashCode_51
  replace h := ite_of h; rcases h with ⟨hc, h⟩ | ⟨hk1, h⟩
  · refine g_lookup dJ10_hashCode_2 (by decide) (by rw [hc] <;> rfl) rfl ?_
    refine g_aload_n 0 dJ10_hashCode_32 rfl rfl ?_
    refine g_ic 0 dJ10_hashCode_33 rfl ?_
    replace h := bd_of h; obtain ⟨v2, ev2, h⟩ := h
    refine g_bald ev2 dJ10_hashCode_34 ?_
    refine g_si (255) dJ10_hashCode_35 rfl ?_
    refine g_iand dJ10_hashCode_38 ?_
    refine g_goto dJ10_hashCode_39 rfl ?_
    cases h
    exact g_iret rfl dJ10_hashCode_51
  refine g_lookup dJ10_hashCode_2 (by decide) ((lv_osw hk0 rfl).trans ((lv_osw hk1 rfl).trans rfl)) rfl ?_
  refine g_aload_n 0 dJ10_hashCode_42 rfl rfl ?_
  refine g_ic 0 dJ10_hashCode_43 rfl ?_
  refine g_aload_n 0 dJ10_hashCode_44 rfl rfl ?_
  replace h := bd_of h; obtain ⟨v3, ev3, h⟩ := h
  refine g_alen (Nat.le_of_ble_eq_true rfl) ev3 dJ10_hashCode_45 ?_
  refine g_ic 0 dJ10_hashCode_46 rfl ?_
  refine g_ic 4 dJ10_hashCode_47 rfl ?_
  replace h := bd2_of h; obtain ⟨v4, m5, em5, h⟩ := h
  have C := ct_J7_vectorizedHashCode hΓ em5
  refine g_callSi sl_J10_84 C rfl rfl (Nat.le_of_ble_eq_true rfl) (Nat.le_of_ble_eq_true rfl) (Nat.le_of_ble_eq_true rfl) dJ10_hashCode_48 ?_
  cases h
  exact g_iret rfl dJ10_hashCode_51
theorem ct_J10_hashCode {Γ : GG} (hΓ : GF Γ) {m mF : MM} {l0 : Option Nat} {r : Int32} (h : f_J10_hashCode l0 m = some (r, mF)) : Ct Γ kJ10_hashCode cJ10_hashCode [va_rf l0] m (.inl (some (.int r))) mF := by
  unfold f_J10_hashCode at h
  exact Ct.of (κ := kJ10_hashCode) (by decide) rfl (by cases l0 <;> exact Nat.le_of_ble_eq_true rfl) rfl (by have w9 := w_J10_hashCode_0 (m0 := m) hΓ h; cases l0 <;> exact w9)
set_option maxHeartbeats 4000000 in
theorem w_J5_isLatin1_0 {Γ : GG} (hΓ : GF Γ) {m0 mF m : MM} {x : Nat} (hT : (m.K x).1 = 11) {r : Int32} (h : b_J5_isLatin1_0 x m = some (r, mF)) : G Γ kJ5_isLatin1 cJ5_isLatin1 m0 mF (.inl (some (.int r))) m 0 [some (.ref x)] [] := by
  unfold b_J5_isLatin1_0 at h
  refine g_getsI hΓ.cs q569 dJ5_isLatin1_0 ?_
  replace h := ite_of h; rcases h with ⟨hc, h⟩ | ⟨hc, h⟩
  · refine g_ifeqT dJ5_isLatin1_3 rfl hc ?_
    refine g_ic 0 dJ5_isLatin1_17 rfl ?_
    cases h
    exact g_zret rfl (by decide) dJ5_isLatin1_18
  · refine g_ifeqF dJ5_isLatin1_3 rfl hc ?_
    refine g_this dJ5_isLatin1_6 rfl ?_
    refine g_getI hΓ.k fl_J5_15_J5 rfl hT dJ5_isLatin1_7 ?_
    replace h := ite_of h; rcases h with ⟨hc, h⟩ | ⟨hc, h⟩
    · refine g_ifneF dJ5_isLatin1_10 rfl hc ?_
      refine g_ic 1 dJ5_isLatin1_13 rfl ?_
      refine g_goto dJ5_isLatin1_14 rfl ?_
      cases h
      exact g_zret rfl (by decide) dJ5_isLatin1_18
    · refine g_ifneT dJ5_isLatin1_10 rfl hc ?_
      refine g_ic 0 dJ5_isLatin1_17 rfl ?_
      cases h
      exact g_zret rfl (by decide) dJ5_isLatin1_18
theorem ct_J5_isLatin1 {Γ : GG} (hΓ : GF Γ) {m mF : MM} {x : Nat} (hT : (m.K x).1 = 11) {r : Int32} (h : f_J5_isLatin1 x m = some (r, mF)) : Ct Γ kJ5_isLatin1 cJ5_isLatin1 [.ref x] m (.inl (some (.int r))) mF := by
  unfold f_J5_isLatin1 at h
  exact Ct.of (κ := kJ5_isLatin1) (by decide) rfl (Nat.le_of_ble_eq_true rfl) rfl (w_J5_isLatin1_0 hΓ hT h)
set_option maxHeartbeats 4000000 in
theorem w_J5_hashCode_0 {Γ : GG} (hΓ : GF Γ) {m0 mF m : MM} {x : Nat} (hT : (m.K x).1 = 11) {r : Int32} (h : b_J5_hashCode_0 x m = some (r, mF)) : G Γ kJ5_hashCode cJ5_hashCode m0 mF (.inl (some (.int r))) m 0 [some (.ref x), none] [] := by
  unfold b_J5_hashCode_0 at h
  refine g_this dJ5_hashCode_0 rfl ?_
  refine g_getI hΓ.k fl_J5_19_J5 rfl hT dJ5_hashCode_1 ?_
  refine g_istore_n 1 dJ5_hashCode_4 rfl (Nat.le_of_ble_eq_true rfl) rfl ?_
  dsimp only [List.set]
  refine g_iload_n 1 dJ5_hashCode_5 rfl rfl ?_
  replace h := ite_of h; rcases h with ⟨hc, h⟩ | ⟨hc, h⟩
  · refine g_ifneF dJ5_hashCode_6 rfl hc ?_
    refine g_this dJ5_hashCode_9 rfl ?_
    refine g_getI hΓ.k fl_J5_23_J5 rfl hT dJ5_hashCode_10 ?_
    replace h := ite_of h; rcases h with ⟨hc, h⟩ | ⟨hc, h⟩
    · refine g_ifneF dJ5_hashCode_13 rfl hc ?_
      refine g_this dJ5_hashCode_16 rfl ?_
      replace h := bd2_of h; obtain ⟨v1, m2, em2, h⟩ := h
      have C := ct_J5_isLatin1 hΓ hT em2
      refine g_callVi hΓ.k vl_J5_492 hT C rfl rfl (Nat.le_of_ble_eq_true rfl) (Nat.le_of_ble_eq_true rfl) (Nat.le_of_ble_eq_true rfl) dJ5_hashCode_17 ?_
      replace hT := (C.1).kd hT
      replace h := ite_of h; rcases h with ⟨hc, h⟩ | ⟨hc, h⟩
      · refine g_ifeqT dJ5_hashCode_20 rfl hc ?_
        cases h
      · refine g_ifeqF dJ5_hashCode_20 rfl hc ?_
        refine g_this dJ5_hashCode_23 rfl ?_
        refine g_getR hΓ.k fl_J5_9_J5 rfl hT dJ5_hashCode_24 ?_
        replace h := bd2_of h; obtain ⟨v3, m4, em4, h⟩ := h
        have C := ct_J10_hashCode hΓ em4
        refine g_callSi sl_J5_628 C rfl rfl (Nat.le_of_ble_eq_true rfl) (Nat.le_of_ble_eq_true rfl) (Nat.le_of_ble_eq_true rfl) dJ5_hashCode_27 ?_
        replace hT := (C.1).kd hT
        refine g_goto dJ5_hashCode_30 rfl ?_
        refine g_istore_n 1 dJ5_hashCode_40 rfl (Nat.le_of_ble_eq_true rfl) rfl ?_
        dsimp only [List.set]
        refine g_iload_n 1 dJ5_hashCode_41 rfl rfl ?_
        replace h := ite_of h; rcases h with ⟨hc, h⟩ | ⟨hc, h⟩
        · refine g_ifneF dJ5_hashCode_42 rfl hc ?_
          refine g_this dJ5_hashCode_45 rfl ?_
          refine g_ic 1 dJ5_hashCode_46 rfl ?_
          replace h := bd_of h; obtain ⟨m6, em6, h⟩ := h
          refine g_pI hΓ.k fl_J5_23_J5 (fun h9 => by cases h9) rfl (Or.inr (Or.inr ⟨rfl, rfl⟩)) em6 dJ5_hashCode_47 ?_
          replace hT := (pI_ext em6).kd hT
          refine g_goto dJ5_hashCode_50 rfl ?_
          refine g_iload_n 1 dJ5_hashCode_58 rfl rfl ?_
          cases h
          exact g_iret rfl dJ5_hashCode_59
        · refine g_ifneT dJ5_hashCode_42 rfl hc ?_
          refine g_this dJ5_hashCode_53 rfl ?_
          refine g_iload_n 1 dJ5_hashCode_54 rfl rfl ?_
          replace h := bd_of h; obtain ⟨m5, em5, h⟩ := h
          refine g_pI hΓ.k fl_J5_19_J5 (fun h9 => by cases h9) rfl (Or.inl ⟨rfl, rfl⟩) em5 dJ5_hashCode_55 ?_
          replace hT := (pI_ext em5).kd hT
          refine g_iload_n 1 dJ5_hashCode_58 rfl rfl ?_
          cases h
          exact g_iret rfl dJ5_hashCode_59
    · refine g_ifneT dJ5_hashCode_13 rfl hc ?_
      refine g_iload_n 1 dJ5_hashCode_58 rfl rfl ?_
      cases h
      exact g_iret rfl dJ5_hashCode_59
  · refine g_ifneT dJ5_hashCode_6 rfl hc ?_
    refine g_iload_n 1 dJ5_hashCode_58 rfl rfl ?_
    cases h
    exact g_iret rfl dJ5_hashCode_59
theorem ct_J5_hashCode {Γ : GG} (hΓ : GF Γ) {m mF : MM} {x : Nat} (hT : (m.K x).1 = 11) {r : Int32} (h : f_J5_hashCode x m = some (r, mF)) : Ct Γ kJ5_hashCode cJ5_hashCode [.ref x] m (.inl (some (.int r))) mF := by
  unfold f_J5_hashCode at h
  exact Ct.of (κ := kJ5_hashCode) (by decide) rfl (Nat.le_of_ble_eq_true rfl) rfl (w_J5_hashCode_0 hΓ hT h)
set_option maxHeartbeats 4000000 in
theorem w_X3_isName_161 {Γ : GG} (hΓ : GF Γ) {m0 mF m : MM} {x : Nat} {l2 : Int32} (hT : (m.K x).1 = 4) {r : Int32} (h : b_X3_isName_161 x l2 m = some (r, mF)) : G Γ kX3_isName cX3_isName m0 mF (.inl (some (.int r))) m 161 [some (.ref x), none, some (.int l2)] [] := by
  unfold b_X3_isName_161 at h
  refine g_iload_n 2 dX3_isName_161 rfl rfl ?_
  replace h := ite_of h; rcases h with ⟨hc, h⟩ | ⟨hc0, h⟩
  · refine g_tabIn (v := 0) dX3_isName_162 hc (by decide) (by decide) rfl rfl ?_
    refine g_ic 0 dX3_isName_200 rfl ?_
    cases h
    exact g_zret rfl (by decide) dX3_isName_201
  replace h := ite_of h; rcases h with ⟨hc, h⟩ | ⟨hc1, h⟩
  · refine g_tabIn (v := 1) dX3_isName_162 hc (by decide) (by decide) rfl rfl ?_
    refine g_ic 0 dX3_isName_200 rfl ?_
    cases h
    exact g_zret rfl (by decide) dX3_isName_201
  replace h := ite_of h; rcases h with ⟨hc, h⟩ | ⟨hc2, h⟩
  · refine g_tabIn (v := 2) dX3_isName_162 hc (by decide) (by decide) rfl rfl ?_
    refine g_ic 0 dX3_isName_200 rfl ?_
    cases h
    exact g_zret rfl (by decide) dX3_isName_201
  replace h := ite_of h; rcases h with ⟨hc, h⟩ | ⟨hc3, h⟩
  · refine g_tabIn (v := 3) dX3_isName_162 hc (by decide) (by decide) rfl rfl ?_
    refine g_ic 0 dX3_isName_200 rfl ?_
    cases h
    exact g_zret rfl (by decide) dX3_isName_201
  replace h := ite_of h; rcases h with ⟨hc, h⟩ | ⟨hc4, h⟩
  · refine g_tabIn (v := 4) dX3_isName_162 hc (by decide) (by decide) rfl rfl ?_
    refine g_ic 0 dX3_isName_200 rfl ?_
    cases h
    exact g_zret rfl (by decide) dX3_isName_201
  replace h := ite_of h; rcases h with ⟨hc, h⟩ | ⟨hc5, h⟩
  · refine g_tabIn (v := 5) dX3_isName_162 hc (by decide) (by decide) rfl rfl ?_
    refine g_ic 0 dX3_isName_200 rfl ?_
    cases h
    exact g_zret rfl (by decide) dX3_isName_201
  refine g_tabOut dX3_isName_162 (tab_out 0 6 (by decide) (by decide) (fun j hj => by
    match j, hj with
    | 0, _ => exact hc0
    | 1, _ => exact hc1
    | 2, _ => exact hc2
    | 3, _ => exact hc3
    | 4, _ => exact hc4
    | 5, _ => exact hc5
    | j + 6, hj => exact absurd hj (by omega)) rfl) rfl ?_
  refine g_ic 1 dX3_isName_202 rfl ?_
  cases h
  exact g_zret rfl (by decide) dX3_isName_203
set_option maxHeartbeats 4000000 in
theorem w_X3_isName_0 {Γ : GG} (hΓ : GF Γ) {m0 mF m : MM} {x : Nat} (hT : (m.K x).1 = 4) {r : Int32} (h : b_X3_isName_0 x m = some (r, mF)) : G Γ kX3_isName cX3_isName m0 mF (.inl (some (.int r))) m 0 [some (.ref x), none, none] [] := by
  unfold b_X3_isName_0 at h
  refine g_this dX3_isName_0 rfl ?_
  refine g_getI hΓ.k fl_X3_46_X3 rfl hT dX3_isName_1 ?_
  refine g_ic 1 dX3_isName_4 rfl ?_
  replace h := ite_of h; rcases h with ⟨hc, h⟩ | ⟨hc, h⟩
  · refine g_iceqT dX3_isName_5 rfl hc ?_
    refine g_this dX3_isName_10 rfl ?_
    refine g_getR hΓ.k fl_X3_17_X3 rfl hT dX3_isName_11 ?_
    refine g_astore_n 1 dX3_isName_14 rfl (Nat.le_of_ble_eq_true rfl) rfl ?_
    dsimp only [List.set]
    refine g_ic (-1) dX3_isName_15 rfl ?_
    refine g_istore_n 2 dX3_isName_16 rfl (Nat.le_of_ble_eq_true rfl) (lvC_rf rfl) ?_
    dsimp only [List.set]
    refine g_aload_n 1 dX3_isName_17 rfl rfl ?_
    replace h := bd_of h; obtain ⟨a1, ea1, h⟩ := h
    obtain ⟨ea1, ka1⟩ := isK_of ea1
    replace h := bd2_of h; obtain ⟨v2, m3, em3, h⟩ := h
    have C := ct_J5_hashCode hΓ ka1 em3
    refine g_callVi hΓ.k vl_X3_90 ka1 C rfl (by rw [ea1]; rfl) (Nat.le_of_ble_eq_true rfl) (Nat.le_of_ble_eq_true rfl) (Nat.le_of_ble_eq_true rfl) dX3_isName_18 ?_
    replace hT := (C.1).kd hT
    replace h := ite_of h; rcases h with ⟨hc, h⟩ | ⟨hk0, h⟩
    · refine g_lookup dX3_isName_21 (by decide) (by rw [hc] <;> rfl) rfl ?_
      refine g_aload_n 1 dX3_isName_136 rfl rfl ?_
      refine g_ldcS (hΓ.str (c := 5) (idx := 101) (tx := "length") (by decide)) dX3_isName_137 ?_
      replace h := bd_of h; obtain ⟨a4, ea4, h⟩ := h
      obtain ⟨ea4, ka4⟩ := isK_of ea4
      replace h := bd2_of h; obtain ⟨v5, m6, em6, h⟩ := h
      have C := ct_J5_equals hΓ ka4 em6
      refine g_callVi hΓ.k vl_X3_77 ka4 C rfl (by rw [ea4]; rfl) (Nat.le_of_ble_eq_true rfl) (Nat.le_of_ble_eq_true rfl) (Nat.le_of_ble_eq_true rfl) dX3_isName_139 ?_
      replace hT := (C.1).kd hT
      replace h := ite_of h; rcases h with ⟨hc, h⟩ | ⟨hc, h⟩
      · refine g_ifeqT dX3_isName_142 rfl hc ?_
        refine G.weak [true, false, true] rfl ?_
        exact w_X3_isName_161 hΓ hT h
      · refine g_ifeqF dX3_isName_142 rfl hc ?_
        refine g_ic 4 dX3_isName_145 rfl ?_
        refine g_istore_n 2 dX3_isName_146 rfl (Nat.le_of_ble_eq_true rfl) (lvC_rf rfl) ?_
        dsimp only [List.set]
        refine g_goto dX3_isName_147 rfl ?_
        refine G.weak [true, false, true] rfl ?_
        exact w_X3_isName_161 hΓ hT h
    replace h := ite_of h; rcases h with ⟨hc, h⟩ | ⟨hk1, h⟩
    · refine g_lookup dX3_isName_21 (by decide) (by rw [hc] <;> rfl) rfl ?_
      refine g_aload_n 1 dX3_isName_122 rfl rfl ?_
      refine g_ldcS (hΓ.str (c := 4) (idx := 99) (tx := "or") (by decide)) dX3_isName_123 ?_
      replace h := bd_of h; obtain ⟨a7, ea7, h⟩ := h
      obtain ⟨ea7, ka7⟩ := isK_of ea7
      replace h := bd2_of h; obtain ⟨v8, m9, em9, h⟩ := h
      have C := ct_J5_equals hΓ ka7 em9
      refine g_callVi hΓ.k vl_X3_77 ka7 C rfl (by rw [ea7]; rfl) (Nat.le_of_ble_eq_true rfl) (Nat.le_of_ble_eq_true rfl) (Nat.le_of_ble_eq_true rfl) dX3_isName_125 ?_
      replace hT := (C.1).kd hT
      replace h := ite_of h; rcases h with ⟨hc, h⟩ | ⟨hc, h⟩
      · refine g_ifeqT dX3_isName_128 rfl hc ?_
        refine G.weak [true, false, true] rfl ?_
        exact w_X3_isName_161 hΓ hT h
      · refine g_ifeqF dX3_isName_128 rfl hc ?_
        refine g_ic 3 dX3_isName_131 rfl ?_
        refine g_istore_n 2 dX3_isName_132 rfl (Nat.le_of_ble_eq_true rfl) (lvC_rf rfl) ?_
        dsimp only [List.set]
        refine g_goto dX3_isName_133 rfl ?_
        refine G.weak [true, false, true] rfl ?_
        exact w_X3_isName_161 hΓ hT h
    replace h := ite_of h; rcases h with ⟨hc, h⟩ | ⟨hk2, h⟩
    · refine g_lookup dX3_isName_21 (by decide) (by rw [hc] <;> rfl) rfl ?_
      refine g_aload_n 1 dX3_isName_94 rfl rfl ?_
      refine g_ldcS (hΓ.str (c := 2) (idx := 95) (tx := "pair") (by decide)) dX3_isName_95 ?_
      replace h := bd_of h; obtain ⟨a10, ea10, h⟩ := h
      obtain ⟨ea10, ka10⟩ := isK_of ea10
      replace h := bd2_of h; obtain ⟨v11, m12, em12, h⟩ := h
      have C := ct_J5_equals hΓ ka10 em12
      refine g_callVi hΓ.k vl_X3_77 ka10 C rfl (by rw [ea10]; rfl) (Nat.le_of_ble_eq_true rfl) (Nat.le_of_ble_eq_true rfl) (Nat.le_of_ble_eq_true rfl) dX3_isName_97 ?_
      replace hT := (C.1).kd hT
      replace h := ite_of h; rcases h with ⟨hc, h⟩ | ⟨hc, h⟩
      · refine g_ifeqT dX3_isName_100 rfl hc ?_
        refine G.weak [true, false, true] rfl ?_
        exact w_X3_isName_161 hΓ hT h
      · refine g_ifeqF dX3_isName_100 rfl hc ?_
        refine g_ic 1 dX3_isName_103 rfl ?_
        refine g_istore_n 2 dX3_isName_104 rfl (Nat.le_of_ble_eq_true rfl) (lvC_rf rfl) ?_
        dsimp only [List.set]
        refine g_goto dX3_isName_105 rfl ?_
        refine G.weak [true, false, true] rfl ?_
        exact w_X3_isName_161 hΓ hT h
    replace h := ite_of h; rcases h with ⟨hc, h⟩ | ⟨hk3, h⟩
    · refine g_lookup dX3_isName_21 (by decide) (by rw [hc] <;> rfl) rfl ?_
      refine g_aload_n 1 dX3_isName_108 rfl rfl ?_
      refine g_ldcS (hΓ.str (c := 3) (idx := 97) (tx := "rule") (by decide)) dX3_isName_109 ?_
      replace h := bd_of h; obtain ⟨a13, ea13, h⟩ := h
      obtain ⟨ea13, ka13⟩ := isK_of ea13
      replace h := bd2_of h; obtain ⟨v14, m15, em15, h⟩ := h
      have C := ct_J5_equals hΓ ka13 em15
      refine g_callVi hΓ.k vl_X3_77 ka13 C rfl (by rw [ea13]; rfl) (Nat.le_of_ble_eq_true rfl) (Nat.le_of_ble_eq_true rfl) (Nat.le_of_ble_eq_true rfl) dX3_isName_111 ?_
      replace hT := (C.1).kd hT
      replace h := ite_of h; rcases h with ⟨hc, h⟩ | ⟨hc, h⟩
      · refine g_ifeqT dX3_isName_114 rfl hc ?_
        refine G.weak [true, false, true] rfl ?_
        exact w_X3_isName_161 hΓ hT h
      · refine g_ifeqF dX3_isName_114 rfl hc ?_
        refine g_ic 2 dX3_isName_117 rfl ?_
        refine g_istore_n 2 dX3_isName_118 rfl (Nat.le_of_ble_eq_true rfl) (lvC_rf rfl) ?_
        dsimp only [List.set]
        refine g_goto dX3_isName_119 rfl ?_
        refine G.weak [true, false, true] rfl ?_
        exact w_X3_isName_161 hΓ hT h
    replace h := ite_of h; rcases h with ⟨hc, h⟩ | ⟨hk4, h⟩
    · refine g_lookup dX3_isName_21 (by decide) (by rw [hc] <;> rfl) rfl ?_
      refine g_aload_n 1 dX3_isName_80 rfl rfl ?_
      refine g_ldcS (hΓ.str (c := 1) (idx := 94) (tx := "word") (by decide)) dX3_isName_81 ?_
      replace h := bd_of h; obtain ⟨a16, ea16, h⟩ := h
      obtain ⟨ea16, ka16⟩ := isK_of ea16
      replace h := bd2_of h; obtain ⟨v17, m18, em18, h⟩ := h
      have C := ct_J5_equals hΓ ka16 em18
      refine g_callVi hΓ.k vl_X3_77 ka16 C rfl (by rw [ea16]; rfl) (Nat.le_of_ble_eq_true rfl) (Nat.le_of_ble_eq_true rfl) (Nat.le_of_ble_eq_true rfl) dX3_isName_83 ?_
      replace hT := (C.1).kd hT
      replace h := ite_of h; rcases h with ⟨hc, h⟩ | ⟨hc, h⟩
      · refine g_ifeqT dX3_isName_86 rfl hc ?_
        refine G.weak [true, false, true] rfl ?_
        exact w_X3_isName_161 hΓ hT h
      · refine g_ifeqF dX3_isName_86 rfl hc ?_
        refine g_ic 0 dX3_isName_89 rfl ?_
        refine g_istore_n 2 dX3_isName_90 rfl (Nat.le_of_ble_eq_true rfl) (lvC_rf rfl) ?_
        dsimp only [List.set]
        refine g_goto dX3_isName_91 rfl ?_
        refine G.weak [true, false, true] rfl ?_
        exact w_X3_isName_161 hΓ hT h
    replace h := ite_of h; rcases h with ⟨hc, h⟩ | ⟨hk5, h⟩
    · refine g_lookup dX3_isName_21 (by decide) (by rw [hc] <;> rfl) rfl ?_
      refine g_aload_n 1 dX3_isName_150 rfl rfl ?_
      refine g_ldcS (hΓ.str (c := 6) (idx := 103) (tx := "turns") (by decide)) dX3_isName_151 ?_
      replace h := bd_of h; obtain ⟨a19, ea19, h⟩ := h
      obtain ⟨ea19, ka19⟩ := isK_of ea19
      replace h := bd2_of h; obtain ⟨v20, m21, em21, h⟩ := h
      have C := ct_J5_equals hΓ ka19 em21
      refine g_callVi hΓ.k vl_X3_77 ka19 C rfl (by rw [ea19]; rfl) (Nat.le_of_ble_eq_true rfl) (Nat.le_of_ble_eq_true rfl) (Nat.le_of_ble_eq_true rfl) dX3_isName_153 ?_
      replace hT := (C.1).kd hT
      replace h := ite_of h; rcases h with ⟨hc, h⟩ | ⟨hc, h⟩
      · refine g_ifeqT dX3_isName_156 rfl hc ?_
        refine G.weak [true, false, true] rfl ?_
        exact w_X3_isName_161 hΓ hT h
      · refine g_ifeqF dX3_isName_156 rfl hc ?_
        refine g_ic 5 dX3_isName_159 rfl ?_
        refine g_istore_n 2 dX3_isName_160 rfl (Nat.le_of_ble_eq_true rfl) (lvC_rf rfl) ?_
        dsimp only [List.set]
        refine G.weak [true, false, true] rfl ?_
        exact w_X3_isName_161 hΓ hT h
    refine g_lookup dX3_isName_21 (by decide) ((lv_osw hk0 rfl).trans ((lv_osw hk1 rfl).trans ((lv_osw hk2 rfl).trans ((lv_osw hk3 rfl).trans ((lv_osw hk4 rfl).trans ((lv_osw hk5 rfl).trans rfl)))))) rfl ?_
    refine G.weak [true, false, true] rfl ?_
    exact w_X3_isName_161 hΓ hT h
  · refine g_iceqF dX3_isName_5 rfl hc ?_
    refine g_ic 0 dX3_isName_8 rfl ?_
    cases h
    exact g_zret rfl (by decide) dX3_isName_9
theorem ct_X3_isName {Γ : GG} (hΓ : GF Γ) {m mF : MM} {x : Nat} (hT : (m.K x).1 = 4) {r : Int32} (h : f_X3_isName x m = some (r, mF)) : Ct Γ kX3_isName cX3_isName [.ref x] m (.inl (some (.int r))) mF := by
  unfold f_X3_isName at h
  exact Ct.of (κ := kX3_isName) (by decide) rfl (Nat.le_of_ble_eq_true rfl) rfl (w_X3_isName_0 hΓ hT h)
set_option maxHeartbeats 4000000 in
theorem w_X3_old_0 {Γ : GG} (hΓ : GF Γ) {m0 mF m : MM} {x : Nat} (hT : (m.K x).1 = 4) {r : Int32 ⊕ Nat} (h : b_X3_old_0 x m = some (r, mF)) : G Γ kX3_old cX3_old m0 mF (oci r) m 0 [some (.ref x), none] [] := by
  unfold b_X3_old_0 at h
  refine g_this dX3_old_0 rfl ?_
  replace h := bd2_of h; obtain ⟨v1, m2, em2, h⟩ := h
  have C := ct_X3_isName hΓ hT em2
  refine g_callVi hΓ.k vl_X3_105 hT C rfl rfl (Nat.le_of_ble_eq_true rfl) (Nat.le_of_ble_eq_true rfl) (Nat.le_of_ble_eq_true rfl) dX3_old_1 ?_
  replace hT := (C.1).kd hT
  replace h := ite_of h; rcases h with ⟨hc, h⟩ | ⟨hc, h⟩
  · refine g_ifneF dX3_old_4 rfl hc ?_
    refine g_this dX3_old_7 rfl ?_
    replace h := bd2_of h; obtain ⟨v10, m11, em11, h⟩ := h
    have C := ct_X3_wrong hΓ hT em11
    refine g_callVr hΓ.k vl_X3_83 hT C rfl rfl (Nat.le_of_ble_eq_true rfl) (Nat.le_of_ble_eq_true rfl) (Nat.le_of_ble_eq_true rfl) dX3_old_8 ?_
    replace hT := (C.1).kd hT
    replace h := bd_of h; obtain ⟨q12, eq12, h⟩ := h
    cases h
    exact g_athrowR eq12 rfl dX3_old_11
  · refine g_ifneT dX3_old_4 rfl hc ?_
    refine g_this dX3_old_12 rfl ?_
    refine g_getR hΓ.k fl_X3_24_X3 rfl hT dX3_old_13 ?_
    refine g_this dX3_old_16 rfl ?_
    refine g_getR hΓ.k fl_X3_17_X3 rfl hT dX3_old_17 ?_
    replace h := bd_of h; obtain ⟨a3, ea3, h⟩ := h
    obtain ⟨ea3, ka3⟩ := isK_of ea3
    replace h := bd2_of h; obtain ⟨v4, m5, em5, h⟩ := h
    have C := ct_X1_word hΓ ka3 em5
    refine g_callVi hΓ.k vl_X3_109 ka3 C rfl (by rw [ea3]; rfl) (Nat.le_of_ble_eq_true rfl) (Nat.le_of_ble_eq_true rfl) (Nat.le_of_ble_eq_true rfl) dX3_old_20 ?_
    replace hT := (C.1).kd hT
    refine g_istore_n 1 dX3_old_23 rfl (Nat.le_of_ble_eq_true rfl) rfl ?_
    dsimp only [List.set]
    refine g_iload_n 1 dX3_old_24 rfl rfl ?_
    replace h := ite_of h; rcases h with ⟨hc, h⟩ | ⟨hc, h⟩
    · refine g_ifgeT dX3_old_25 rfl hc ?_
      refine g_iload_n 1 dX3_old_41 rfl rfl ?_
      cases h
      exact g_iret rfl dX3_old_42
    · refine g_ifgeF dX3_old_25 rfl hc ?_
      replace h := bd_of h; obtain ⟨m6, em6, h⟩ := h
      refine g_nO hΓ.k nl_X3_72 ty_X4 em6 dX3_old_28 ?_
      replace hT := (nO_ext em6).kd hT
      refine g_dup dX3_old_31 (va_rf_cat _) ?_
      refine g_ic 5 dX3_old_32 rfl ?_
      refine g_this dX3_old_33 rfl ?_
      refine g_getI hΓ.k fl_X3_43_X3 rfl hT dX3_old_34 ?_
      replace h := bd_of h; obtain ⟨a7, ea7, h⟩ := h
      obtain ⟨ea7, ka7⟩ := isK_of ea7
      cases ea7
      replace h := bd2_of h; obtain ⟨_, m8, em8, h⟩ := h
      have C := ct_X4_init hΓ ka7 em8
      refine g_callI il_X3_74 C rfl rfl (Nat.le_of_ble_eq_true rfl) (Nat.le_of_ble_eq_true rfl) (Nat.le_of_ble_eq_true rfl) dX3_old_37 ?_
      replace hT := (C.1).kd hT
      replace h := bd_of h; obtain ⟨q9, eq9, h⟩ := h
      cases h
      exact g_athrowR eq9 rfl dX3_old_40
theorem ct_X3_old {Γ : GG} (hΓ : GF Γ) {m mF : MM} {x : Nat} (hT : (m.K x).1 = 4) {r : Int32 ⊕ Nat} (h : f_X3_old x m = some (r, mF)) : Ct Γ kX3_old cX3_old [.ref x] m (oci r) mF := by
  unfold f_X3_old at h
  exact Ct.of (κ := kX3_old) (by decide) rfl (Nat.le_of_ble_eq_true rfl) rfl (w_X3_old_0 hΓ hT h)
def p_X3_three (Γ : GG) (m0 mF : MM) (x : Nat) (l1 : Option Nat) (l2 : Int32) (r : Unit ⊕ Nat) : ((Int32 × MM)) → Prop := fun z => match z with
  | (l3, m) => (m.K x).1 = 4 → G Γ kX3_three cX3_three m0 mF (ocv r) m 2 [some (.ref x), some (va_rf l1), some (.int l2), some (.int l3)] []
set_option maxHeartbeats 4000000 in
theorem w_X3_three_2 {Γ : GG} (hΓ : GF Γ) {m0 mF m : MM} {x : Nat} {l1 : Option Nat} {l2 : Int32} {l3 : Int32} (hT : (m.K x).1 = 4) {r : Unit ⊕ Nat} {q : ((Int32 × MM)) ⊕ ((Unit ⊕ Nat) × MM)} (h : b_X3_three_2 x l1 l2 l3 m = some q) (Hl : ∀ z, q = .inl z → p_X3_three Γ m0 mF x l1 l2 r z) (Hr : ∀ z, q = .inr z → z = (r, mF)) : G Γ kX3_three cX3_three m0 mF (ocv r) m 2 [some (.ref x), some (va_rf l1), some (.int l2), some (.int l3)] [] := by
  unfold b_X3_three_2 at h
  refine g_iload_n 3 dX3_three_2 rfl rfl ?_
  refine g_ic 3 dX3_three_3 rfl ?_
  replace h := ite_of h; rcases h with ⟨hc, h⟩ | ⟨hc, h⟩
  · refine g_icgeT dX3_three_4 rfl hc ?_
    cases h
    cases Hr _ rfl
    exact g_vret rfl dX3_three_30
  · refine g_icgeF dX3_three_4 rfl hc ?_
    refine g_aload_n 1 dX3_three_7 rfl rfl ?_
    refine g_ic 3 dX3_three_8 rfl ?_
    refine g_iload_n 2 dX3_three_9 rfl rfl ?_
    refine g_imul dX3_three_10 ?_
    refine g_iload_n 3 dX3_three_11 rfl rfl ?_
    refine g_iadd dX3_three_12 ?_
    refine g_this dX3_three_13 rfl ?_
    refine g_ic 0 dX3_three_14 rfl ?_
    refine g_bi (99) dX3_three_15 rfl ?_
    replace h := bdxl_of h; rcases h with ⟨v1, m2, em2, h⟩ | ⟨q9, m2, em2, h⟩
    · have C := ct_X3_number hΓ hT em2
      refine g_callVi hΓ.k vl_X3_151 hT C rfl rfl (Nat.le_of_ble_eq_true rfl) (Nat.le_of_ble_eq_true rfl) (Nat.le_of_ble_eq_true rfl) dX3_three_17 ?_
      replace hT := C.1.kd hT
      refine g_bi (50) dX3_three_20 rfl ?_
      refine g_isub dX3_three_22 ?_
      replace h := bd_of h; obtain ⟨m3, em3, h⟩ := h
      refine g_iast em3 dX3_three_23 ?_
      replace hT := (sI_ext em3).kd hT
      refine g_iinc (l3 + (1 : Int32)) dX3_three_24 rfl rfl (Nat.le_of_ble_eq_true rfl) rfl ?_
      dsimp only [List.set]
      refine g_goto dX3_three_27 rfl ?_
      cases h
      refine G.weak [true, true, true, true] rfl ?_
      exact Hl _ rfl hT
    · have C := ct_X3_number hΓ hT em2
      cases h
      cases Hr _ rfl
      exact g_outV hΓ.k rfl vl_X3_151 hT C rfl rfl (Nat.le_of_ble_eq_true rfl) (Nat.le_of_ble_eq_true rfl) (Nat.le_of_ble_eq_true rfl) dX3_three_17
set_option maxHeartbeats 4000000 in
theorem w_X3_three_0 {Γ : GG} (hΓ : GF Γ) {m0 mF m : MM} {x : Nat} {l1 : Option Nat} {l2 : Int32} (hT : (m.K x).1 = 4) {r : Unit ⊕ Nat} {q : ((Int32 × MM)) ⊕ ((Unit ⊕ Nat) × MM)} (h : b_X3_three_0 x l1 l2 m = some q) (Hl : ∀ z, q = .inl z → p_X3_three Γ m0 mF x l1 l2 r z) (Hr : ∀ z, q = .inr z → z = (r, mF)) : G Γ kX3_three cX3_three m0 mF (ocv r) m 0 [some (.ref x), some (va_rf l1), some (.int l2), none] [] := by
  unfold b_X3_three_0 at h
  refine g_ic 0 dX3_three_0 rfl ?_
  refine g_istore_n 3 dX3_three_1 rfl (Nat.le_of_ble_eq_true rfl) rfl ?_
  dsimp only [List.set]
  cases h
  refine G.weak [true, true, true, true] rfl ?_
  exact Hl _ rfl hT
theorem ct_X3_three {Γ : GG} (hΓ : GF Γ) {m mF : MM} {x : Nat} {l1 : Option Nat} {l2 : Int32} (hT : (m.K x).1 = 4) {r : Unit ⊕ Nat} (h : f_X3_three x l1 l2 m = some (r, mF)) : Ct Γ kX3_three cX3_three [.ref x, va_rf l1, .int l2] m (ocv r) mF := by
  unfold f_X3_three at h
  replace h := bd_of h; obtain ⟨q, e, h⟩ := h
  have H := rx_go_ind (P := p_X3_three Γ m mF x l1 l2 r) (fun z o hs Hl Hr => by
    match z with
    | (l3, m) => exact fun hT => w_X3_three_2 hΓ hT hs Hl Hr) h
  exact Ct.of (κ := kX3_three) (by decide) rfl (by cases l1 <;> exact Nat.le_of_ble_eq_true rfl) rfl (by have w9 := w_X3_three_0 (m0 := m) hΓ hT e H.1 H.2; cases l1 <;> exact w9)
set_option maxHeartbeats 4000000 in
theorem w_X3_pair_0 {Γ : GG} (hΓ : GF Γ) {m0 mF m : MM} {x : Nat} (hT : (m.K x).1 = 4) {r : Unit ⊕ Nat} (h : b_X3_pair_0 x m = some (r, mF)) : G Γ kX3_pair cX3_pair m0 mF (ocv r) m 0 [some (.ref x), none, none] [] := by
  unfold b_X3_pair_0 at h
  refine g_this dX3_pair_0 rfl ?_
  replace h := bd2_of h; obtain ⟨_, m1, em1, h⟩ := h
  have C := ct_X3_go hΓ hT em1
  refine g_callVv hΓ.k vl_X3_87 hT C rfl rfl (Nat.le_of_ble_eq_true rfl) (Nat.le_of_ble_eq_true rfl) (Nat.le_of_ble_eq_true rfl) dX3_pair_1 ?_
  replace hT := (C.1).kd hT
  refine g_this dX3_pair_4 rfl ?_
  replace h := bdx_of h; rcases h with ⟨v2, m3, em3, h⟩ | ⟨q9, m3, em3, h⟩
  · have C := ct_X3_old hΓ hT em3
    refine g_callVi hΓ.k vl_X3_168 hT C rfl rfl (Nat.le_of_ble_eq_true rfl) (Nat.le_of_ble_eq_true rfl) (Nat.le_of_ble_eq_true rfl) dX3_pair_5 ?_
    replace hT := C.1.kd hT
    refine g_istore_n 1 dX3_pair_8 rfl (Nat.le_of_ble_eq_true rfl) rfl ?_
    dsimp only [List.set]
    refine g_this dX3_pair_9 rfl ?_
    replace h := bd2_of h; obtain ⟨_, m4, em4, h⟩ := h
    have C := ct_X3_go hΓ hT em4
    refine g_callVv hΓ.k vl_X3_87 hT C rfl rfl (Nat.le_of_ble_eq_true rfl) (Nat.le_of_ble_eq_true rfl) (Nat.le_of_ble_eq_true rfl) dX3_pair_10 ?_
    replace hT := (C.1).kd hT
    refine g_bi (8) dX3_pair_13 rfl ?_
    refine g_iload_n 1 dX3_pair_15 rfl rfl ?_
    refine g_imul dX3_pair_16 ?_
    refine g_this dX3_pair_17 rfl ?_
    replace h := bdx_of h; rcases h with ⟨v5, m6, em6, h⟩ | ⟨q9, m6, em6, h⟩
    · have C := ct_X3_old hΓ hT em6
      refine g_callVi hΓ.k vl_X3_168 hT C rfl rfl (Nat.le_of_ble_eq_true rfl) (Nat.le_of_ble_eq_true rfl) (Nat.le_of_ble_eq_true rfl) dX3_pair_18 ?_
      replace hT := C.1.kd hT
      refine g_iadd dX3_pair_21 ?_
      refine g_istore_n 2 dX3_pair_22 rfl (Nat.le_of_ble_eq_true rfl) rfl ?_
      dsimp only [List.set]
      refine g_this dX3_pair_23 rfl ?_
      refine g_getR hΓ.k fl_X3_24_X3 rfl hT dX3_pair_24 ?_
      replace h := bd_of h; obtain ⟨v7, ev7, h⟩ := h
      refine g_fR hΓ.k fl_X3_171_X1 rfl ev7 dX3_pair_27 ?_
      refine g_iload_n 2 dX3_pair_30 rfl rfl ?_
      replace h := bd_of h; obtain ⟨v8, ev8, h⟩ := h
      refine g_zald ev8 dX3_pair_31 ?_
      replace h := ite_of h; rcases h with ⟨hc, h⟩ | ⟨hc, h⟩
      · refine g_ifeqT dX3_pair_32 rfl hc ?_
        refine g_this dX3_pair_48 rfl ?_
        replace h := bd2_of h; obtain ⟨_, m9, em9, h⟩ := h
        have C := ct_X3_go hΓ hT em9
        refine g_callVv hΓ.k vl_X3_87 hT C rfl rfl (Nat.le_of_ble_eq_true rfl) (Nat.le_of_ble_eq_true rfl) (Nat.le_of_ble_eq_true rfl) dX3_pair_49 ?_
        replace hT := (C.1).kd hT
        refine g_this dX3_pair_52 rfl ?_
        refine g_this dX3_pair_53 rfl ?_
        refine g_getR hΓ.k fl_X3_24_X3 rfl hT dX3_pair_54 ?_
        replace h := bd_of h; obtain ⟨v10, ev10, h⟩ := h
        refine g_fR hΓ.k fl_X3_175_X1 rfl ev10 dX3_pair_57 ?_
        refine g_iload_n 2 dX3_pair_60 rfl rfl ?_
        replace h := bdx_of h; rcases h with ⟨v12, m11, em11, h⟩ | ⟨q9, m11, em11, h⟩
        · have C := ct_X3_three hΓ hT em11
          refine g_callVv hΓ.k vl_X3_161 hT C rfl rfl (Nat.le_of_ble_eq_true rfl) (Nat.le_of_ble_eq_true rfl) (Nat.le_of_ble_eq_true rfl) dX3_pair_61 ?_
          replace hT := C.1.kd hT
          refine g_this dX3_pair_64 rfl ?_
          refine g_getR hΓ.k fl_X3_24_X3 rfl hT dX3_pair_65 ?_
          replace h := bd_of h; obtain ⟨v13, ev13, h⟩ := h
          refine g_fR hΓ.k fl_X3_171_X1 rfl ev13 dX3_pair_68 ?_
          refine g_iload_n 2 dX3_pair_71 rfl rfl ?_
          refine g_ic 1 dX3_pair_72 rfl ?_
          replace h := bd_of h; obtain ⟨m14, em14, h⟩ := h
          refine g_zast em14 dX3_pair_73 ?_
          replace hT := (sI_ext em14).kd hT
          refine g_this dX3_pair_74 rfl ?_
          refine g_getR hΓ.k fl_X3_24_X3 rfl hT dX3_pair_75 ?_
          refine g_dup dX3_pair_78 (va_rf_cat _) ?_
          replace h := bd_of h; obtain ⟨v15, ev15, h⟩ := h
          refine g_fI hΓ.k fl_X3_129_X1 rfl ev15 dX3_pair_79 ?_
          refine g_ic 1 dX3_pair_82 rfl ?_
          refine g_iadd dX3_pair_83 ?_
          replace h := bd_of h; obtain ⟨m16, em16, h⟩ := h
          refine g_pI hΓ.k fl_X3_129_X1 (fun h9 => by cases h9) rfl (Or.inl ⟨rfl, rfl⟩) em16 dX3_pair_84 ?_
          replace hT := (pI_ext em16).kd hT
          cases h
          exact g_vret rfl dX3_pair_87
        · have C := ct_X3_three hΓ hT em11
          cases h
          exact g_outV hΓ.k rfl vl_X3_161 hT C rfl rfl (Nat.le_of_ble_eq_true rfl) (Nat.le_of_ble_eq_true rfl) (Nat.le_of_ble_eq_true rfl) dX3_pair_61
      · refine g_ifeqF dX3_pair_32 rfl hc ?_
        replace h := bd_of h; obtain ⟨m17, em17, h⟩ := h
        refine g_nO hΓ.k nl_X3_72 ty_X4 em17 dX3_pair_35 ?_
        replace hT := (nO_ext em17).kd hT
        refine g_dup dX3_pair_38 (va_rf_cat _) ?_
        refine g_ic 3 dX3_pair_39 rfl ?_
        refine g_this dX3_pair_40 rfl ?_
        refine g_getI hΓ.k fl_X3_43_X3 rfl hT dX3_pair_41 ?_
        replace h := bd_of h; obtain ⟨a18, ea18, h⟩ := h
        obtain ⟨ea18, ka18⟩ := isK_of ea18
        cases ea18
        replace h := bd2_of h; obtain ⟨_, m19, em19, h⟩ := h
        have C := ct_X4_init hΓ ka18 em19
        refine g_callI il_X3_74 C rfl rfl (Nat.le_of_ble_eq_true rfl) (Nat.le_of_ble_eq_true rfl) (Nat.le_of_ble_eq_true rfl) dX3_pair_44 ?_
        replace hT := (C.1).kd hT
        replace h := bd_of h; obtain ⟨q20, eq20, h⟩ := h
        cases h
        exact g_athrowR eq20 rfl dX3_pair_47
    · have C := ct_X3_old hΓ hT em6
      cases h
      exact g_outV hΓ.k rfl vl_X3_168 hT C rfl rfl (Nat.le_of_ble_eq_true rfl) (Nat.le_of_ble_eq_true rfl) (Nat.le_of_ble_eq_true rfl) dX3_pair_18
  · have C := ct_X3_old hΓ hT em3
    cases h
    exact g_outV hΓ.k rfl vl_X3_168 hT C rfl rfl (Nat.le_of_ble_eq_true rfl) (Nat.le_of_ble_eq_true rfl) (Nat.le_of_ble_eq_true rfl) dX3_pair_5
theorem ct_X3_pair {Γ : GG} (hΓ : GF Γ) {m mF : MM} {x : Nat} (hT : (m.K x).1 = 4) {r : Unit ⊕ Nat} (h : f_X3_pair x m = some (r, mF)) : Ct Γ kX3_pair cX3_pair [.ref x] m (ocv r) mF := by
  unfold f_X3_pair at h
  exact Ct.of (κ := kX3_pair) (by decide) rfl (Nat.le_of_ble_eq_true rfl) rfl (w_X3_pair_0 hΓ hT h)
set_option maxHeartbeats 4000000 in
theorem w_J7_newLength_21 {Γ : GG} (hΓ : GF Γ) {m0 mF m : MM} {l0 : Int32} {l1 : Int32} {l2 : Int32} {r : Int32} (h : b_J7_newLength_21 l0 l1 l2 m = some (r, mF)) : G Γ kJ7_newLength cJ7_newLength m0 mF (.inl (some (.int r))) m 21 [some (.int l0), some (.int l1), some (.int l2), none] [] := by
  unfold b_J7_newLength_21 at h
  refine g_iload_n 0 dJ7_newLength_21 rfl rfl ?_
  refine g_iload_n 1 dJ7_newLength_22 rfl rfl ?_
  cases h
set_option maxHeartbeats 4000000 in
theorem w_J7_newLength_0 {Γ : GG} (hΓ : GF Γ) {m0 mF m : MM} {l0 : Int32} {l1 : Int32} {l2 : Int32} {r : Int32} (h : b_J7_newLength_0 l0 l1 l2 m = some (r, mF)) : G Γ kJ7_newLength cJ7_newLength m0 mF (.inl (some (.int r))) m 0 [some (.int l0), some (.int l1), some (.int l2), none] [] := by
  unfold b_J7_newLength_0 at h
  refine g_iload_n 0 dJ7_newLength_0 rfl rfl ?_
  refine g_iload_n 1 dJ7_newLength_1 rfl rfl ?_
  refine g_iload_n 2 dJ7_newLength_2 rfl rfl ?_
  refine g_mmax q456 q457 q127 q458 (Nat.le_of_ble_eq_true rfl) (Nat.le_of_ble_eq_true rfl) (Nat.le_of_ble_eq_true rfl) dJ7_newLength_3 ?_
  refine g_iadd dJ7_newLength_6 ?_
  refine g_istore_n 3 dJ7_newLength_7 rfl (Nat.le_of_ble_eq_true rfl) rfl ?_
  dsimp only [List.set]
  refine g_ic 0 dJ7_newLength_8 rfl ?_
  refine g_iload_n 3 dJ7_newLength_9 rfl rfl ?_
  replace h := ite_of h; rcases h with ⟨hc, h⟩ | ⟨hc, h⟩
  · refine g_icgeT dJ7_newLength_10 rfl hc ?_
    refine G.weak [true, true, true, false] rfl ?_
    exact w_J7_newLength_21 hΓ h
  · refine g_icgeF dJ7_newLength_10 rfl hc ?_
    refine g_iload_n 3 dJ7_newLength_13 rfl rfl ?_
    refine g_ldc (v := 2147483639) q459 dJ7_newLength_14 ?_
    replace h := ite_of h; rcases h with ⟨hc, h⟩ | ⟨hc, h⟩
    · refine g_icgtT dJ7_newLength_16 rfl hc ?_
      refine G.weak [true, true, true, false] rfl ?_
      exact w_J7_newLength_21 hΓ h
    · refine g_icgtF dJ7_newLength_16 rfl hc ?_
      refine g_iload_n 3 dJ7_newLength_19 rfl rfl ?_
      cases h
      exact g_iret rfl dJ7_newLength_20
theorem ct_J7_newLength {Γ : GG} (hΓ : GF Γ) {m mF : MM} {l0 : Int32} {l1 : Int32} {l2 : Int32} {r : Int32} (h : f_J7_newLength l0 l1 l2 m = some (r, mF)) : Ct Γ kJ7_newLength cJ7_newLength [.int l0, .int l1, .int l2] m (.inl (some (.int r))) mF := by
  unfold f_J7_newLength at h
  exact Ct.of (κ := kJ7_newLength) (by decide) rfl (Nat.le_of_ble_eq_true rfl) rfl (w_J7_newLength_0 hΓ h)
set_option maxHeartbeats 4000000 in
theorem w_J9_copyOf_3_0 {Γ : GG} (hΓ : GF Γ) {m0 mF m : MM} {l0 : Option Nat} {l1 : Int32} {l2 : Option Nat} {r : Option Nat} (h : b_J9_copyOf_3_0 l0 l1 l2 m = some (r, mF)) : G Γ kJ9_copyOf_3 cJ9_copyOf_3 m0 mF (.inl (some (va_rf r))) m 0 [some (va_rf l0), some (.int l1), some (va_rf l2), none] [] := by
  unfold b_J9_copyOf_3_0 at h
  refine g_aload_n 2 dJ9_copyOf_3_0 rfl rfl ?_
  refine g_ldcM hΓ q831 dJ9_copyOf_3_1 ?_
  replace h := ite_of h; rcases h with ⟨hc, h⟩ | ⟨hc, h⟩
  · refine g_acneF dJ9_copyOf_3_3 rfl hc ?_
    refine g_iload_n 1 dJ9_copyOf_3_6 rfl rfl ?_
    replace h := bd_of h; obtain ⟨m1, em1, h⟩ := h
    refine g_anew hΓ.a hΓ.ao q832 em1 dJ9_copyOf_3_7 ?_
    refine g_goto dJ9_copyOf_3_10 rfl ?_
    refine g_astore_n 3 dJ9_copyOf_3_24 rfl (Nat.le_of_ble_eq_true rfl) (lvC_rf rfl) ?_
    dsimp only [List.set]
    refine g_aload_n 0 dJ9_copyOf_3_25 rfl rfl ?_
    refine g_ic 0 dJ9_copyOf_3_26 rfl ?_
    refine g_aload_n 3 dJ9_copyOf_3_27 rfl rfl ?_
    refine g_ic 0 dJ9_copyOf_3_28 rfl ?_
    refine g_aload_n 0 dJ9_copyOf_3_29 rfl rfl ?_
    replace h := bd_of h; obtain ⟨v2, ev2, h⟩ := h
    refine g_alen (Nat.le_of_ble_eq_true rfl) ev2 dJ9_copyOf_3_30 ?_
    refine g_iload_n 1 dJ9_copyOf_3_31 rfl rfl ?_
    refine g_mmin q474 q475 q127 q476 (Nat.le_of_ble_eq_true rfl) (Nat.le_of_ble_eq_true rfl) (Nat.le_of_ble_eq_true rfl) dJ9_copyOf_3_32 ?_
    replace h := bd_of h; obtain ⟨m3, em3, h⟩ := h
    refine g_copy54 hΓ q477 (Nat.le_of_ble_eq_true rfl) (Nat.le_of_ble_eq_true rfl) (Nat.le_of_ble_eq_true rfl) em3 dJ9_copyOf_3_35 ?_
    refine g_aload_n 3 dJ9_copyOf_3_38 rfl rfl ?_
    cases h
    exact g_aret rfl (Or.inr ⟨_, rfl⟩) dJ9_copyOf_3_39
  · refine g_acneT dJ9_copyOf_3_3 rfl hc ?_
    cases h
theorem ct_J9_copyOf_3 {Γ : GG} (hΓ : GF Γ) {m mF : MM} {l0 : Option Nat} {l1 : Int32} {l2 : Option Nat} {r : Option Nat} (h : f_J9_copyOf_3 l0 l1 l2 m = some (r, mF)) : Ct Γ kJ9_copyOf_3 cJ9_copyOf_3 [va_rf l0, .int l1, va_rf l2] m (.inl (some (va_rf r))) mF := by
  unfold f_J9_copyOf_3 at h
  exact Ct.of (κ := kJ9_copyOf_3) (by decide) rfl (by cases l0 <;> cases l2 <;> exact Nat.le_of_ble_eq_true rfl) rfl (by have w9 := w_J9_copyOf_3_0 (m0 := m) hΓ h; cases l0 <;> cases l2 <;> exact w9)
set_option maxHeartbeats 4000000 in
theorem w_J9_copyOf_2_0 {Γ : GG} (hΓ : GF Γ) {m0 mF m : MM} {l0 : Option Nat} {l1 : Int32} {r : Option Nat} (h : b_J9_copyOf_2_0 l0 l1 m = some (r, mF)) : G Γ kJ9_copyOf_2 cJ9_copyOf_2 m0 mF (.inl (some (va_rf r))) m 0 [some (va_rf l0), some (.int l1)] [] := by
  unfold b_J9_copyOf_2_0 at h
  refine g_aload_n 0 dJ9_copyOf_2_0 rfl rfl ?_
  refine g_iload_n 1 dJ9_copyOf_2_1 rfl rfl ?_
  refine g_aload_n 0 dJ9_copyOf_2_2 rfl rfl ?_
  replace h := bd_of h; obtain ⟨a1, ea1, h⟩ := h
  refine g_getC hΓ q812 q1915 q813 q827 (Nat.le_of_ble_eq_true rfl) (Nat.le_of_ble_eq_true rfl) (Nat.le_of_ble_eq_true rfl) ea1 dJ9_copyOf_2_3 ?_
  replace h := bd2_of h; obtain ⟨v2, m3, em3, h⟩ := h
  have C := ct_J9_copyOf_3 hΓ em3
  refine g_callSr sl_J9_300 C rfl rfl (Nat.le_of_ble_eq_true rfl) (Nat.le_of_ble_eq_true rfl) (Nat.le_of_ble_eq_true rfl) dJ9_copyOf_2_6 ?_
  cases h
  exact g_aret rfl (Or.inr ⟨_, rfl⟩) dJ9_copyOf_2_9
theorem ct_J9_copyOf_2 {Γ : GG} (hΓ : GF Γ) {m mF : MM} {l0 : Option Nat} {l1 : Int32} {r : Option Nat} (h : f_J9_copyOf_2 l0 l1 m = some (r, mF)) : Ct Γ kJ9_copyOf_2 cJ9_copyOf_2 [va_rf l0, .int l1] m (.inl (some (va_rf r))) mF := by
  unfold f_J9_copyOf_2 at h
  exact Ct.of (κ := kJ9_copyOf_2) (by decide) rfl (by cases l0 <;> exact Nat.le_of_ble_eq_true rfl) rfl (by have w9 := w_J9_copyOf_2_0 (m0 := m) hΓ h; cases l0 <;> exact w9)
set_option maxHeartbeats 4000000 in
theorem w_J2_grow_2_0 {Γ : GG} (hΓ : GF Γ) {m0 mF m : MM} {x : Nat} {l1 : Int32} (hT : (m.K x).1 = 9) {r : Option Nat} (h : b_J2_grow_2_0 x l1 m = some (r, mF)) : G Γ kJ2_grow_2 cJ2_grow_2 m0 mF (.inl (some (va_rf r))) m 0 [some (.ref x), some (.int l1), none, none] [] := by
  unfold b_J2_grow_2_0 at h
  refine g_this dJ2_grow_2_0 rfl ?_
  refine g_getR hΓ.k fl_J2_9_J2 rfl hT dJ2_grow_2_1 ?_
  replace h := bd_of h; obtain ⟨v1, ev1, h⟩ := h
  refine g_alen (Nat.le_of_ble_eq_true rfl) ev1 dJ2_grow_2_4 ?_
  refine g_istore_n 2 dJ2_grow_2_5 rfl (Nat.le_of_ble_eq_true rfl) rfl ?_
  dsimp only [List.set]
  refine g_iload_n 2 dJ2_grow_2_6 rfl rfl ?_
  replace h := ite_of h; rcases h with ⟨hc, h⟩ | ⟨hc, h⟩
  · refine g_ifgtT dJ2_grow_2_7 rfl hc ?_
    refine g_iload_n 2 dJ2_grow_2_20 rfl rfl ?_
    refine g_iload_n 1 dJ2_grow_2_21 rfl rfl ?_
    refine g_iload_n 2 dJ2_grow_2_22 rfl rfl ?_
    refine g_isub dJ2_grow_2_23 ?_
    refine g_iload_n 2 dJ2_grow_2_24 rfl rfl ?_
    refine g_ic 1 dJ2_grow_2_25 rfl ?_
    refine g_ishr dJ2_grow_2_26 ?_
    replace h := bd2_of h; obtain ⟨v2, m3, em3, h⟩ := h
    have C := ct_J7_newLength hΓ em3
    refine g_callSi sl_J2_73 C rfl rfl (Nat.le_of_ble_eq_true rfl) (Nat.le_of_ble_eq_true rfl) (Nat.le_of_ble_eq_true rfl) dJ2_grow_2_27 ?_
    replace hT := (C.1).kd hT
    refine g_istore_n 3 dJ2_grow_2_30 rfl (Nat.le_of_ble_eq_true rfl) rfl ?_
    dsimp only [List.set]
    refine g_this dJ2_grow_2_31 rfl ?_
    refine g_this dJ2_grow_2_32 rfl ?_
    refine g_getR hΓ.k fl_J2_9_J2 rfl hT dJ2_grow_2_33 ?_
    refine g_iload_n 3 dJ2_grow_2_36 rfl rfl ?_
    replace h := bd2_of h; obtain ⟨v4, m5, em5, h⟩ := h
    have C := ct_J9_copyOf_2 hΓ em5
    refine g_callSr sl_J2_66 C rfl rfl (Nat.le_of_ble_eq_true rfl) (Nat.le_of_ble_eq_true rfl) (Nat.le_of_ble_eq_true rfl) dJ2_grow_2_37 ?_
    replace hT := (C.1).kd hT
    refine g_dup_x1 dJ2_grow_2_40 (va_rf_cat _) rfl ?_
    replace h := bd_of h; obtain ⟨m6, em6, h⟩ := h
    refine g_pR hΓ.k fl_J2_9_J2 (fun h9 => by cases h9) (Or.inr ⟨_, rfl⟩) em6 dJ2_grow_2_41 ?_
    replace hT := (pR_ext em6).kd hT
    cases h
    exact g_aret rfl (Or.inr ⟨_, rfl⟩) dJ2_grow_2_44
  · refine g_ifgtF dJ2_grow_2_7 rfl hc ?_
    cases h
theorem ct_J2_grow_2 {Γ : GG} (hΓ : GF Γ) {m mF : MM} {x : Nat} {l1 : Int32} (hT : (m.K x).1 = 9) {r : Option Nat} (h : f_J2_grow_2 x l1 m = some (r, mF)) : Ct Γ kJ2_grow_2 cJ2_grow_2 [.ref x, .int l1] m (.inl (some (va_rf r))) mF := by
  unfold f_J2_grow_2 at h
  exact Ct.of (κ := kJ2_grow_2) (by decide) rfl (Nat.le_of_ble_eq_true rfl) rfl (w_J2_grow_2_0 hΓ hT h)
set_option maxHeartbeats 4000000 in
theorem w_J2_grow_0 {Γ : GG} (hΓ : GF Γ) {m0 mF m : MM} {x : Nat} (hT : (m.K x).1 = 9) {r : Option Nat} (h : b_J2_grow_0 x m = some (r, mF)) : G Γ kJ2_grow cJ2_grow m0 mF (.inl (some (va_rf r))) m 0 [some (.ref x)] [] := by
  unfold b_J2_grow_0 at h
  refine g_this dJ2_grow_0 rfl ?_
  refine g_this dJ2_grow_1 rfl ?_
  refine g_getI hΓ.k fl_J2_48_J2 rfl hT dJ2_grow_2 ?_
  refine g_ic 1 dJ2_grow_5 rfl ?_
  refine g_iadd dJ2_grow_6 ?_
  replace h := bd2_of h; obtain ⟨v1, m2, em2, h⟩ := h
  have C := ct_J2_grow_2 hΓ hT em2
  refine g_callVr hΓ.k vl_J2_69 hT C rfl rfl (Nat.le_of_ble_eq_true rfl) (Nat.le_of_ble_eq_true rfl) (Nat.le_of_ble_eq_true rfl) dJ2_grow_7 ?_
  replace hT := (C.1).kd hT
  cases h
  exact g_aret rfl (Or.inr ⟨_, rfl⟩) dJ2_grow_10
theorem ct_J2_grow {Γ : GG} (hΓ : GF Γ) {m mF : MM} {x : Nat} (hT : (m.K x).1 = 9) {r : Option Nat} (h : f_J2_grow x m = some (r, mF)) : Ct Γ kJ2_grow cJ2_grow [.ref x] m (.inl (some (va_rf r))) mF := by
  unfold f_J2_grow at h
  exact Ct.of (κ := kJ2_grow) (by decide) rfl (Nat.le_of_ble_eq_true rfl) rfl (w_J2_grow_0 hΓ hT h)
set_option maxHeartbeats 4000000 in
theorem w_J2_add_2_11 {Γ : GG} (hΓ : GF Γ) {m0 mF m : MM} {x : Nat} {l1 : Option Nat} {l3 : Int32} {l2 : Option Nat} (hT : (m.K x).1 = 9) {r : Unit} (h : b_J2_add_2_11 x l1 l3 l2 m = some (r, mF)) : G Γ kJ2_add_2 cJ2_add_2 m0 mF (.inl none) m 11 [some (.ref x), some (va_rf l1), some (va_rf l2), some (.int l3)] [] := by
  unfold b_J2_add_2_11 at h
  refine g_aload_n 2 dJ2_add_2_11 rfl rfl ?_
  refine g_iload_n 3 dJ2_add_2_12 rfl rfl ?_
  refine g_aload_n 1 dJ2_add_2_13 rfl rfl ?_
  replace h := bd_of h; obtain ⟨m1, em1, h⟩ := h
  refine g_aast54 hΓ em1 dJ2_add_2_14 ?_
  replace hT := (sR_ext em1).kd hT
  refine g_this dJ2_add_2_15 rfl ?_
  refine g_iload_n 3 dJ2_add_2_16 rfl rfl ?_
  refine g_ic 1 dJ2_add_2_17 rfl ?_
  refine g_iadd dJ2_add_2_18 ?_
  replace h := bd_of h; obtain ⟨m2, em2, h⟩ := h
  refine g_pI hΓ.k fl_J2_48_J2 (fun h9 => by cases h9) rfl (Or.inl ⟨rfl, rfl⟩) em2 dJ2_add_2_19 ?_
  replace hT := (pI_ext em2).kd hT
  cases h
  exact g_vret rfl dJ2_add_2_22
set_option maxHeartbeats 4000000 in
theorem w_J2_add_2_0 {Γ : GG} (hΓ : GF Γ) {m0 mF m : MM} {x : Nat} {l1 : Option Nat} {l3 : Int32} {l2 : Option Nat} (hT : (m.K x).1 = 9) {r : Unit} (h : b_J2_add_2_0 x l1 l3 l2 m = some (r, mF)) : G Γ kJ2_add_2 cJ2_add_2 m0 mF (.inl none) m 0 [some (.ref x), some (va_rf l1), some (va_rf l2), some (.int l3)] [] := by
  unfold b_J2_add_2_0 at h
  refine g_iload_n 3 dJ2_add_2_0 rfl rfl ?_
  refine g_aload_n 2 dJ2_add_2_1 rfl rfl ?_
  replace h := bd_of h; obtain ⟨v1, ev1, h⟩ := h
  refine g_alen (Nat.le_of_ble_eq_true rfl) ev1 dJ2_add_2_2 ?_
  replace h := ite_of h; rcases h with ⟨hc, h⟩ | ⟨hc, h⟩
  · refine g_icneF dJ2_add_2_3 rfl hc ?_
    refine g_this dJ2_add_2_6 rfl ?_
    replace h := bd2_of h; obtain ⟨v2, m3, em3, h⟩ := h
    have C := ct_J2_grow hΓ hT em3
    refine g_callVr hΓ.k vl_J2_129 hT C rfl rfl (Nat.le_of_ble_eq_true rfl) (Nat.le_of_ble_eq_true rfl) (Nat.le_of_ble_eq_true rfl) dJ2_add_2_7 ?_
    replace hT := (C.1).kd hT
    refine g_astore_n 2 dJ2_add_2_10 rfl (Nat.le_of_ble_eq_true rfl) (lvC_rf rfl) ?_
    dsimp only [List.set]
    refine G.weak [true, true, true, true] rfl ?_
    exact w_J2_add_2_11 hΓ hT h
  · refine g_icneT dJ2_add_2_3 rfl hc ?_
    refine G.weak [true, true, true, true] rfl ?_
    exact w_J2_add_2_11 hΓ hT h
theorem ct_J2_add_2 {Γ : GG} (hΓ : GF Γ) {m mF : MM} {x : Nat} {l1 : Option Nat} {l2 : Option Nat} {l3 : Int32} (hT : (m.K x).1 = 9) {r : Unit} (h : f_J2_add_2 x l1 l2 l3 m = some (r, mF)) : Ct Γ kJ2_add_2 cJ2_add_2 [.ref x, va_rf l1, va_rf l2, .int l3] m (.inl none) mF := by
  unfold f_J2_add_2 at h
  exact Ct.of (κ := kJ2_add_2) (by decide) rfl (by cases l1 <;> cases l2 <;> exact Nat.le_of_ble_eq_true rfl) rfl (by have w9 := w_J2_add_2_0 (m0 := m) hΓ hT h; cases l1 <;> cases l2 <;> exact w9)
set_option maxHeartbeats 4000000 in
theorem w_J2_add_0 {Γ : GG} (hΓ : GF Γ) {m0 mF m : MM} {x : Nat} {l1 : Option Nat} (hT : (m.K x).1 = 9) {r : Int32} (h : b_J2_add_0 x l1 m = some (r, mF)) : G Γ kJ2_add cJ2_add m0 mF (.inl (some (.int r))) m 0 [some (.ref x), some (va_rf l1)] [] := by
  unfold b_J2_add_0 at h
  refine g_this dJ2_add_0 rfl ?_
  refine g_dup dJ2_add_1 rfl ?_
  refine g_getI hΓ.k fl_J2_63_J2 rfl hT dJ2_add_2 ?_
  refine g_ic 1 dJ2_add_5 rfl ?_
  refine g_iadd dJ2_add_6 ?_
  replace h := bd_of h; obtain ⟨m1, em1, h⟩ := h
  refine g_pI hΓ.k fl_J2_63_J2 (fun h9 => by cases h9) rfl (Or.inl ⟨rfl, rfl⟩) em1 dJ2_add_7 ?_
  replace hT := (pI_ext em1).kd hT
  refine g_this dJ2_add_10 rfl ?_
  refine g_aload_n 1 dJ2_add_11 rfl rfl ?_
  refine g_this dJ2_add_12 rfl ?_
  refine g_getR hΓ.k fl_J2_9_J2 rfl hT dJ2_add_13 ?_
  refine g_this dJ2_add_16 rfl ?_
  refine g_getI hΓ.k fl_J2_48_J2 rfl hT dJ2_add_17 ?_
  replace h := bd2_of h; obtain ⟨_, m2, em2, h⟩ := h
  have C := ct_J2_add_2 hΓ hT em2
  refine g_callVv hΓ.k vl_J2_131 hT C rfl rfl (Nat.le_of_ble_eq_true rfl) (Nat.le_of_ble_eq_true rfl) (Nat.le_of_ble_eq_true rfl) dJ2_add_20 ?_
  replace hT := (C.1).kd hT
  refine g_ic 1 dJ2_add_23 rfl ?_
  cases h
  exact g_zret rfl (by decide) dJ2_add_24
theorem ct_J2_add {Γ : GG} (hΓ : GF Γ) {m mF : MM} {x : Nat} {l1 : Option Nat} (hT : (m.K x).1 = 9) {r : Int32} (h : f_J2_add x l1 m = some (r, mF)) : Ct Γ kJ2_add cJ2_add [.ref x, va_rf l1] m (.inl (some (.int r))) mF := by
  unfold f_J2_add at h
  exact Ct.of (κ := kJ2_add) (by decide) rfl (by cases l1 <;> exact Nat.le_of_ble_eq_true rfl) rfl (by have w9 := w_J2_add_0 (m0 := m) hΓ hT h; cases l1 <;> exact w9)
set_option maxHeartbeats 4000000 in
theorem w_X6_init_0 {Γ : GG} (hΓ : GF Γ) {m0 mF m : MM} {x : Nat} (hT : (m.K x).1 = 7) {r : Unit} (h : b_X6_init_0 x m = some (r, mF)) : G Γ kX6_init cX6_init m0 mF (.inl none) m 0 [some (.ref x)] [] := by
  unfold b_X6_init_0 at h
  refine g_this dX6_init_0 rfl ?_
  refine g_objInit q873 q145 q146 (Nat.le_of_ble_eq_true rfl) (Nat.le_of_ble_eq_true rfl) (Nat.le_of_ble_eq_true rfl) dX6_init_1 ?_
  refine g_this dX6_init_4 rfl ?_
  replace h := bd_of h; obtain ⟨m1, em1, h⟩ := h
  refine g_nO hΓ.k nl_X6_9 ty_J2 em1 dX6_init_5 ?_
  replace hT := (nO_ext em1).kd hT
  refine g_dup dX6_init_8 (va_rf_cat _) ?_
  refine g_ic 2 dX6_init_9 rfl ?_
  replace h := bd_of h; obtain ⟨a2, ea2, h⟩ := h
  obtain ⟨ea2, ka2⟩ := isK_of ea2
  cases ea2
  replace h := bd2_of h; obtain ⟨_, m3, em3, h⟩ := h
  have C := ct_J2_init hΓ ka2 em3
  refine g_callI il_X6_11 C rfl rfl (Nat.le_of_ble_eq_true rfl) (Nat.le_of_ble_eq_true rfl) (Nat.le_of_ble_eq_true rfl) dX6_init_10 ?_
  replace hT := (C.1).kd hT
  replace h := bd_of h; obtain ⟨m4, em4, h⟩ := h
  refine g_pR hΓ.k fl_X6_14_X6 (fun _ => ⟨rfl, fun C T N e9 => by cases e9; rfl⟩) (Or.inl ⟨_, rfl⟩) em4 dX6_init_13 ?_
  replace hT := (pR_ext em4).kd hT
  refine g_this dX6_init_16 rfl ?_
  refine g_ic 4 dX6_init_17 rfl ?_
  replace h := bd_of h; obtain ⟨m5, em5, h⟩ := h
  refine g_newa hΓ.a (Or.inl ⟨rfl, rfl⟩) q181 em5 dX6_init_18 ?_
  replace hT := (nA_ext em5).kd hT
  replace h := bd_of h; obtain ⟨m6, em6, h⟩ := h
  refine g_pR hΓ.k fl_X6_20_X6 (fun _ => ⟨rfl, fun C T N e9 => by cases e9; rfl⟩) (Or.inr ⟨_, rfl⟩) em6 dX6_init_20 ?_
  replace hT := (pR_ext em6).kd hT
  refine g_this dX6_init_23 rfl ?_
  refine g_ic 0 dX6_init_24 rfl ?_
  replace h := bd_of h; obtain ⟨m7, em7, h⟩ := h
  refine g_newa hΓ.a (Or.inl ⟨rfl, rfl⟩) q181 em7 dX6_init_25 ?_
  replace hT := (nA_ext em7).kd hT
  replace h := bd_of h; obtain ⟨m8, em8, h⟩ := h
  refine g_pR hΓ.k fl_X6_24_X6 (fun h9 => by cases h9) (Or.inr ⟨_, rfl⟩) em8 dX6_init_27 ?_
  replace hT := (pR_ext em8).kd hT
  cases h
  exact g_vret rfl dX6_init_30
theorem ct_X6_init {Γ : GG} (hΓ : GF Γ) {m mF : MM} {x : Nat} (hT : (m.K x).1 = 7) {r : Unit} (h : f_X6_init x m = some (r, mF)) : Ct Γ kX6_init cX6_init [.ref x] m (.inl none) mF := by
  unfold f_X6_init at h
  exact Ct.of (κ := kX6_init) (by decide) rfl (Nat.le_of_ble_eq_true rfl) rfl (w_X6_init_0 hΓ hT h)
def p_X3_alt (Γ : GG) (m0 mF : MM) (x : Nat) (r : Option Nat ⊕ Nat) : ((Option Nat × MM)) → Prop := fun z => match z with
  | (l1, m) => (m.K x).1 = 4 → G Γ kX3_alt cX3_alt m0 mF (oca r) m 45 [some (.ref x), some (va_rf l1)] []
set_option maxHeartbeats 4000000 in
theorem w_X3_alt_19 {Γ : GG} (hΓ : GF Γ) {m0 mF m : MM} {x : Nat} (hT : (m.K x).1 = 4) {r : Option Nat ⊕ Nat} {q : ((Option Nat × MM)) ⊕ ((Option Nat ⊕ Nat) × MM)} (h : b_X3_alt_19 x m = some q) (Hl : ∀ z, q = .inl z → p_X3_alt Γ m0 mF x r z) (Hr : ∀ z, q = .inr z → z = (r, mF)) : G Γ kX3_alt cX3_alt m0 mF (oca r) m 19 [some (.ref x), none] [] := by
  unfold b_X3_alt_19 at h
  refine g_this dX3_alt_19 rfl ?_
  replace h := bd2_of h; obtain ⟨v1, m2, em2, h⟩ := h
  have C := ct_X3_wrong hΓ hT em2
  refine g_callVr hΓ.k vl_X3_83 hT C rfl rfl (Nat.le_of_ble_eq_true rfl) (Nat.le_of_ble_eq_true rfl) (Nat.le_of_ble_eq_true rfl) dX3_alt_20 ?_
  replace hT := (C.1).kd hT
  replace h := bd_of h; obtain ⟨q3, eq3, h⟩ := h
  cases h
  cases Hr _ rfl
  exact g_athrowR eq3 rfl dX3_alt_23
set_option maxHeartbeats 4000000 in
theorem w_X3_alt_45 {Γ : GG} (hΓ : GF Γ) {m0 mF m : MM} {x : Nat} {l1 : Option Nat} (hT : (m.K x).1 = 4) {r : Option Nat ⊕ Nat} {q : ((Option Nat × MM)) ⊕ ((Option Nat ⊕ Nat) × MM)} (h : b_X3_alt_45 x l1 m = some q) (Hl : ∀ z, q = .inl z → p_X3_alt Γ m0 mF x r z) (Hr : ∀ z, q = .inr z → z = (r, mF)) : G Γ kX3_alt cX3_alt m0 mF (oca r) m 45 [some (.ref x), some (va_rf l1)] [] := by
  unfold b_X3_alt_45 at h
  refine g_this dX3_alt_45 rfl ?_
  replace h := bd2_of h; obtain ⟨v1, m2, em2, h⟩ := h
  have C := ct_X3_isName hΓ hT em2
  refine g_callVi hΓ.k vl_X3_105 hT C rfl rfl (Nat.le_of_ble_eq_true rfl) (Nat.le_of_ble_eq_true rfl) (Nat.le_of_ble_eq_true rfl) dX3_alt_46 ?_
  replace hT := (C.1).kd hT
  replace h := ite_of h; rcases h with ⟨hc, h⟩ | ⟨hc, h⟩
  · refine g_ifeqT dX3_alt_49 rfl hc ?_
    refine g_aload_n 1 dX3_alt_103 rfl rfl ?_
    cases h
    cases Hr _ rfl
    exact g_aret rfl (Or.inl ⟨_, rfl⟩) dX3_alt_104
  · refine g_ifeqF dX3_alt_49 rfl hc ?_
    refine g_aload_n 1 dX3_alt_52 rfl rfl ?_
    replace h := bd_of h; obtain ⟨v3, ev3, h⟩ := h
    refine g_fR hΓ.k fl_X3_195_X6 rfl ev3 dX3_alt_53 ?_
    replace h := bd_of h; obtain ⟨a4, ea4, h⟩ := h
    obtain ⟨ea4, ka4⟩ := isK_of ea4
    cases ea4
    replace h := bd2_of h; obtain ⟨v5, m6, em6, h⟩ := h
    have C := ct_J2_size hΓ ka4 em6
    refine g_callVi hΓ.k vl_X3_122 ka4 C rfl rfl (Nat.le_of_ble_eq_true rfl) (Nat.le_of_ble_eq_true rfl) (Nat.le_of_ble_eq_true rfl) dX3_alt_56 ?_
    replace hT := (C.1).kd hT
    refine g_ic 4 dX3_alt_59 rfl ?_
    replace h := ite_of h; rcases h with ⟨hc, h⟩ | ⟨hc, h⟩
    · refine g_icneF dX3_alt_60 rfl hc ?_
      refine g_this dX3_alt_63 rfl ?_
      replace h := bd2_of h; obtain ⟨v18, m19, em19, h⟩ := h
      have C := ct_X3_wrong hΓ hT em19
      refine g_callVr hΓ.k vl_X3_83 hT C rfl rfl (Nat.le_of_ble_eq_true rfl) (Nat.le_of_ble_eq_true rfl) (Nat.le_of_ble_eq_true rfl) dX3_alt_64 ?_
      replace hT := (C.1).kd hT
      replace h := bd_of h; obtain ⟨q20, eq20, h⟩ := h
      cases h
      cases Hr _ rfl
      exact g_athrowR eq20 rfl dX3_alt_67
    · refine g_icneT dX3_alt_60 rfl hc ?_
      refine g_aload_n 1 dX3_alt_68 rfl rfl ?_
      replace h := bd_of h; obtain ⟨v7, ev7, h⟩ := h
      refine g_fR hΓ.k fl_X3_198_X6 rfl ev7 dX3_alt_69 ?_
      refine g_aload_n 1 dX3_alt_72 rfl rfl ?_
      replace h := bd_of h; obtain ⟨v8, ev8, h⟩ := h
      refine g_fR hΓ.k fl_X3_195_X6 rfl ev8 dX3_alt_73 ?_
      replace h := bd_of h; obtain ⟨a9, ea9, h⟩ := h
      obtain ⟨ea9, ka9⟩ := isK_of ea9
      cases ea9
      replace h := bd2_of h; obtain ⟨v10, m11, em11, h⟩ := h
      have C := ct_J2_size hΓ ka9 em11
      refine g_callVi hΓ.k vl_X3_122 ka9 C rfl rfl (Nat.le_of_ble_eq_true rfl) (Nat.le_of_ble_eq_true rfl) (Nat.le_of_ble_eq_true rfl) dX3_alt_76 ?_
      replace hT := (C.1).kd hT
      refine g_this dX3_alt_79 rfl ?_
      refine g_getI hΓ.k fl_X3_43_X3 rfl hT dX3_alt_80 ?_
      replace h := bd_of h; obtain ⟨m12, em12, h⟩ := h
      refine g_iast em12 dX3_alt_83 ?_
      replace hT := (sI_ext em12).kd hT
      refine g_aload_n 1 dX3_alt_84 rfl rfl ?_
      replace h := bd_of h; obtain ⟨v13, ev13, h⟩ := h
      refine g_fR hΓ.k fl_X3_195_X6 rfl ev13 dX3_alt_85 ?_
      refine g_this dX3_alt_88 rfl ?_
      refine g_getR hΓ.k fl_X3_17_X3 rfl hT dX3_alt_89 ?_
      replace h := bd_of h; obtain ⟨a14, ea14, h⟩ := h
      obtain ⟨ea14, ka14⟩ := isK_of ea14
      cases ea14
      replace h := bd2_of h; obtain ⟨v15, m16, em16, h⟩ := h
      have C := ct_J2_add hΓ ka14 em16
      refine g_callVi hΓ.k vl_X3_165 ka14 C rfl rfl (Nat.le_of_ble_eq_true rfl) (Nat.le_of_ble_eq_true rfl) (Nat.le_of_ble_eq_true rfl) dX3_alt_92 ?_
      replace hT := (C.1).kd hT
      refine g_pop dX3_alt_95 rfl ?_
      refine g_this dX3_alt_96 rfl ?_
      replace h := bd2_of h; obtain ⟨_, m17, em17, h⟩ := h
      have C := ct_X3_go hΓ hT em17
      refine g_callVv hΓ.k vl_X3_87 hT C rfl rfl (Nat.le_of_ble_eq_true rfl) (Nat.le_of_ble_eq_true rfl) (Nat.le_of_ble_eq_true rfl) dX3_alt_97 ?_
      replace hT := (C.1).kd hT
      refine g_goto dX3_alt_100 rfl ?_
      cases h
      refine G.weak [true, true] rfl ?_
      exact Hl _ rfl hT
set_option maxHeartbeats 4000000 in
theorem w_X3_alt_0 {Γ : GG} (hΓ : GF Γ) {m0 mF m : MM} {x : Nat} (hT : (m.K x).1 = 4) {r : Option Nat ⊕ Nat} {q : ((Option Nat × MM)) ⊕ ((Option Nat ⊕ Nat) × MM)} (h : b_X3_alt_0 x m = some q) (Hl : ∀ z, q = .inl z → p_X3_alt Γ m0 mF x r z) (Hr : ∀ z, q = .inr z → z = (r, mF)) : G Γ kX3_alt cX3_alt m0 mF (oca r) m 0 [some (.ref x), none] [] := by
  unfold b_X3_alt_0 at h
  refine g_this dX3_alt_0 rfl ?_
  replace h := bd2_of h; obtain ⟨v1, m2, em2, h⟩ := h
  have C := ct_X3_isName hΓ hT em2
  refine g_callVi hΓ.k vl_X3_105 hT C rfl rfl (Nat.le_of_ble_eq_true rfl) (Nat.le_of_ble_eq_true rfl) (Nat.le_of_ble_eq_true rfl) dX3_alt_1 ?_
  replace hT := (C.1).kd hT
  replace h := ite_of h; rcases h with ⟨hc, h⟩ | ⟨hc, h⟩
  · refine g_ifeqT dX3_alt_4 rfl hc ?_
    refine G.weak [true, false] rfl ?_
    exact w_X3_alt_19 hΓ hT h Hl Hr
  · refine g_ifeqF dX3_alt_4 rfl hc ?_
    refine g_this dX3_alt_7 rfl ?_
    refine g_getR hΓ.k fl_X3_24_X3 rfl hT dX3_alt_8 ?_
    replace h := bd_of h; obtain ⟨v3, ev3, h⟩ := h
    refine g_fI hΓ.k fl_X3_190_X1 rfl ev3 dX3_alt_11 ?_
    refine g_bi (24) dX3_alt_14 rfl ?_
    replace h := ite_of h; rcases h with ⟨hc, h⟩ | ⟨hc, h⟩
    · refine g_icneF dX3_alt_16 rfl hc ?_
      refine G.weak [true, false] rfl ?_
      exact w_X3_alt_19 hΓ hT h Hl Hr
    · refine g_icneT dX3_alt_16 rfl hc ?_
      refine g_this dX3_alt_24 rfl ?_
      refine g_getR hΓ.k fl_X3_24_X3 rfl hT dX3_alt_25 ?_
      refine g_dup dX3_alt_28 (va_rf_cat _) ?_
      replace h := bd_of h; obtain ⟨v4, ev4, h⟩ := h
      refine g_fI hΓ.k fl_X3_190_X1 rfl ev4 dX3_alt_29 ?_
      refine g_ic 1 dX3_alt_32 rfl ?_
      refine g_iadd dX3_alt_33 ?_
      replace h := bd_of h; obtain ⟨m5, em5, h⟩ := h
      refine g_pI hΓ.k fl_X3_190_X1 (fun h9 => by cases h9) rfl (Or.inl ⟨rfl, rfl⟩) em5 dX3_alt_34 ?_
      replace hT := (pI_ext em5).kd hT
      replace h := bd_of h; obtain ⟨m6, em6, h⟩ := h
      refine g_nO hΓ.k nl_X3_192 ty_X6 em6 dX3_alt_37 ?_
      replace hT := (nO_ext em6).kd hT
      refine g_dup dX3_alt_40 (va_rf_cat _) ?_
      replace h := bd_of h; obtain ⟨a7, ea7, h⟩ := h
      obtain ⟨ea7, ka7⟩ := isK_of ea7
      cases ea7
      replace h := bd2_of h; obtain ⟨_, m8, em8, h⟩ := h
      have C := ct_X6_init hΓ ka7 em8
      refine g_callIN hΓ il_X3_194 C rfl rfl (Nat.le_of_ble_eq_true rfl) (Nat.le_of_ble_eq_true rfl) (Nat.le_of_ble_eq_true rfl) dX3_alt_41 ?_
      replace hT := (C.1).kd hT
      refine g_astore_n 1 dX3_alt_44 rfl (Nat.le_of_ble_eq_true rfl) rfl ?_
      dsimp only [List.set]
      cases h
      refine G.weak [true, true] rfl ?_
      exact Hl _ rfl hT
theorem ct_X3_alt {Γ : GG} (hΓ : GF Γ) {m mF : MM} {x : Nat} (hT : (m.K x).1 = 4) {r : Option Nat ⊕ Nat} (h : f_X3_alt x m = some (r, mF)) : Ct Γ kX3_alt cX3_alt [.ref x] m (oca r) mF := by
  unfold f_X3_alt at h
  replace h := bd_of h; obtain ⟨q, e, h⟩ := h
  have H := rx_go_ind (P := p_X3_alt Γ m mF x r) (fun z o hs Hl Hr => by
    match z with
    | (l1, m) => exact fun hT => w_X3_alt_45 hΓ hT hs Hl Hr) h
  exact Ct.of (κ := kX3_alt) (by decide) rfl (Nat.le_of_ble_eq_true rfl) rfl (w_X3_alt_0 hΓ hT e H.1 H.2)
set_option maxHeartbeats 4000000 in
theorem w_X3_newName_40 {Γ : GG} (hΓ : GF Γ) {m0 mF m : MM} {x : Nat} (hT : (m.K x).1 = 4) {r : Option Nat ⊕ Nat} (h : b_X3_newName_40 x m = some (r, mF)) : G Γ kX3_newName cX3_newName m0 mF (oca r) m 40 [some (.ref x), none] [] := by
  unfold b_X3_newName_40 at h
  replace h := bd_of h; obtain ⟨m1, em1, h⟩ := h
  refine g_nO hΓ.k nl_X3_72 ty_X4 em1 dX3_newName_40 ?_
  replace hT := (nO_ext em1).kd hT
  refine g_dup dX3_newName_43 (va_rf_cat _) ?_
  refine g_ic 3 dX3_newName_44 rfl ?_
  refine g_this dX3_newName_45 rfl ?_
  refine g_getI hΓ.k fl_X3_43_X3 rfl hT dX3_newName_46 ?_
  replace h := bd_of h; obtain ⟨a2, ea2, h⟩ := h
  obtain ⟨ea2, ka2⟩ := isK_of ea2
  cases ea2
  replace h := bd2_of h; obtain ⟨_, m3, em3, h⟩ := h
  have C := ct_X4_init hΓ ka2 em3
  refine g_callI il_X3_74 C rfl rfl (Nat.le_of_ble_eq_true rfl) (Nat.le_of_ble_eq_true rfl) (Nat.le_of_ble_eq_true rfl) dX3_newName_49 ?_
  replace hT := (C.1).kd hT
  replace h := bd_of h; obtain ⟨q4, eq4, h⟩ := h
  cases h
  exact g_athrowR eq4 rfl dX3_newName_52
set_option maxHeartbeats 4000000 in
theorem w_X3_newName_0 {Γ : GG} (hΓ : GF Γ) {m0 mF m : MM} {x : Nat} (hT : (m.K x).1 = 4) {r : Option Nat ⊕ Nat} (h : b_X3_newName_0 x m = some (r, mF)) : G Γ kX3_newName cX3_newName m0 mF (oca r) m 0 [some (.ref x), none] [] := by
  unfold b_X3_newName_0 at h
  refine g_this dX3_newName_0 rfl ?_
  replace h := bd2_of h; obtain ⟨v1, m2, em2, h⟩ := h
  have C := ct_X3_isName hΓ hT em2
  refine g_callVi hΓ.k vl_X3_105 hT C rfl rfl (Nat.le_of_ble_eq_true rfl) (Nat.le_of_ble_eq_true rfl) (Nat.le_of_ble_eq_true rfl) dX3_newName_1 ?_
  replace hT := (C.1).kd hT
  replace h := ite_of h; rcases h with ⟨hc, h⟩ | ⟨hc, h⟩
  · refine g_ifneF dX3_newName_4 rfl hc ?_
    refine g_this dX3_newName_7 rfl ?_
    replace h := bd2_of h; obtain ⟨v10, m11, em11, h⟩ := h
    have C := ct_X3_wrong hΓ hT em11
    refine g_callVr hΓ.k vl_X3_83 hT C rfl rfl (Nat.le_of_ble_eq_true rfl) (Nat.le_of_ble_eq_true rfl) (Nat.le_of_ble_eq_true rfl) dX3_newName_8 ?_
    replace hT := (C.1).kd hT
    replace h := bd_of h; obtain ⟨q12, eq12, h⟩ := h
    cases h
    exact g_athrowR eq12 rfl dX3_newName_11
  · refine g_ifneT dX3_newName_4 rfl hc ?_
    refine g_this dX3_newName_12 rfl ?_
    refine g_getR hΓ.k fl_X3_24_X3 rfl hT dX3_newName_13 ?_
    refine g_this dX3_newName_16 rfl ?_
    refine g_getR hΓ.k fl_X3_17_X3 rfl hT dX3_newName_17 ?_
    replace h := bd_of h; obtain ⟨a3, ea3, h⟩ := h
    obtain ⟨ea3, ka3⟩ := isK_of ea3
    replace h := bd2_of h; obtain ⟨v4, m5, em5, h⟩ := h
    have C := ct_X1_word hΓ ka3 em5
    refine g_callVi hΓ.k vl_X3_109 ka3 C rfl (by rw [ea3]; rfl) (Nat.le_of_ble_eq_true rfl) (Nat.le_of_ble_eq_true rfl) (Nat.le_of_ble_eq_true rfl) dX3_newName_20 ?_
    replace hT := (C.1).kd hT
    replace h := ite_of h; rcases h with ⟨hc, h⟩ | ⟨hc, h⟩
    · refine g_ifgeT dX3_newName_23 rfl hc ?_
      refine G.weak [true, false] rfl ?_
      exact w_X3_newName_40 hΓ hT h
    · refine g_ifgeF dX3_newName_23 rfl hc ?_
      refine g_this dX3_newName_26 rfl ?_
      refine g_getR hΓ.k fl_X3_24_X3 rfl hT dX3_newName_27 ?_
      refine g_this dX3_newName_30 rfl ?_
      refine g_getR hΓ.k fl_X3_17_X3 rfl hT dX3_newName_31 ?_
      replace h := bd_of h; obtain ⟨a6, ea6, h⟩ := h
      obtain ⟨ea6, ka6⟩ := isK_of ea6
      replace h := bd2_of h; obtain ⟨v7, m8, em8, h⟩ := h
      have C := ct_X1_rule hΓ ka6 em8
      refine g_callVi hΓ.k vl_X3_112 ka6 C rfl (by rw [ea6]; rfl) (Nat.le_of_ble_eq_true rfl) (Nat.le_of_ble_eq_true rfl) (Nat.le_of_ble_eq_true rfl) dX3_newName_34 ?_
      replace hT := (C.1).kd hT
      replace h := ite_of h; rcases h with ⟨hc, h⟩ | ⟨hc, h⟩
      · refine g_ifltT dX3_newName_37 rfl hc ?_
        refine g_this dX3_newName_53 rfl ?_
        refine g_getR hΓ.k fl_X3_17_X3 rfl hT dX3_newName_54 ?_
        refine g_astore_n 1 dX3_newName_57 rfl (Nat.le_of_ble_eq_true rfl) rfl ?_
        dsimp only [List.set]
        refine g_this dX3_newName_58 rfl ?_
        replace h := bd2_of h; obtain ⟨_, m9, em9, h⟩ := h
        have C := ct_X3_go hΓ hT em9
        refine g_callVv hΓ.k vl_X3_87 hT C rfl rfl (Nat.le_of_ble_eq_true rfl) (Nat.le_of_ble_eq_true rfl) (Nat.le_of_ble_eq_true rfl) dX3_newName_59 ?_
        replace hT := (C.1).kd hT
        refine g_aload_n 1 dX3_newName_62 rfl rfl ?_
        cases h
        exact g_aret rfl (Or.inl ⟨_, rfl⟩) dX3_newName_63
      · refine g_ifltF dX3_newName_37 rfl hc ?_
        refine G.weak [true, false] rfl ?_
        exact w_X3_newName_40 hΓ hT h
theorem ct_X3_newName {Γ : GG} (hΓ : GF Γ) {m mF : MM} {x : Nat} (hT : (m.K x).1 = 4) {r : Option Nat ⊕ Nat} (h : f_X3_newName x m = some (r, mF)) : Ct Γ kX3_newName cX3_newName [.ref x] m (oca r) mF := by
  unfold f_X3_newName at h
  exact Ct.of (κ := kX3_newName) (by decide) rfl (Nat.le_of_ble_eq_true rfl) rfl (w_X3_newName_0 hΓ hT h)
set_option maxHeartbeats 4000000 in
theorem w_X5_init_0 {Γ : GG} (hΓ : GF Γ) {m0 mF m : MM} {x : Nat} {l1 : Option Nat} (hT : (m.K x).1 = 6) {r : Unit} (h : b_X5_init_0 x l1 m = some (r, mF)) : G Γ kX5_init cX5_init m0 mF (.inl none) m 0 [some (.ref x), some (va_rf l1)] [] := by
  unfold b_X5_init_0 at h
  refine g_this dX5_init_0 rfl ?_
  refine g_objInit q851 q145 q146 (Nat.le_of_ble_eq_true rfl) (Nat.le_of_ble_eq_true rfl) (Nat.le_of_ble_eq_true rfl) dX5_init_1 ?_
  refine g_this dX5_init_4 rfl ?_
  replace h := bd_of h; obtain ⟨m1, em1, h⟩ := h
  refine g_nO hΓ.k nl_X5_7 ty_J2 em1 dX5_init_5 ?_
  replace hT := (nO_ext em1).kd hT
  refine g_dup dX5_init_8 (va_rf_cat _) ?_
  refine g_ic 2 dX5_init_9 rfl ?_
  replace h := bd_of h; obtain ⟨a2, ea2, h⟩ := h
  obtain ⟨ea2, ka2⟩ := isK_of ea2
  cases ea2
  replace h := bd2_of h; obtain ⟨_, m3, em3, h⟩ := h
  have C := ct_J2_init hΓ ka2 em3
  refine g_callI il_X5_9 C rfl rfl (Nat.le_of_ble_eq_true rfl) (Nat.le_of_ble_eq_true rfl) (Nat.le_of_ble_eq_true rfl) dX5_init_10 ?_
  replace hT := (C.1).kd hT
  replace h := bd_of h; obtain ⟨m4, em4, h⟩ := h
  refine g_pR hΓ.k fl_X5_12_X5 (fun _ => ⟨rfl, fun C T N e9 => by cases e9; rfl⟩) (Or.inl ⟨_, rfl⟩) em4 dX5_init_13 ?_
  replace hT := (pR_ext em4).kd hT
  refine g_this dX5_init_16 rfl ?_
  refine g_aload_n 1 dX5_init_17 rfl rfl ?_
  replace h := bd_of h; obtain ⟨m5, em5, h⟩ := h
  refine g_pR hΓ.k fl_X5_18_X5 (fun _ => ⟨rfl, fun C T N e9 => by cases e9; rfl⟩) (Or.inl ⟨_, rfl⟩) em5 dX5_init_18 ?_
  replace hT := (pR_ext em5).kd hT
  cases h
  exact g_vret rfl dX5_init_21
theorem ct_X5_init {Γ : GG} (hΓ : GF Γ) {m mF : MM} {x : Nat} {l1 : Option Nat} (hT : (m.K x).1 = 6) {r : Unit} (h : f_X5_init x l1 m = some (r, mF)) : Ct Γ kX5_init cX5_init [.ref x, va_rf l1] m (.inl none) mF := by
  unfold f_X5_init at h
  exact Ct.of (κ := kX5_init) (by decide) rfl (by cases l1 <;> exact Nat.le_of_ble_eq_true rfl) rfl (by have w9 := w_X5_init_0 (m0 := m) hΓ hT h; cases l1 <;> exact w9)
def p_X3_rule (Γ : GG) (m0 mF : MM) (x : Nat) (r : Unit ⊕ Nat) : ((Option Nat × MM)) → Prop := fun z => match z with
  | (l1, m) => (m.K x).1 = 4 → G Γ kX3_rule cX3_rule m0 mF (ocv r) m 46 [some (.ref x), some (va_rf l1)] []
set_option maxHeartbeats 4000000 in
theorem w_X3_rule_46 {Γ : GG} (hΓ : GF Γ) {m0 mF m : MM} {x : Nat} {l1 : Option Nat} (hT : (m.K x).1 = 4) {r : Unit ⊕ Nat} {q : ((Option Nat × MM)) ⊕ ((Unit ⊕ Nat) × MM)} (h : b_X3_rule_46 x l1 m = some q) (Hl : ∀ z, q = .inl z → p_X3_rule Γ m0 mF x r z) (Hr : ∀ z, q = .inr z → z = (r, mF)) : G Γ kX3_rule cX3_rule m0 mF (ocv r) m 46 [some (.ref x), some (va_rf l1)] [] := by
  unfold b_X3_rule_46 at h
  refine g_this dX3_rule_46 rfl ?_
  refine g_ldcS (hΓ.str (c := 4) (idx := 99) (tx := "or") (by decide)) dX3_rule_47 ?_
  replace h := bd2_of h; obtain ⟨v1, m2, em2, h⟩ := h
  have C := ct_X3_is hΓ hT em2
  refine g_callVi hΓ.k vl_X3_114 hT C rfl rfl (Nat.le_of_ble_eq_true rfl) (Nat.le_of_ble_eq_true rfl) (Nat.le_of_ble_eq_true rfl) dX3_rule_49 ?_
  replace hT := (C.1).kd hT
  replace h := ite_of h; rcases h with ⟨hc, h⟩ | ⟨hc, h⟩
  · refine g_ifeqT dX3_rule_52 rfl hc ?_
    refine g_this dX3_rule_74 rfl ?_
    refine g_getR hΓ.k fl_X3_24_X3 rfl hT dX3_rule_75 ?_
    replace h := bd_of h; obtain ⟨v3, ev3, h⟩ := h
    refine g_fR hΓ.k fl_X3_134_X1 rfl ev3 dX3_rule_78 ?_
    refine g_aload_n 1 dX3_rule_81 rfl rfl ?_
    replace h := bd_of h; obtain ⟨a4, ea4, h⟩ := h
    obtain ⟨ea4, ka4⟩ := isK_of ea4
    cases ea4
    replace h := bd2_of h; obtain ⟨v5, m6, em6, h⟩ := h
    have C := ct_J2_add hΓ ka4 em6
    refine g_callVi hΓ.k vl_X3_165 ka4 C rfl rfl (Nat.le_of_ble_eq_true rfl) (Nat.le_of_ble_eq_true rfl) (Nat.le_of_ble_eq_true rfl) dX3_rule_82 ?_
    replace hT := (C.1).kd hT
    refine g_pop dX3_rule_85 rfl ?_
    cases h
    cases Hr _ rfl
    exact g_vret rfl dX3_rule_86
  · refine g_ifeqF dX3_rule_52 rfl hc ?_
    refine g_this dX3_rule_55 rfl ?_
    replace h := bd2_of h; obtain ⟨_, m7, em7, h⟩ := h
    have C := ct_X3_go hΓ hT em7
    refine g_callVv hΓ.k vl_X3_87 hT C rfl rfl (Nat.le_of_ble_eq_true rfl) (Nat.le_of_ble_eq_true rfl) (Nat.le_of_ble_eq_true rfl) dX3_rule_56 ?_
    replace hT := (C.1).kd hT
    refine g_aload_n 1 dX3_rule_59 rfl rfl ?_
    replace h := bd_of h; obtain ⟨v8, ev8, h⟩ := h
    refine g_fR hΓ.k fl_X3_183_X5 rfl ev8 dX3_rule_60 ?_
    refine g_this dX3_rule_63 rfl ?_
    replace h := bdxl_of h; rcases h with ⟨v9, m10, em10, h⟩ | ⟨q9, m10, em10, h⟩
    · have C := ct_X3_alt hΓ hT em10
      refine g_callVr hΓ.k vl_X3_186 hT C rfl rfl (Nat.le_of_ble_eq_true rfl) (Nat.le_of_ble_eq_true rfl) (Nat.le_of_ble_eq_true rfl) dX3_rule_64 ?_
      replace hT := C.1.kd hT
      replace h := bd_of h; obtain ⟨a11, ea11, h⟩ := h
      obtain ⟨ea11, ka11⟩ := isK_of ea11
      cases ea11
      replace h := bd2_of h; obtain ⟨v12, m13, em13, h⟩ := h
      have C := ct_J2_add hΓ ka11 em13
      refine g_callVi hΓ.k vl_X3_165 ka11 C rfl rfl (Nat.le_of_ble_eq_true rfl) (Nat.le_of_ble_eq_true rfl) (Nat.le_of_ble_eq_true rfl) dX3_rule_67 ?_
      replace hT := (C.1).kd hT
      refine g_pop dX3_rule_70 rfl ?_
      refine g_goto dX3_rule_71 rfl ?_
      cases h
      refine G.weak [true, true] rfl ?_
      exact Hl _ rfl hT
    · have C := ct_X3_alt hΓ hT em10
      cases h
      cases Hr _ rfl
      exact g_outV hΓ.k rfl vl_X3_186 hT C rfl rfl (Nat.le_of_ble_eq_true rfl) (Nat.le_of_ble_eq_true rfl) (Nat.le_of_ble_eq_true rfl) dX3_rule_64
set_option maxHeartbeats 4000000 in
theorem w_X3_rule_0 {Γ : GG} (hΓ : GF Γ) {m0 mF m : MM} {x : Nat} (hT : (m.K x).1 = 4) {r : Unit ⊕ Nat} {q : ((Option Nat × MM)) ⊕ ((Unit ⊕ Nat) × MM)} (h : b_X3_rule_0 x m = some q) (Hl : ∀ z, q = .inl z → p_X3_rule Γ m0 mF x r z) (Hr : ∀ z, q = .inr z → z = (r, mF)) : G Γ kX3_rule cX3_rule m0 mF (ocv r) m 0 [some (.ref x), none] [] := by
  unfold b_X3_rule_0 at h
  refine g_this dX3_rule_0 rfl ?_
  replace h := bd2_of h; obtain ⟨_, m1, em1, h⟩ := h
  have C := ct_X3_go hΓ hT em1
  refine g_callVv hΓ.k vl_X3_87 hT C rfl rfl (Nat.le_of_ble_eq_true rfl) (Nat.le_of_ble_eq_true rfl) (Nat.le_of_ble_eq_true rfl) dX3_rule_1 ?_
  replace hT := (C.1).kd hT
  replace h := bd_of h; obtain ⟨m2, em2, h⟩ := h
  refine g_nO hΓ.k nl_X3_178 ty_X5 em2 dX3_rule_4 ?_
  replace hT := (nO_ext em2).kd hT
  refine g_dup dX3_rule_7 (va_rf_cat _) ?_
  refine g_this dX3_rule_8 rfl ?_
  replace h := bdxl_of h; rcases h with ⟨v3, m4, em4, h⟩ | ⟨q9, m4, em4, h⟩
  · have C := ct_X3_newName hΓ hT em4
    refine g_callVr hΓ.k vl_X3_154 hT C rfl rfl (Nat.le_of_ble_eq_true rfl) (Nat.le_of_ble_eq_true rfl) (Nat.le_of_ble_eq_true rfl) dX3_rule_9 ?_
    replace hT := C.1.kd hT
    replace h := bd_of h; obtain ⟨a5, ea5, h⟩ := h
    obtain ⟨ea5, ka5⟩ := isK_of ea5
    cases ea5
    replace h := bd2_of h; obtain ⟨_, m6, em6, h⟩ := h
    have C := ct_X5_init hΓ ka5 em6
    refine g_callI il_X3_180 C rfl rfl (Nat.le_of_ble_eq_true rfl) (Nat.le_of_ble_eq_true rfl) (Nat.le_of_ble_eq_true rfl) dX3_rule_12 ?_
    replace hT := (C.1).kd hT
    refine g_astore_n 1 dX3_rule_15 rfl (Nat.le_of_ble_eq_true rfl) rfl ?_
    dsimp only [List.set]
    refine g_this dX3_rule_16 rfl ?_
    refine g_getI hΓ.k fl_X3_46_X3 rfl hT dX3_rule_17 ?_
    refine g_bi (61) dX3_rule_20 rfl ?_
    replace h := ite_of h; rcases h with ⟨hc, h⟩ | ⟨hc, h⟩
    · refine g_iceqT dX3_rule_22 rfl hc ?_
      refine g_this dX3_rule_30 rfl ?_
      replace h := bd2_of h; obtain ⟨_, m7, em7, h⟩ := h
      have C := ct_X3_go hΓ hT em7
      refine g_callVv hΓ.k vl_X3_87 hT C rfl rfl (Nat.le_of_ble_eq_true rfl) (Nat.le_of_ble_eq_true rfl) (Nat.le_of_ble_eq_true rfl) dX3_rule_31 ?_
      replace hT := (C.1).kd hT
      refine g_aload_n 1 dX3_rule_34 rfl rfl ?_
      replace h := bd_of h; obtain ⟨v8, ev8, h⟩ := h
      refine g_fR hΓ.k fl_X3_183_X5 rfl ev8 dX3_rule_35 ?_
      refine g_this dX3_rule_38 rfl ?_
      replace h := bdxl_of h; rcases h with ⟨v9, m10, em10, h⟩ | ⟨q9, m10, em10, h⟩
      · have C := ct_X3_alt hΓ hT em10
        refine g_callVr hΓ.k vl_X3_186 hT C rfl rfl (Nat.le_of_ble_eq_true rfl) (Nat.le_of_ble_eq_true rfl) (Nat.le_of_ble_eq_true rfl) dX3_rule_39 ?_
        replace hT := C.1.kd hT
        replace h := bd_of h; obtain ⟨a11, ea11, h⟩ := h
        obtain ⟨ea11, ka11⟩ := isK_of ea11
        cases ea11
        replace h := bd2_of h; obtain ⟨v12, m13, em13, h⟩ := h
        have C := ct_J2_add hΓ ka11 em13
        refine g_callVi hΓ.k vl_X3_165 ka11 C rfl rfl (Nat.le_of_ble_eq_true rfl) (Nat.le_of_ble_eq_true rfl) (Nat.le_of_ble_eq_true rfl) dX3_rule_42 ?_
        replace hT := (C.1).kd hT
        refine g_pop dX3_rule_45 rfl ?_
        cases h
        refine G.weak [true, true] rfl ?_
        exact Hl _ rfl hT
      · have C := ct_X3_alt hΓ hT em10
        cases h
        cases Hr _ rfl
        exact g_outV hΓ.k rfl vl_X3_186 hT C rfl rfl (Nat.le_of_ble_eq_true rfl) (Nat.le_of_ble_eq_true rfl) (Nat.le_of_ble_eq_true rfl) dX3_rule_39
    · refine g_iceqF dX3_rule_22 rfl hc ?_
      refine g_this dX3_rule_25 rfl ?_
      replace h := bd2_of h; obtain ⟨v14, m15, em15, h⟩ := h
      have C := ct_X3_wrong hΓ hT em15
      refine g_callVr hΓ.k vl_X3_83 hT C rfl rfl (Nat.le_of_ble_eq_true rfl) (Nat.le_of_ble_eq_true rfl) (Nat.le_of_ble_eq_true rfl) dX3_rule_26 ?_
      replace hT := (C.1).kd hT
      replace h := bd_of h; obtain ⟨q16, eq16, h⟩ := h
      cases h
      cases Hr _ rfl
      exact g_athrowR eq16 rfl dX3_rule_29
  · have C := ct_X3_newName hΓ hT em4
    cases h
    cases Hr _ rfl
    exact g_outV hΓ.k rfl vl_X3_154 hT C rfl rfl (Nat.le_of_ble_eq_true rfl) (Nat.le_of_ble_eq_true rfl) (Nat.le_of_ble_eq_true rfl) dX3_rule_9
theorem ct_X3_rule {Γ : GG} (hΓ : GF Γ) {m mF : MM} {x : Nat} (hT : (m.K x).1 = 4) {r : Unit ⊕ Nat} (h : f_X3_rule x m = some (r, mF)) : Ct Γ kX3_rule cX3_rule [.ref x] m (ocv r) mF := by
  unfold f_X3_rule at h
  replace h := bd_of h; obtain ⟨q, e, h⟩ := h
  have H := rx_go_ind (P := p_X3_rule Γ m mF x r) (fun z o hs Hl Hr => by
    match z with
    | (l1, m) => exact fun hT => w_X3_rule_46 hΓ hT hs Hl Hr) h
  exact Ct.of (κ := kX3_rule) (by decide) rfl (Nat.le_of_ble_eq_true rfl) rfl (w_X3_rule_0 hΓ hT e H.1 H.2)
def p_X3_turns (Γ : GG) (m0 mF : MM) (x : Nat) (r : Unit ⊕ Nat) : ((MM)) → Prop := fun z => match z with
  | m => (m.K x).1 = 4 → G Γ kX3_turns cX3_turns m0 mF (ocv r) m 4 [some (.ref x)] []
set_option maxHeartbeats 4000000 in
theorem w_X3_turns_22 {Γ : GG} (hΓ : GF Γ) {m0 mF m : MM} {x : Nat} (hT : (m.K x).1 = 4) {r : Unit ⊕ Nat} {q : ((MM)) ⊕ ((Unit ⊕ Nat) × MM)} (h : b_X3_turns_22 x m = some q) (Hl : ∀ z, q = .inl z → p_X3_turns Γ m0 mF x r z) (Hr : ∀ z, q = .inr z → z = (r, mF)) : G Γ kX3_turns cX3_turns m0 mF (ocv r) m 22 [some (.ref x)] [] := by
  unfold b_X3_turns_22 at h
  refine g_this dX3_turns_22 rfl ?_
  refine g_getR hΓ.k fl_X3_24_X3 rfl hT dX3_turns_23 ?_
  replace h := bd_of h; obtain ⟨v1, ev1, h⟩ := h
  refine g_fI hΓ.k fl_X3_143_X1 rfl ev1 dX3_turns_26 ?_
  refine g_bi (6) dX3_turns_29 rfl ?_
  replace h := ite_of h; rcases h with ⟨hc, h⟩ | ⟨hc, h⟩
  · refine g_icneF dX3_turns_31 rfl hc ?_
    refine g_this dX3_turns_34 rfl ?_
    replace h := bd2_of h; obtain ⟨v9, m10, em10, h⟩ := h
    have C := ct_X3_wrong hΓ hT em10
    refine g_callVr hΓ.k vl_X3_83 hT C rfl rfl (Nat.le_of_ble_eq_true rfl) (Nat.le_of_ble_eq_true rfl) (Nat.le_of_ble_eq_true rfl) dX3_turns_35 ?_
    replace hT := (C.1).kd hT
    replace h := bd_of h; obtain ⟨q11, eq11, h⟩ := h
    cases h
    cases Hr _ rfl
    exact g_athrowR eq11 rfl dX3_turns_38
  · refine g_icneT dX3_turns_31 rfl hc ?_
    refine g_this dX3_turns_39 rfl ?_
    refine g_getR hΓ.k fl_X3_24_X3 rfl hT dX3_turns_40 ?_
    replace h := bd_of h; obtain ⟨v2, ev2, h⟩ := h
    refine g_fR hΓ.k fl_X3_201_X1 rfl ev2 dX3_turns_43 ?_
    refine g_this dX3_turns_46 rfl ?_
    refine g_getR hΓ.k fl_X3_24_X3 rfl hT dX3_turns_47 ?_
    replace h := bd_of h; obtain ⟨v3, ev3, h⟩ := h
    refine g_fI hΓ.k fl_X3_143_X1 rfl ev3 dX3_turns_50 ?_
    refine g_this dX3_turns_53 rfl ?_
    refine g_ic 0 dX3_turns_54 rfl ?_
    refine g_ic 2 dX3_turns_55 rfl ?_
    replace h := bdxl_of h; rcases h with ⟨v4, m5, em5, h⟩ | ⟨q9, m5, em5, h⟩
    · have C := ct_X3_number hΓ hT em5
      refine g_callVi hΓ.k vl_X3_151 hT C rfl rfl (Nat.le_of_ble_eq_true rfl) (Nat.le_of_ble_eq_true rfl) (Nat.le_of_ble_eq_true rfl) dX3_turns_56 ?_
      replace hT := C.1.kd hT
      replace h := bd_of h; obtain ⟨m6, em6, h⟩ := h
      refine g_iast em6 dX3_turns_59 ?_
      replace hT := (sI_ext em6).kd hT
      refine g_this dX3_turns_60 rfl ?_
      refine g_getR hΓ.k fl_X3_24_X3 rfl hT dX3_turns_61 ?_
      refine g_dup dX3_turns_64 (va_rf_cat _) ?_
      replace h := bd_of h; obtain ⟨v7, ev7, h⟩ := h
      refine g_fI hΓ.k fl_X3_143_X1 rfl ev7 dX3_turns_65 ?_
      refine g_ic 1 dX3_turns_68 rfl ?_
      refine g_iadd dX3_turns_69 ?_
      replace h := bd_of h; obtain ⟨m8, em8, h⟩ := h
      refine g_pI hΓ.k fl_X3_143_X1 (fun h9 => by cases h9) rfl (Or.inl ⟨rfl, rfl⟩) em8 dX3_turns_70 ?_
      replace hT := (pI_ext em8).kd hT
      refine g_goto dX3_turns_73 rfl ?_
      cases h
      refine G.weak [true] rfl ?_
      exact Hl _ rfl hT
    · have C := ct_X3_number hΓ hT em5
      cases h
      cases Hr _ rfl
      exact g_outV hΓ.k rfl vl_X3_151 hT C rfl rfl (Nat.le_of_ble_eq_true rfl) (Nat.le_of_ble_eq_true rfl) (Nat.le_of_ble_eq_true rfl) dX3_turns_56
set_option maxHeartbeats 4000000 in
theorem w_X3_turns_4 {Γ : GG} (hΓ : GF Γ) {m0 mF m : MM} {x : Nat} (hT : (m.K x).1 = 4) {r : Unit ⊕ Nat} {q : ((MM)) ⊕ ((Unit ⊕ Nat) × MM)} (h : b_X3_turns_4 x m = some q) (Hl : ∀ z, q = .inl z → p_X3_turns Γ m0 mF x r z) (Hr : ∀ z, q = .inr z → z = (r, mF)) : G Γ kX3_turns cX3_turns m0 mF (ocv r) m 4 [some (.ref x)] [] := by
  unfold b_X3_turns_4 at h
  refine g_this dX3_turns_4 rfl ?_
  refine g_getR hΓ.k fl_X3_24_X3 rfl hT dX3_turns_5 ?_
  replace h := bd_of h; obtain ⟨v1, ev1, h⟩ := h
  refine g_fI hΓ.k fl_X3_143_X1 rfl ev1 dX3_turns_8 ?_
  replace h := ite_of h; rcases h with ⟨hc, h⟩ | ⟨hc, h⟩
  · refine g_ifeqT dX3_turns_11 rfl hc ?_
    refine G.weak [true] rfl ?_
    exact w_X3_turns_22 hΓ hT h Hl Hr
  · refine g_ifeqF dX3_turns_11 rfl hc ?_
    refine g_this dX3_turns_14 rfl ?_
    refine g_getI hΓ.k fl_X3_46_X3 rfl hT dX3_turns_15 ?_
    refine g_ic 2 dX3_turns_18 rfl ?_
    replace h := ite_of h; rcases h with ⟨hc, h⟩ | ⟨hc, h⟩
    · refine g_icneF dX3_turns_19 rfl hc ?_
      refine G.weak [true] rfl ?_
      exact w_X3_turns_22 hΓ hT h Hl Hr
    · refine g_icneT dX3_turns_19 rfl hc ?_
      cases h
      cases Hr _ rfl
      exact g_vret rfl dX3_turns_76
set_option maxHeartbeats 4000000 in
theorem w_X3_turns_0 {Γ : GG} (hΓ : GF Γ) {m0 mF m : MM} {x : Nat} (hT : (m.K x).1 = 4) {r : Unit ⊕ Nat} {q : ((MM)) ⊕ ((Unit ⊕ Nat) × MM)} (h : b_X3_turns_0 x m = some q) (Hl : ∀ z, q = .inl z → p_X3_turns Γ m0 mF x r z) (Hr : ∀ z, q = .inr z → z = (r, mF)) : G Γ kX3_turns cX3_turns m0 mF (ocv r) m 0 [some (.ref x)] [] := by
  unfold b_X3_turns_0 at h
  refine g_this dX3_turns_0 rfl ?_
  replace h := bd2_of h; obtain ⟨_, m1, em1, h⟩ := h
  have C := ct_X3_go hΓ hT em1
  refine g_callVv hΓ.k vl_X3_87 hT C rfl rfl (Nat.le_of_ble_eq_true rfl) (Nat.le_of_ble_eq_true rfl) (Nat.le_of_ble_eq_true rfl) dX3_turns_1 ?_
  replace hT := (C.1).kd hT
  cases h
  refine G.weak [true] rfl ?_
  exact Hl _ rfl hT
theorem ct_X3_turns {Γ : GG} (hΓ : GF Γ) {m mF : MM} {x : Nat} (hT : (m.K x).1 = 4) {r : Unit ⊕ Nat} (h : f_X3_turns x m = some (r, mF)) : Ct Γ kX3_turns cX3_turns [.ref x] m (ocv r) mF := by
  unfold f_X3_turns at h
  replace h := bd_of h; obtain ⟨q, e, h⟩ := h
  have H := rx_go_ind (P := p_X3_turns Γ m mF x r) (fun z o hs Hl Hr => by
    match z with
    | m => exact fun hT => w_X3_turns_4 hΓ hT hs Hl Hr) h
  exact Ct.of (κ := kX3_turns) (by decide) rfl (Nat.le_of_ble_eq_true rfl) rfl (w_X3_turns_0 hΓ hT e H.1 H.2)
set_option maxHeartbeats 4000000 in
theorem w_X3_word_0 {Γ : GG} (hΓ : GF Γ) {m0 mF m : MM} {x : Nat} (hT : (m.K x).1 = 4) {r : Unit ⊕ Nat} (h : b_X3_word_0 x m = some (r, mF)) : G Γ kX3_word cX3_word m0 mF (ocv r) m 0 [some (.ref x), none] [] := by
  unfold b_X3_word_0 at h
  refine g_this dX3_word_0 rfl ?_
  replace h := bd2_of h; obtain ⟨_, m1, em1, h⟩ := h
  have C := ct_X3_go hΓ hT em1
  refine g_callVv hΓ.k vl_X3_87 hT C rfl rfl (Nat.le_of_ble_eq_true rfl) (Nat.le_of_ble_eq_true rfl) (Nat.le_of_ble_eq_true rfl) dX3_word_1 ?_
  replace hT := (C.1).kd hT
  refine g_this dX3_word_4 rfl ?_
  replace h := bdx_of h; rcases h with ⟨v2, m3, em3, h⟩ | ⟨q9, m3, em3, h⟩
  · have C := ct_X3_newName hΓ hT em3
    refine g_callVr hΓ.k vl_X3_154 hT C rfl rfl (Nat.le_of_ble_eq_true rfl) (Nat.le_of_ble_eq_true rfl) (Nat.le_of_ble_eq_true rfl) dX3_word_5 ?_
    replace hT := C.1.kd hT
    refine g_astore_n 1 dX3_word_8 rfl (Nat.le_of_ble_eq_true rfl) rfl ?_
    dsimp only [List.set]
    refine g_this dX3_word_9 rfl ?_
    refine g_this dX3_word_10 rfl ?_
    refine g_getR hΓ.k fl_X3_24_X3 rfl hT dX3_word_11 ?_
    replace h := bd_of h; obtain ⟨v4, ev4, h⟩ := h
    refine g_fR hΓ.k fl_X3_157_X1 rfl ev4 dX3_word_14 ?_
    refine g_this dX3_word_17 rfl ?_
    refine g_getR hΓ.k fl_X3_24_X3 rfl hT dX3_word_18 ?_
    replace h := bd_of h; obtain ⟨v5, ev5, h⟩ := h
    refine g_fR hΓ.k fl_X3_118_X1 rfl ev5 dX3_word_21 ?_
    replace h := bd_of h; obtain ⟨a6, ea6, h⟩ := h
    obtain ⟨ea6, ka6⟩ := isK_of ea6
    cases ea6
    replace h := bd2_of h; obtain ⟨v7, m8, em8, h⟩ := h
    have C := ct_J2_size hΓ ka6 em8
    refine g_callVi hΓ.k vl_X3_122 ka6 C rfl rfl (Nat.le_of_ble_eq_true rfl) (Nat.le_of_ble_eq_true rfl) (Nat.le_of_ble_eq_true rfl) dX3_word_24 ?_
    replace hT := (C.1).kd hT
    replace h := bdx_of h; rcases h with ⟨v10, m9, em9, h⟩ | ⟨q9, m9, em9, h⟩
    · have C := ct_X3_three hΓ hT em9
      refine g_callVv hΓ.k vl_X3_161 hT C rfl rfl (Nat.le_of_ble_eq_true rfl) (Nat.le_of_ble_eq_true rfl) (Nat.le_of_ble_eq_true rfl) dX3_word_27 ?_
      replace hT := C.1.kd hT
      refine g_this dX3_word_30 rfl ?_
      refine g_getR hΓ.k fl_X3_24_X3 rfl hT dX3_word_31 ?_
      replace h := bd_of h; obtain ⟨v11, ev11, h⟩ := h
      refine g_fR hΓ.k fl_X3_118_X1 rfl ev11 dX3_word_34 ?_
      refine g_aload_n 1 dX3_word_37 rfl rfl ?_
      replace h := bd_of h; obtain ⟨a12, ea12, h⟩ := h
      obtain ⟨ea12, ka12⟩ := isK_of ea12
      cases ea12
      replace h := bd2_of h; obtain ⟨v13, m14, em14, h⟩ := h
      have C := ct_J2_add hΓ ka12 em14
      refine g_callVi hΓ.k vl_X3_165 ka12 C rfl rfl (Nat.le_of_ble_eq_true rfl) (Nat.le_of_ble_eq_true rfl) (Nat.le_of_ble_eq_true rfl) dX3_word_38 ?_
      replace hT := (C.1).kd hT
      refine g_pop dX3_word_41 rfl ?_
      cases h
      exact g_vret rfl dX3_word_42
    · have C := ct_X3_three hΓ hT em9
      cases h
      exact g_outV hΓ.k rfl vl_X3_161 hT C rfl rfl (Nat.le_of_ble_eq_true rfl) (Nat.le_of_ble_eq_true rfl) (Nat.le_of_ble_eq_true rfl) dX3_word_27
  · have C := ct_X3_newName hΓ hT em3
    cases h
    exact g_outV hΓ.k rfl vl_X3_154 hT C rfl rfl (Nat.le_of_ble_eq_true rfl) (Nat.le_of_ble_eq_true rfl) (Nat.le_of_ble_eq_true rfl) dX3_word_5
theorem ct_X3_word {Γ : GG} (hΓ : GF Γ) {m mF : MM} {x : Nat} (hT : (m.K x).1 = 4) {r : Unit ⊕ Nat} (h : f_X3_word x m = some (r, mF)) : Ct Γ kX3_word cX3_word [.ref x] m (ocv r) mF := by
  unfold f_X3_word at h
  exact Ct.of (κ := kX3_word) (by decide) rfl (Nat.le_of_ble_eq_true rfl) rfl (w_X3_word_0 hΓ hT h)
def p_X3_text (Γ : GG) (m0 mF : MM) (x : Nat) (r : Option Nat ⊕ Nat) : ((MM) ⊕ (Int32 × MM)) → Prop := fun z => match z with
  | (.inl m) => (m.K x).1 = 4 → G Γ kX3_text cX3_text m0 mF (oca r) m 4 [some (.ref x), none] []
  | (.inr (l1, m)) => (m.K x).1 = 4 → G Γ kX3_text cX3_text m0 mF (oca r) m 181 [some (.ref x), some (.int l1)] []
set_option maxHeartbeats 4000000 in
theorem w_X3_text_181 {Γ : GG} (hΓ : GF Γ) {m0 mF m : MM} {x : Nat} {l1 : Int32} (hT : (m.K x).1 = 4) {r : Option Nat ⊕ Nat} {q : ((MM) ⊕ (Int32 × MM)) ⊕ ((Option Nat ⊕ Nat) × MM)} (h : b_X3_text_181 x l1 m = some q) (Hl : ∀ z, q = .inl z → p_X3_text Γ m0 mF x r z) (Hr : ∀ z, q = .inr z → z = (r, mF)) : G Γ kX3_text cX3_text m0 mF (oca r) m 181 [some (.ref x), some (.int l1)] [] := by
  unfold b_X3_text_181 at h
  refine g_iload_n 1 dX3_text_181 rfl rfl ?_
  refine g_this dX3_text_182 rfl ?_
  refine g_getR hΓ.k fl_X3_24_X3 rfl hT dX3_text_183 ?_
  replace h := bd_of h; obtain ⟨v1, ev1, h⟩ := h
  refine g_fR hΓ.k fl_X3_134_X1 rfl ev1 dX3_text_186 ?_
  replace h := bd_of h; obtain ⟨a2, ea2, h⟩ := h
  obtain ⟨ea2, ka2⟩ := isK_of ea2
  cases ea2
  replace h := bd2_of h; obtain ⟨v3, m4, em4, h⟩ := h
  have C := ct_J2_size hΓ ka2 em4
  refine g_callVi hΓ.k vl_X3_122 ka2 C rfl rfl (Nat.le_of_ble_eq_true rfl) (Nat.le_of_ble_eq_true rfl) (Nat.le_of_ble_eq_true rfl) dX3_text_189 ?_
  replace hT := (C.1).kd hT
  replace h := ite_of h; rcases h with ⟨hc, h⟩ | ⟨hc, h⟩
  · refine g_icgeT dX3_text_192 rfl hc ?_
    refine g_this dX3_text_206 rfl ?_
    refine g_getR hΓ.k fl_X3_24_X3 rfl hT dX3_text_207 ?_
    cases h
    cases Hr _ rfl
    exact g_aret rfl (Or.inl ⟨_, rfl⟩) dX3_text_210
  · refine g_icgeF dX3_text_192 rfl hc ?_
    refine g_this dX3_text_195 rfl ?_
    refine g_iload_n 1 dX3_text_196 rfl rfl ?_
    replace h := bdxl_of h; rcases h with ⟨v6, m5, em5, h⟩ | ⟨q9, m5, em5, h⟩
    · have C := ct_X3_bind hΓ hT em5
      refine g_callVv hΓ.k vl_X3_148 hT C rfl rfl (Nat.le_of_ble_eq_true rfl) (Nat.le_of_ble_eq_true rfl) (Nat.le_of_ble_eq_true rfl) dX3_text_197 ?_
      replace hT := C.1.kd hT
      refine g_iinc (l1 + (1 : Int32)) dX3_text_200 rfl rfl (Nat.le_of_ble_eq_true rfl) rfl ?_
      dsimp only [List.set]
      refine g_goto dX3_text_203 rfl ?_
      cases h
      refine G.weak [true, true] rfl ?_
      exact Hl _ rfl hT
    · have C := ct_X3_bind hΓ hT em5
      cases h
      cases Hr _ rfl
      exact g_outV hΓ.k rfl vl_X3_148 hT C rfl rfl (Nat.le_of_ble_eq_true rfl) (Nat.le_of_ble_eq_true rfl) (Nat.le_of_ble_eq_true rfl) dX3_text_197
set_option maxHeartbeats 4000000 in
theorem w_X3_text_153 {Γ : GG} (hΓ : GF Γ) {m0 mF m : MM} {x : Nat} (hT : (m.K x).1 = 4) {r : Option Nat ⊕ Nat} {q : ((MM) ⊕ (Int32 × MM)) ⊕ ((Option Nat ⊕ Nat) × MM)} (h : b_X3_text_153 x m = some q) (Hl : ∀ z, q = .inl z → p_X3_text Γ m0 mF x r z) (Hr : ∀ z, q = .inr z → z = (r, mF)) : G Γ kX3_text cX3_text m0 mF (oca r) m 153 [some (.ref x), none] [] := by
  unfold b_X3_text_153 at h
  refine g_this dX3_text_153 rfl ?_
  replace h := bd2_of h; obtain ⟨v1, m2, em2, h⟩ := h
  have C := ct_X3_wrong hΓ hT em2
  refine g_callVr hΓ.k vl_X3_83 hT C rfl rfl (Nat.le_of_ble_eq_true rfl) (Nat.le_of_ble_eq_true rfl) (Nat.le_of_ble_eq_true rfl) dX3_text_154 ?_
  replace hT := (C.1).kd hT
  replace h := bd_of h; obtain ⟨q3, eq3, h⟩ := h
  cases h
  cases Hr _ rfl
  exact g_athrowR eq3 rfl dX3_text_157
set_option maxHeartbeats 4000000 in
theorem w_X3_text_158 {Γ : GG} (hΓ : GF Γ) {m0 mF m : MM} {x : Nat} (hT : (m.K x).1 = 4) {r : Option Nat ⊕ Nat} {q : ((MM) ⊕ (Int32 × MM)) ⊕ ((Option Nat ⊕ Nat) × MM)} (h : b_X3_text_158 x m = some q) (Hl : ∀ z, q = .inl z → p_X3_text Γ m0 mF x r z) (Hr : ∀ z, q = .inr z → z = (r, mF)) : G Γ kX3_text cX3_text m0 mF (oca r) m 158 [some (.ref x), none] [] := by
  unfold b_X3_text_158 at h
  refine g_this dX3_text_158 rfl ?_
  refine g_getI hΓ.k fl_X3_46_X3 rfl hT dX3_text_159 ?_
  refine g_bi (59) dX3_text_162 rfl ?_
  replace h := ite_of h; rcases h with ⟨hc, h⟩ | ⟨hc, h⟩
  · refine g_iceqT dX3_text_164 rfl hc ?_
    refine g_this dX3_text_172 rfl ?_
    replace h := bd2_of h; obtain ⟨_, m1, em1, h⟩ := h
    have C := ct_X3_go hΓ hT em1
    refine g_callVv hΓ.k vl_X3_87 hT C rfl rfl (Nat.le_of_ble_eq_true rfl) (Nat.le_of_ble_eq_true rfl) (Nat.le_of_ble_eq_true rfl) dX3_text_173 ?_
    replace hT := (C.1).kd hT
    refine g_goto dX3_text_176 rfl ?_
    cases h
    refine G.weak [true, false] rfl ?_
    exact Hl _ rfl hT
  · refine g_iceqF dX3_text_164 rfl hc ?_
    refine g_this dX3_text_167 rfl ?_
    replace h := bd2_of h; obtain ⟨v2, m3, em3, h⟩ := h
    have C := ct_X3_wrong hΓ hT em3
    refine g_callVr hΓ.k vl_X3_83 hT C rfl rfl (Nat.le_of_ble_eq_true rfl) (Nat.le_of_ble_eq_true rfl) (Nat.le_of_ble_eq_true rfl) dX3_text_168 ?_
    replace hT := (C.1).kd hT
    replace h := bd_of h; obtain ⟨q4, eq4, h⟩ := h
    cases h
    cases Hr _ rfl
    exact g_athrowR eq4 rfl dX3_text_171
set_option maxHeartbeats 4000000 in
theorem w_X3_text_127 {Γ : GG} (hΓ : GF Γ) {m0 mF m : MM} {x : Nat} (hT : (m.K x).1 = 4) {r : Option Nat ⊕ Nat} {q : ((MM) ⊕ (Int32 × MM)) ⊕ ((Option Nat ⊕ Nat) × MM)} (h : b_X3_text_127 x m = some q) (Hl : ∀ z, q = .inl z → p_X3_text Γ m0 mF x r z) (Hr : ∀ z, q = .inr z → z = (r, mF)) : G Γ kX3_text cX3_text m0 mF (oca r) m 127 [some (.ref x), none] [] := by
  unfold b_X3_text_127 at h
  refine g_this dX3_text_127 rfl ?_
  refine g_ldcS (hΓ.str (c := 6) (idx := 103) (tx := "turns") (by decide)) dX3_text_128 ?_
  replace h := bd2_of h; obtain ⟨v1, m2, em2, h⟩ := h
  have C := ct_X3_is hΓ hT em2
  refine g_callVi hΓ.k vl_X3_114 hT C rfl rfl (Nat.le_of_ble_eq_true rfl) (Nat.le_of_ble_eq_true rfl) (Nat.le_of_ble_eq_true rfl) dX3_text_130 ?_
  replace hT := (C.1).kd hT
  replace h := ite_of h; rcases h with ⟨hc, h⟩ | ⟨hc, h⟩
  · refine g_ifeqT dX3_text_133 rfl hc ?_
    refine G.weak [true, false] rfl ?_
    exact w_X3_text_153 hΓ hT h Hl Hr
  · refine g_ifeqF dX3_text_133 rfl hc ?_
    refine g_this dX3_text_136 rfl ?_
    refine g_getR hΓ.k fl_X3_24_X3 rfl hT dX3_text_137 ?_
    replace h := bd_of h; obtain ⟨v3, ev3, h⟩ := h
    refine g_fI hΓ.k fl_X3_143_X1 rfl ev3 dX3_text_140 ?_
    replace h := ite_of h; rcases h with ⟨hc, h⟩ | ⟨hc, h⟩
    · refine g_ifneF dX3_text_143 rfl hc ?_
      refine g_this dX3_text_146 rfl ?_
      replace h := bdxl_of h; rcases h with ⟨v5, m4, em4, h⟩ | ⟨q9, m4, em4, h⟩
      · have C := ct_X3_turns hΓ hT em4
        refine g_callVv hΓ.k vl_X3_146 hT C rfl rfl (Nat.le_of_ble_eq_true rfl) (Nat.le_of_ble_eq_true rfl) (Nat.le_of_ble_eq_true rfl) dX3_text_147 ?_
        replace hT := C.1.kd hT
        refine g_goto dX3_text_150 rfl ?_
        refine G.weak [true, false] rfl ?_
        exact w_X3_text_158 hΓ hT h Hl Hr
      · have C := ct_X3_turns hΓ hT em4
        cases h
        cases Hr _ rfl
        exact g_outV hΓ.k rfl vl_X3_146 hT C rfl rfl (Nat.le_of_ble_eq_true rfl) (Nat.le_of_ble_eq_true rfl) (Nat.le_of_ble_eq_true rfl) dX3_text_147
    · refine g_ifneT dX3_text_143 rfl hc ?_
      refine G.weak [true, false] rfl ?_
      exact w_X3_text_153 hΓ hT h Hl Hr
set_option maxHeartbeats 4000000 in
theorem w_X3_text_101 {Γ : GG} (hΓ : GF Γ) {m0 mF m : MM} {x : Nat} (hT : (m.K x).1 = 4) {r : Option Nat ⊕ Nat} {q : ((MM) ⊕ (Int32 × MM)) ⊕ ((Option Nat ⊕ Nat) × MM)} (h : b_X3_text_101 x m = some q) (Hl : ∀ z, q = .inl z → p_X3_text Γ m0 mF x r z) (Hr : ∀ z, q = .inr z → z = (r, mF)) : G Γ kX3_text cX3_text m0 mF (oca r) m 101 [some (.ref x), none] [] := by
  unfold b_X3_text_101 at h
  refine g_this dX3_text_101 rfl ?_
  refine g_ldcS (hΓ.str (c := 5) (idx := 101) (tx := "length") (by decide)) dX3_text_102 ?_
  replace h := bd2_of h; obtain ⟨v1, m2, em2, h⟩ := h
  have C := ct_X3_is hΓ hT em2
  refine g_callVi hΓ.k vl_X3_114 hT C rfl rfl (Nat.le_of_ble_eq_true rfl) (Nat.le_of_ble_eq_true rfl) (Nat.le_of_ble_eq_true rfl) dX3_text_104 ?_
  replace hT := (C.1).kd hT
  replace h := ite_of h; rcases h with ⟨hc, h⟩ | ⟨hc, h⟩
  · refine g_ifeqT dX3_text_107 rfl hc ?_
    refine G.weak [true, false] rfl ?_
    exact w_X3_text_127 hΓ hT h Hl Hr
  · refine g_ifeqF dX3_text_107 rfl hc ?_
    refine g_this dX3_text_110 rfl ?_
    refine g_getR hΓ.k fl_X3_24_X3 rfl hT dX3_text_111 ?_
    replace h := bd_of h; obtain ⟨v3, ev3, h⟩ := h
    refine g_fI hΓ.k fl_X3_139_X1 rfl ev3 dX3_text_114 ?_
    replace h := ite_of h; rcases h with ⟨hc, h⟩ | ⟨hc, h⟩
    · refine g_ifneF dX3_text_117 rfl hc ?_
      refine g_this dX3_text_120 rfl ?_
      replace h := bdxl_of h; rcases h with ⟨v5, m4, em4, h⟩ | ⟨q9, m4, em4, h⟩
      · have C := ct_X3_length hΓ hT em4
        refine g_callVv hΓ.k vl_X3_141 hT C rfl rfl (Nat.le_of_ble_eq_true rfl) (Nat.le_of_ble_eq_true rfl) (Nat.le_of_ble_eq_true rfl) dX3_text_121 ?_
        replace hT := C.1.kd hT
        refine g_goto dX3_text_124 rfl ?_
        refine G.weak [true, false] rfl ?_
        exact w_X3_text_158 hΓ hT h Hl Hr
      · have C := ct_X3_length hΓ hT em4
        cases h
        cases Hr _ rfl
        exact g_outV hΓ.k rfl vl_X3_141 hT C rfl rfl (Nat.le_of_ble_eq_true rfl) (Nat.le_of_ble_eq_true rfl) (Nat.le_of_ble_eq_true rfl) dX3_text_121
    · refine g_ifneT dX3_text_117 rfl hc ?_
      refine G.weak [true, false] rfl ?_
      exact w_X3_text_127 hΓ hT h Hl Hr
set_option maxHeartbeats 4000000 in
theorem w_X3_text_70 {Γ : GG} (hΓ : GF Γ) {m0 mF m : MM} {x : Nat} (hT : (m.K x).1 = 4) {r : Option Nat ⊕ Nat} {q : ((MM) ⊕ (Int32 × MM)) ⊕ ((Option Nat ⊕ Nat) × MM)} (h : b_X3_text_70 x m = some q) (Hl : ∀ z, q = .inl z → p_X3_text Γ m0 mF x r z) (Hr : ∀ z, q = .inr z → z = (r, mF)) : G Γ kX3_text cX3_text m0 mF (oca r) m 70 [some (.ref x), none] [] := by
  unfold b_X3_text_70 at h
  refine g_this dX3_text_70 rfl ?_
  refine g_ldcS (hΓ.str (c := 3) (idx := 97) (tx := "rule") (by decide)) dX3_text_71 ?_
  replace h := bd2_of h; obtain ⟨v1, m2, em2, h⟩ := h
  have C := ct_X3_is hΓ hT em2
  refine g_callVi hΓ.k vl_X3_114 hT C rfl rfl (Nat.le_of_ble_eq_true rfl) (Nat.le_of_ble_eq_true rfl) (Nat.le_of_ble_eq_true rfl) dX3_text_73 ?_
  replace hT := (C.1).kd hT
  replace h := ite_of h; rcases h with ⟨hc, h⟩ | ⟨hc, h⟩
  · refine g_ifeqT dX3_text_76 rfl hc ?_
    refine G.weak [true, false] rfl ?_
    exact w_X3_text_101 hΓ hT h Hl Hr
  · refine g_ifeqF dX3_text_76 rfl hc ?_
    refine g_this dX3_text_79 rfl ?_
    refine g_getR hΓ.k fl_X3_24_X3 rfl hT dX3_text_80 ?_
    replace h := bd_of h; obtain ⟨v3, ev3, h⟩ := h
    refine g_fR hΓ.k fl_X3_134_X1 rfl ev3 dX3_text_83 ?_
    replace h := bd_of h; obtain ⟨a4, ea4, h⟩ := h
    obtain ⟨ea4, ka4⟩ := isK_of ea4
    cases ea4
    replace h := bd2_of h; obtain ⟨v5, m6, em6, h⟩ := h
    have C := ct_J2_size hΓ ka4 em6
    refine g_callVi hΓ.k vl_X3_122 ka4 C rfl rfl (Nat.le_of_ble_eq_true rfl) (Nat.le_of_ble_eq_true rfl) (Nat.le_of_ble_eq_true rfl) dX3_text_86 ?_
    replace hT := (C.1).kd hT
    refine g_bi (8) dX3_text_89 rfl ?_
    replace h := ite_of h; rcases h with ⟨hc, h⟩ | ⟨hc, h⟩
    · refine g_icgeT dX3_text_91 rfl hc ?_
      refine G.weak [true, false] rfl ?_
      exact w_X3_text_101 hΓ hT h Hl Hr
    · refine g_icgeF dX3_text_91 rfl hc ?_
      refine g_this dX3_text_94 rfl ?_
      replace h := bdxl_of h; rcases h with ⟨v8, m7, em7, h⟩ | ⟨q9, m7, em7, h⟩
      · have C := ct_X3_rule hΓ hT em7
        refine g_callVv hΓ.k vl_X3_137 hT C rfl rfl (Nat.le_of_ble_eq_true rfl) (Nat.le_of_ble_eq_true rfl) (Nat.le_of_ble_eq_true rfl) dX3_text_95 ?_
        replace hT := C.1.kd hT
        refine g_goto dX3_text_98 rfl ?_
        refine G.weak [true, false] rfl ?_
        exact w_X3_text_158 hΓ hT h Hl Hr
      · have C := ct_X3_rule hΓ hT em7
        cases h
        cases Hr _ rfl
        exact g_outV hΓ.k rfl vl_X3_137 hT C rfl rfl (Nat.le_of_ble_eq_true rfl) (Nat.le_of_ble_eq_true rfl) (Nat.le_of_ble_eq_true rfl) dX3_text_95
set_option maxHeartbeats 4000000 in
theorem w_X3_text_42 {Γ : GG} (hΓ : GF Γ) {m0 mF m : MM} {x : Nat} (hT : (m.K x).1 = 4) {r : Option Nat ⊕ Nat} {q : ((MM) ⊕ (Int32 × MM)) ⊕ ((Option Nat ⊕ Nat) × MM)} (h : b_X3_text_42 x m = some q) (Hl : ∀ z, q = .inl z → p_X3_text Γ m0 mF x r z) (Hr : ∀ z, q = .inr z → z = (r, mF)) : G Γ kX3_text cX3_text m0 mF (oca r) m 42 [some (.ref x), none] [] := by
  unfold b_X3_text_42 at h
  refine g_this dX3_text_42 rfl ?_
  refine g_ldcS (hΓ.str (c := 2) (idx := 95) (tx := "pair") (by decide)) dX3_text_43 ?_
  replace h := bd2_of h; obtain ⟨v1, m2, em2, h⟩ := h
  have C := ct_X3_is hΓ hT em2
  refine g_callVi hΓ.k vl_X3_114 hT C rfl rfl (Nat.le_of_ble_eq_true rfl) (Nat.le_of_ble_eq_true rfl) (Nat.le_of_ble_eq_true rfl) dX3_text_45 ?_
  replace hT := (C.1).kd hT
  replace h := ite_of h; rcases h with ⟨hc, h⟩ | ⟨hc, h⟩
  · refine g_ifeqT dX3_text_48 rfl hc ?_
    refine G.weak [true, false] rfl ?_
    exact w_X3_text_70 hΓ hT h Hl Hr
  · refine g_ifeqF dX3_text_48 rfl hc ?_
    refine g_this dX3_text_51 rfl ?_
    refine g_getR hΓ.k fl_X3_24_X3 rfl hT dX3_text_52 ?_
    replace h := bd_of h; obtain ⟨v3, ev3, h⟩ := h
    refine g_fI hΓ.k fl_X3_129_X1 rfl ev3 dX3_text_55 ?_
    refine g_bi (12) dX3_text_58 rfl ?_
    replace h := ite_of h; rcases h with ⟨hc, h⟩ | ⟨hc, h⟩
    · refine g_icgeT dX3_text_60 rfl hc ?_
      refine G.weak [true, false] rfl ?_
      exact w_X3_text_70 hΓ hT h Hl Hr
    · refine g_icgeF dX3_text_60 rfl hc ?_
      refine g_this dX3_text_63 rfl ?_
      replace h := bdxl_of h; rcases h with ⟨v5, m4, em4, h⟩ | ⟨q9, m4, em4, h⟩
      · have C := ct_X3_pair hΓ hT em4
        refine g_callVv hΓ.k vl_X3_132 hT C rfl rfl (Nat.le_of_ble_eq_true rfl) (Nat.le_of_ble_eq_true rfl) (Nat.le_of_ble_eq_true rfl) dX3_text_64 ?_
        replace hT := C.1.kd hT
        refine g_goto dX3_text_67 rfl ?_
        refine G.weak [true, false] rfl ?_
        exact w_X3_text_158 hΓ hT h Hl Hr
      · have C := ct_X3_pair hΓ hT em4
        cases h
        cases Hr _ rfl
        exact g_outV hΓ.k rfl vl_X3_132 hT C rfl rfl (Nat.le_of_ble_eq_true rfl) (Nat.le_of_ble_eq_true rfl) (Nat.le_of_ble_eq_true rfl) dX3_text_64
set_option maxHeartbeats 4000000 in
theorem w_X3_text_4 {Γ : GG} (hΓ : GF Γ) {m0 mF m : MM} {x : Nat} (hT : (m.K x).1 = 4) {r : Option Nat ⊕ Nat} {q : ((MM) ⊕ (Int32 × MM)) ⊕ ((Option Nat ⊕ Nat) × MM)} (h : b_X3_text_4 x m = some q) (Hl : ∀ z, q = .inl z → p_X3_text Γ m0 mF x r z) (Hr : ∀ z, q = .inr z → z = (r, mF)) : G Γ kX3_text cX3_text m0 mF (oca r) m 4 [some (.ref x), none] [] := by
  unfold b_X3_text_4 at h
  refine g_this dX3_text_4 rfl ?_
  refine g_getI hΓ.k fl_X3_46_X3 rfl hT dX3_text_5 ?_
  replace h := ite_of h; rcases h with ⟨hc, h⟩ | ⟨hc, h⟩
  · refine g_ifeqT dX3_text_8 rfl hc ?_
    refine g_ic 0 dX3_text_179 rfl ?_
    refine g_istore_n 1 dX3_text_180 rfl (Nat.le_of_ble_eq_true rfl) rfl ?_
    dsimp only [List.set]
    cases h
    refine G.weak [true, true] rfl ?_
    exact Hl _ rfl hT
  · refine g_ifeqF dX3_text_8 rfl hc ?_
    refine g_this dX3_text_11 rfl ?_
    refine g_ldcS (hΓ.str (c := 1) (idx := 94) (tx := "word") (by decide)) dX3_text_12 ?_
    replace h := bd2_of h; obtain ⟨v1, m2, em2, h⟩ := h
    have C := ct_X3_is hΓ hT em2
    refine g_callVi hΓ.k vl_X3_114 hT C rfl rfl (Nat.le_of_ble_eq_true rfl) (Nat.le_of_ble_eq_true rfl) (Nat.le_of_ble_eq_true rfl) dX3_text_14 ?_
    replace hT := (C.1).kd hT
    replace h := ite_of h; rcases h with ⟨hc, h⟩ | ⟨hc, h⟩
    · refine g_ifeqT dX3_text_17 rfl hc ?_
      refine G.weak [true, false] rfl ?_
      exact w_X3_text_42 hΓ hT h Hl Hr
    · refine g_ifeqF dX3_text_17 rfl hc ?_
      refine g_this dX3_text_20 rfl ?_
      refine g_getR hΓ.k fl_X3_24_X3 rfl hT dX3_text_21 ?_
      replace h := bd_of h; obtain ⟨v3, ev3, h⟩ := h
      refine g_fR hΓ.k fl_X3_118_X1 rfl ev3 dX3_text_24 ?_
      replace h := bd_of h; obtain ⟨a4, ea4, h⟩ := h
      obtain ⟨ea4, ka4⟩ := isK_of ea4
      cases ea4
      replace h := bd2_of h; obtain ⟨v5, m6, em6, h⟩ := h
      have C := ct_J2_size hΓ ka4 em6
      refine g_callVi hΓ.k vl_X3_122 ka4 C rfl rfl (Nat.le_of_ble_eq_true rfl) (Nat.le_of_ble_eq_true rfl) (Nat.le_of_ble_eq_true rfl) dX3_text_27 ?_
      replace hT := (C.1).kd hT
      refine g_bi (8) dX3_text_30 rfl ?_
      replace h := ite_of h; rcases h with ⟨hc, h⟩ | ⟨hc, h⟩
      · refine g_icgeT dX3_text_32 rfl hc ?_
        refine G.weak [true, false] rfl ?_
        exact w_X3_text_42 hΓ hT h Hl Hr
      · refine g_icgeF dX3_text_32 rfl hc ?_
        refine g_this dX3_text_35 rfl ?_
        replace h := bdxl_of h; rcases h with ⟨v8, m7, em7, h⟩ | ⟨q9, m7, em7, h⟩
        · have C := ct_X3_word hΓ hT em7
          refine g_callVv hΓ.k vl_X3_127 hT C rfl rfl (Nat.le_of_ble_eq_true rfl) (Nat.le_of_ble_eq_true rfl) (Nat.le_of_ble_eq_true rfl) dX3_text_36 ?_
          replace hT := C.1.kd hT
          refine g_goto dX3_text_39 rfl ?_
          refine G.weak [true, false] rfl ?_
          exact w_X3_text_158 hΓ hT h Hl Hr
        · have C := ct_X3_word hΓ hT em7
          cases h
          cases Hr _ rfl
          exact g_outV hΓ.k rfl vl_X3_127 hT C rfl rfl (Nat.le_of_ble_eq_true rfl) (Nat.le_of_ble_eq_true rfl) (Nat.le_of_ble_eq_true rfl) dX3_text_36
set_option maxHeartbeats 4000000 in
theorem w_X3_text_0 {Γ : GG} (hΓ : GF Γ) {m0 mF m : MM} {x : Nat} (hT : (m.K x).1 = 4) {r : Option Nat ⊕ Nat} {q : ((MM) ⊕ (Int32 × MM)) ⊕ ((Option Nat ⊕ Nat) × MM)} (h : b_X3_text_0 x m = some q) (Hl : ∀ z, q = .inl z → p_X3_text Γ m0 mF x r z) (Hr : ∀ z, q = .inr z → z = (r, mF)) : G Γ kX3_text cX3_text m0 mF (oca r) m 0 [some (.ref x), none] [] := by
  unfold b_X3_text_0 at h
  refine g_this dX3_text_0 rfl ?_
  replace h := bd2_of h; obtain ⟨_, m1, em1, h⟩ := h
  have C := ct_X3_go hΓ hT em1
  refine g_callVv hΓ.k vl_X3_87 hT C rfl rfl (Nat.le_of_ble_eq_true rfl) (Nat.le_of_ble_eq_true rfl) (Nat.le_of_ble_eq_true rfl) dX3_text_1 ?_
  replace hT := (C.1).kd hT
  cases h
  refine G.weak [true, false] rfl ?_
  exact Hl _ rfl hT
theorem ct_X3_text {Γ : GG} (hΓ : GF Γ) {m mF : MM} {x : Nat} (hT : (m.K x).1 = 4) {r : Option Nat ⊕ Nat} (h : f_X3_text x m = some (r, mF)) : Ct Γ kX3_text cX3_text [.ref x] m (oca r) mF := by
  unfold f_X3_text at h
  replace h := bd_of h; obtain ⟨q, e, h⟩ := h
  have H := rx_go_ind (P := p_X3_text Γ m mF x r) (fun z o hs Hl Hr => by
    match z with
    | (.inl m) => exact fun hT => w_X3_text_4 hΓ hT hs Hl Hr
    | (.inr (l1, m)) => exact fun hT => w_X3_text_181 hΓ hT hs Hl Hr) h
  exact Ct.of (κ := kX3_text) (by decide) rfl (Nat.le_of_ble_eq_true rfl) rfl (w_X3_text_0 hΓ hT e H.1 H.2)
def p_X0_port (Γ : GG) (m0 mF : MM) (x : Nat) (r : Int32) : ((Option Nat × Int32 × MM) ⊕ (Option Nat × Int32 × MM)) → Prop := fun z => match z with
  | (.inl (l1, l2, m)) => (m.K x).1 = 1 → G Γ kX0_port cX0_port m0 mF (.inl (some (.int r))) m 35 [some (.ref x), some (va_rf l1), some (.int l2)] []
  | (.inr (l1, l2, m)) => (m.K x).1 = 1 → G Γ kX0_port cX0_port m0 mF (.inl (some (.int r))) m 56 [some (.ref x), some (va_rf l1), some (.int l2)] []
set_option maxHeartbeats 4000000 in
theorem w_X0_port_109 {Γ : GG} (hΓ : GF Γ) {m0 mF m : MM} {x : Nat} {l1 : Option Nat} {s0 : Option Nat} {s1 : Int32} (hT : (m.K x).1 = 1) {r : Int32} {q : ((Option Nat × Int32 × MM) ⊕ (Option Nat × Int32 × MM)) ⊕ (Int32 × MM)} (h : b_X0_port_109 x l1 s0 s1 m = some q) (Hl : ∀ z, q = .inl z → p_X0_port Γ m0 mF x r z) (Hr : ∀ z, q = .inr z → z = (r, mF)) : G Γ kX0_port cX0_port m0 mF (.inl (some (.int r))) m 109 [some (.ref x), some (va_rf l1), none] [.int s1, va_rf s0] := by
  unfold b_X0_port_109 at h
  replace h := bd_of h; obtain ⟨m1, em1, h⟩ := h
  refine g_pI hΓ.k fl_X0_160_X0 (fun h9 => by cases h9) rfl (Or.inl ⟨rfl, rfl⟩) em1 dX0_port_109 ?_
  replace hT := (pI_ext em1).kd hT
  refine g_this dX0_port_112 rfl ?_
  refine g_ic 0 dX0_port_113 rfl ?_
  replace h := bd_of h; obtain ⟨m2, em2, h⟩ := h
  refine g_pI hΓ.k fl_X0_206_X0 (fun h9 => by cases h9) rfl (Or.inl ⟨rfl, rfl⟩) em2 dX0_port_114 ?_
  replace hT := (pI_ext em2).kd hT
  refine g_aload_n 1 dX0_port_117 rfl rfl ?_
  replace h := ite_of h; rcases h with ⟨hc, h⟩ | ⟨hc, h⟩
  · refine g_ifnonnullF dX0_port_118 rfl hc ?_
    refine g_this dX0_port_121 rfl ?_
    refine g_getR hΓ.k fl_X0_31_X0 rfl hT dX0_port_122 ?_
    replace h := bd_of h; obtain ⟨v3, ev3, h⟩ := h
    refine g_fR hΓ.k fl_X0_80_X1 rfl ev3 dX0_port_125 ?_
    replace h := bd_of h; obtain ⟨a4, ea4, h⟩ := h
    obtain ⟨ea4, ka4⟩ := isK_of ea4
    cases ea4
    replace h := bd2_of h; obtain ⟨v5, m6, em6, h⟩ := h
    have C := ct_J2_size hΓ ka4 em6
    refine g_callVi hΓ.k vl_X0_47 ka4 C rfl rfl (Nat.le_of_ble_eq_true rfl) (Nat.le_of_ble_eq_true rfl) (Nat.le_of_ble_eq_true rfl) dX0_port_128 ?_
    replace hT := (C.1).kd hT
    refine g_goto dX0_port_131 rfl ?_
    cases h
    cases Hr _ rfl
    exact g_iret rfl dX0_port_135
  · refine g_ifnonnullT dX0_port_118 rfl hc ?_
    refine g_ic (-1) dX0_port_134 rfl ?_
    cases h
    cases Hr _ rfl
    exact g_iret rfl dX0_port_135
set_option maxHeartbeats 4000000 in
theorem w_X0_port_93 {Γ : GG} (hΓ : GF Γ) {m0 mF m : MM} {x : Nat} {l1 : Option Nat} {s0 : Option Nat} {s1 : Int32} (hT : (m.K x).1 = 1) {r : Int32} {q : ((Option Nat × Int32 × MM) ⊕ (Option Nat × Int32 × MM)) ⊕ (Int32 × MM)} (h : b_X0_port_93 x l1 s0 s1 m = some q) (Hl : ∀ z, q = .inl z → p_X0_port Γ m0 mF x r z) (Hr : ∀ z, q = .inr z → z = (r, mF)) : G Γ kX0_port cX0_port m0 mF (.inl (some (.int r))) m 93 [some (.ref x), some (va_rf l1), none] [.int s1, va_rf s0] := by
  unfold b_X0_port_93 at h
  replace h := bd_of h; obtain ⟨m1, em1, h⟩ := h
  refine g_pI hΓ.k fl_X0_229_X0 (fun h9 => by cases h9) rfl (Or.inl ⟨rfl, rfl⟩) em1 dX0_port_93 ?_
  replace hT := (pI_ext em1).kd hT
  refine g_this dX0_port_96 rfl ?_
  refine g_aload_n 1 dX0_port_97 rfl rfl ?_
  replace h := ite_of h; rcases h with ⟨hc, h⟩ | ⟨hc, h⟩
  · refine g_ifnonnullF dX0_port_98 rfl hc ?_
    refine g_ic (-1) dX0_port_101 rfl ?_
    refine g_goto dX0_port_102 rfl ?_
    refine G.weak [true, true, false] rfl ?_
    exact w_X0_port_109 hΓ hT h Hl Hr
  · refine g_ifnonnullT dX0_port_98 rfl hc ?_
    refine g_aload_n 1 dX0_port_105 rfl rfl ?_
    replace h := bd_of h; obtain ⟨v2, ev2, h⟩ := h
    refine g_fI hΓ.k fl_X0_232_X4 rfl ev2 dX0_port_106 ?_
    refine G.weak [true, true, false] rfl ?_
    exact w_X0_port_109 hΓ hT h Hl Hr
set_option maxHeartbeats 4000000 in
theorem w_X0_port_80 {Γ : GG} (hΓ : GF Γ) {m0 mF m : MM} {x : Nat} {l1 : Option Nat} (hT : (m.K x).1 = 1) {r : Int32} {q : ((Option Nat × Int32 × MM) ⊕ (Option Nat × Int32 × MM)) ⊕ (Int32 × MM)} (h : b_X0_port_80 x l1 m = some q) (Hl : ∀ z, q = .inl z → p_X0_port Γ m0 mF x r z) (Hr : ∀ z, q = .inr z → z = (r, mF)) : G Γ kX0_port cX0_port m0 mF (.inl (some (.int r))) m 80 [some (.ref x), some (va_rf l1), none] [] := by
  unfold b_X0_port_80 at h
  refine g_this dX0_port_80 rfl ?_
  refine g_aload_n 1 dX0_port_81 rfl rfl ?_
  replace h := ite_of h; rcases h with ⟨hc, h⟩ | ⟨hc, h⟩
  · refine g_ifnonnullF dX0_port_82 rfl hc ?_
    refine g_ic 0 dX0_port_85 rfl ?_
    refine g_goto dX0_port_86 rfl ?_
    refine G.weak [true, true, false] rfl ?_
    exact w_X0_port_93 hΓ hT h Hl Hr
  · refine g_ifnonnullT dX0_port_82 rfl hc ?_
    refine g_aload_n 1 dX0_port_89 rfl rfl ?_
    replace h := bd_of h; obtain ⟨v1, ev1, h⟩ := h
    refine g_fI hΓ.k fl_X0_226_X4 rfl ev1 dX0_port_90 ?_
    refine G.weak [true, true, false] rfl ?_
    exact w_X0_port_93 hΓ hT h Hl Hr
set_option maxHeartbeats 4000000 in
theorem w_X0_port_56 {Γ : GG} (hΓ : GF Γ) {m0 mF m : MM} {x : Nat} {l1 : Option Nat} {l2 : Int32} (hT : (m.K x).1 = 1) {r : Int32} {q : ((Option Nat × Int32 × MM) ⊕ (Option Nat × Int32 × MM)) ⊕ (Int32 × MM)} (h : b_X0_port_56 x l1 l2 m = some q) (Hl : ∀ z, q = .inl z → p_X0_port Γ m0 mF x r z) (Hr : ∀ z, q = .inr z → z = (r, mF)) : G Γ kX0_port cX0_port m0 mF (.inl (some (.int r))) m 56 [some (.ref x), some (va_rf l1), some (.int l2)] [] := by
  unfold b_X0_port_56 at h
  refine g_iload_n 2 dX0_port_56 rfl rfl ?_
  refine g_ic 3 dX0_port_57 rfl ?_
  replace h := ite_of h; rcases h with ⟨hc, h⟩ | ⟨hc, h⟩
  · refine g_icgeT dX0_port_58 rfl hc ?_
    refine g_goto dX0_port_74 rfl ?_
    refine G.weak [true, true, false] rfl ?_
    exact w_X0_port_80 hΓ hT h Hl Hr
  · refine g_icgeF dX0_port_58 rfl hc ?_
    refine g_this dX0_port_61 rfl ?_
    refine g_getR hΓ.k fl_X0_199_X0 rfl hT dX0_port_62 ?_
    refine g_iload_n 2 dX0_port_65 rfl rfl ?_
    refine g_ic 0 dX0_port_66 rfl ?_
    replace h := bd_of h; obtain ⟨m1, em1, h⟩ := h
    refine g_zast em1 dX0_port_67 ?_
    replace hT := (sI_ext em1).kd hT
    refine g_iinc (l2 + (1 : Int32)) dX0_port_68 rfl rfl (Nat.le_of_ble_eq_true rfl) (lvC_rf rfl) ?_
    dsimp only [List.set]
    refine g_goto dX0_port_71 rfl ?_
    cases h
    refine G.weak [true, true, true] rfl ?_
    exact Hl _ rfl hT
set_option maxHeartbeats 4000000 in
theorem w_X0_port_35 {Γ : GG} (hΓ : GF Γ) {m0 mF m : MM} {x : Nat} {l1 : Option Nat} {l2 : Int32} (hT : (m.K x).1 = 1) {r : Int32} {q : ((Option Nat × Int32 × MM) ⊕ (Option Nat × Int32 × MM)) ⊕ (Int32 × MM)} (h : b_X0_port_35 x l1 l2 m = some q) (Hl : ∀ z, q = .inl z → p_X0_port Γ m0 mF x r z) (Hr : ∀ z, q = .inr z → z = (r, mF)) : G Γ kX0_port cX0_port m0 mF (.inl (some (.int r))) m 35 [some (.ref x), some (va_rf l1), some (.int l2)] [] := by
  unfold b_X0_port_35 at h
  refine g_iload_n 2 dX0_port_35 rfl rfl ?_
  refine g_bi (6) dX0_port_36 rfl ?_
  replace h := ite_of h; rcases h with ⟨hc, h⟩ | ⟨hc, h⟩
  · refine g_icgeT dX0_port_38 rfl hc ?_
    refine g_ic 0 dX0_port_54 rfl ?_
    refine g_istore_n 2 dX0_port_55 rfl (Nat.le_of_ble_eq_true rfl) (lvC_rf rfl) ?_
    dsimp only [List.set]
    cases h
    refine G.weak [true, true, true] rfl ?_
    exact Hl _ rfl hT
  · refine g_icgeF dX0_port_38 rfl hc ?_
    refine g_this dX0_port_41 rfl ?_
    refine g_getR hΓ.k fl_X0_184_X0 rfl hT dX0_port_42 ?_
    refine g_iload_n 2 dX0_port_45 rfl rfl ?_
    refine g_ic (-1) dX0_port_46 rfl ?_
    replace h := bd_of h; obtain ⟨m1, em1, h⟩ := h
    refine g_iast em1 dX0_port_47 ?_
    replace hT := (sI_ext em1).kd hT
    refine g_iinc (l2 + (1 : Int32)) dX0_port_48 rfl rfl (Nat.le_of_ble_eq_true rfl) (lvC_rf rfl) ?_
    dsimp only [List.set]
    refine g_goto dX0_port_51 rfl ?_
    cases h
    refine G.weak [true, true, true] rfl ?_
    exact Hl _ rfl hT
set_option maxHeartbeats 4000000 in
theorem w_X0_port_0 {Γ : GG} (hΓ : GF Γ) {m0 mF m : MM} {x : Nat} (hT : (m.K x).1 = 1) {r : Int32} {q : ((Option Nat × Int32 × MM) ⊕ (Option Nat × Int32 × MM)) ⊕ (Int32 × MM)} (h : b_X0_port_0 x m = some q) (Hl : ∀ z, q = .inl z → p_X0_port Γ m0 mF x r z) (Hr : ∀ z, q = .inr z → z = (r, mF)) : G Γ kX0_port cX0_port m0 mF (.inl (some (.int r))) m 0 [some (.ref x), none, none] [] := by
  unfold b_X0_port_0 at h
  refine g_null dX0_port_0 ?_
  refine g_astore_n 1 dX0_port_1 rfl (Nat.le_of_ble_eq_true rfl) rfl ?_
  dsimp only [List.set]
  refine g_this dX0_port_2 rfl ?_
  replace h := bd_of h; obtain ⟨m1, em1, h⟩ := h
  refine g_nO hΓ.k nl_X0_209 ty_X3 em1 dX0_port_3 ?_
  replace hT := (nO_ext em1).kd hT
  refine g_dup dX0_port_6 (va_rf_cat _) ?_
  refine g_this dX0_port_7 rfl ?_
  replace h := bd_of h; obtain ⟨a2, ea2, h⟩ := h
  obtain ⟨ea2, ka2⟩ := isK_of ea2
  cases ea2
  replace h := bd2_of h; obtain ⟨_, m3, em3, h⟩ := h
  have C := ct_X3_init hΓ ka2 em3
  refine g_callIN hΓ il_X0_211 C rfl rfl (Nat.le_of_ble_eq_true rfl) (Nat.le_of_ble_eq_true rfl) (Nat.le_of_ble_eq_true rfl) dX0_port_8 ?_
  replace hT := (C.1).kd hT
  replace h := bd_of h; obtain ⟨a4, ea4, h⟩ := h
  obtain ⟨ea4, ka4⟩ := isK_of ea4
  cases ea4
  replace h := bdc_of h; rcases h with ⟨v5, m6, em6, h⟩ | ⟨q7, m8, em8, h⟩
  · have C := ct_X3_text hΓ ka4 em6
    refine g_callVr hΓ.k vl_X0_214 ka4 C rfl rfl (Nat.le_of_ble_eq_true rfl) (Nat.le_of_ble_eq_true rfl) (Nat.le_of_ble_eq_true rfl) dX0_port_11 ?_
    replace hT := C.1.kd hT
    replace h := bd_of h; obtain ⟨m9, em9, h⟩ := h
    refine g_pR hΓ.k fl_X0_31_X0 (fun h9 => by cases h9) (Or.inl ⟨_, rfl⟩) em9 dX0_port_14 ?_
    replace hT := (pR_ext em9).kd hT
    refine g_this dX0_port_17 rfl ?_
    replace h := bd2_of h; obtain ⟨_, m10, em10, h⟩ := h
    have C := ct_X0_begin hΓ hT em10
    refine g_callVv hΓ.k vl_X0_203 hT C rfl rfl (Nat.le_of_ble_eq_true rfl) (Nat.le_of_ble_eq_true rfl) (Nat.le_of_ble_eq_true rfl) dX0_port_18 ?_
    replace hT := (C.1).kd hT
    refine g_this dX0_port_21 rfl ?_
    refine g_ic 0 dX0_port_22 rfl ?_
    replace h := bd_of h; obtain ⟨m11, em11, h⟩ := h
    refine g_pI hΓ.k fl_X0_218_X0 (fun h9 => by cases h9) rfl (Or.inl ⟨rfl, rfl⟩) em11 dX0_port_23 ?_
    replace hT := (pI_ext em11).kd hT
    refine g_this dX0_port_26 rfl ?_
    refine g_getR hΓ.k fl_X0_193_X0 rfl hT dX0_port_27 ?_
    replace h := bd_of h; obtain ⟨a12, ea12, h⟩ := h
    obtain ⟨ea12, ka12⟩ := isK_of ea12
    replace h := bd2_of h; obtain ⟨_, m13, em13, h⟩ := h
    have C := ct_J2_clear hΓ ka12 em13
    refine g_callVv hΓ.k vl_X0_221 ka12 C rfl (by rw [ea12]; rfl) (Nat.le_of_ble_eq_true rfl) (Nat.le_of_ble_eq_true rfl) (Nat.le_of_ble_eq_true rfl) dX0_port_30 ?_
    replace hT := (C.1).kd hT
    refine g_ic 0 dX0_port_33 rfl ?_
    refine g_istore_n 2 dX0_port_34 rfl (Nat.le_of_ble_eq_true rfl) (lvC_rf rfl) ?_
    dsimp only [List.set]
    cases h
    refine G.weak [true, true, true] rfl ?_
    exact Hl _ rfl hT
  · have C := ct_X3_text hΓ ka4 em8
    replace h := ite_of h; rcases h with ⟨hc, h⟩ | ⟨hc, h⟩
    · refine g_catV hΓ rfl ⟨by decide, by decide⟩ (by decide) q359 rfl (by decide) hc vl_X0_214 ka4 C rfl rfl (Nat.le_of_ble_eq_true rfl) (Nat.le_of_ble_eq_true rfl) (Nat.le_of_ble_eq_true rfl) dX0_port_11 ?_
      replace hT := C.1.kd hT
      refine g_astore_n 2 dX0_port_77 rfl (Nat.le_of_ble_eq_true rfl) (lvC_rf rfl) ?_
      dsimp only [List.set]
      refine g_aload_n 2 dX0_port_78 rfl rfl ?_
      refine g_astore_n 1 dX0_port_79 rfl (Nat.le_of_ble_eq_true rfl) rfl ?_
      dsimp only [List.set]
      refine G.weak [true, true, false] rfl ?_
      exact w_X0_port_80 hΓ hT h Hl Hr
    · cases h
theorem ct_X0_port {Γ : GG} (hΓ : GF Γ) {m mF : MM} {x : Nat} (hT : (m.K x).1 = 1) {r : Int32} (h : f_X0_port x m = some (r, mF)) : Ct Γ kX0_port cX0_port [.ref x] m (.inl (some (.int r))) mF := by
  unfold f_X0_port at h
  replace h := bd_of h; obtain ⟨q, e, h⟩ := h
  have H := rx_go_ind (P := p_X0_port Γ m mF x r) (fun z o hs Hl Hr => by
    match z with
    | (.inl (l1, l2, m)) => exact fun hT => w_X0_port_35 hΓ hT hs Hl Hr
    | (.inr (l1, l2, m)) => exact fun hT => w_X0_port_56 hΓ hT hs Hl Hr) h
  exact Ct.ofH (κ := kX0_port) (by decide) rfl (Nat.le_of_ble_eq_true rfl) (by decide) (w_X0_port_0 hΓ hT e H.1 H.2)
set_option maxHeartbeats 4000000 in
theorem w_X0_fault_0 {Γ : GG} (hΓ : GF Γ) {m0 mF m : MM} {x : Nat} {l1 : Int32} (hT : (m.K x).1 = 1) {r : Int32} (h : b_X0_fault_0 x l1 m = some (r, mF)) : G Γ kX0_fault cX0_fault m0 mF (.inl (some (.int r))) m 0 [some (.ref x), some (.int l1)] [] := by
  unfold b_X0_fault_0 at h
  refine g_iload_n 1 dX0_fault_0 rfl rfl ?_
  replace h := ite_of h; rcases h with ⟨hc, h⟩ | ⟨hc, h⟩
  · refine g_ifneF dX0_fault_1 rfl hc ?_
    refine g_this dX0_fault_4 rfl ?_
    refine g_getI hΓ.k fl_X0_229_X0 rfl hT dX0_fault_5 ?_
    refine g_goto dX0_fault_8 rfl ?_
    cases h
    exact g_iret rfl dX0_fault_24
  · refine g_ifneT dX0_fault_1 rfl hc ?_
    refine g_iload_n 1 dX0_fault_11 rfl rfl ?_
    refine g_ic 1 dX0_fault_12 rfl ?_
    replace h := ite_of h; rcases h with ⟨hc, h⟩ | ⟨hc, h⟩
    · refine g_icneF dX0_fault_13 rfl hc ?_
      refine g_this dX0_fault_16 rfl ?_
      refine g_getI hΓ.k fl_X0_160_X0 rfl hT dX0_fault_17 ?_
      refine g_goto dX0_fault_20 rfl ?_
      cases h
      exact g_iret rfl dX0_fault_24
    · refine g_icneT dX0_fault_13 rfl hc ?_
      refine g_ic (-1) dX0_fault_23 rfl ?_
      cases h
      exact g_iret rfl dX0_fault_24
theorem ct_X0_fault {Γ : GG} (hΓ : GF Γ) {m mF : MM} {x : Nat} {l1 : Int32} (hT : (m.K x).1 = 1) {r : Int32} (h : f_X0_fault x l1 m = some (r, mF)) : Ct Γ kX0_fault cX0_fault [.ref x, .int l1] m (.inl (some (.int r))) mF := by
  unfold f_X0_fault at h
  exact Ct.of (κ := kX0_fault) (by decide) rfl (Nat.le_of_ble_eq_true rfl) rfl (w_X0_fault_0 hΓ hT h)
set_option maxHeartbeats 4000000 in
theorem w_X0_isIn_0 {Γ : GG} (hΓ : GF Γ) {m0 mF m : MM} {l0 : Int32} {l1 : Int32} {l2 : Int32} {r : Int32} (h : b_X0_isIn_0 l0 l1 l2 m = some (r, mF)) : G Γ kX0_isIn cX0_isIn m0 mF (.inl (some (.int r))) m 0 [some (.int l0), some (.int l1), some (.int l2)] [] := by
  unfold b_X0_isIn_0 at h
  refine g_iload_n 0 dX0_isIn_0 rfl rfl ?_
  refine g_iload_n 1 dX0_isIn_1 rfl rfl ?_
  replace h := ite_of h; rcases h with ⟨hc, h⟩ | ⟨hc, h⟩
  · refine g_icltT dX0_isIn_2 rfl hc ?_
    refine g_ic 0 dX0_isIn_14 rfl ?_
    cases h
    exact g_zret rfl (by decide) dX0_isIn_15
  · refine g_icltF dX0_isIn_2 rfl hc ?_
    refine g_iload_n 0 dX0_isIn_5 rfl rfl ?_
    refine g_iload_n 2 dX0_isIn_6 rfl rfl ?_
    replace h := ite_of h; rcases h with ⟨hc, h⟩ | ⟨hc, h⟩
    · refine g_icgtT dX0_isIn_7 rfl hc ?_
      refine g_ic 0 dX0_isIn_14 rfl ?_
      cases h
      exact g_zret rfl (by decide) dX0_isIn_15
    · refine g_icgtF dX0_isIn_7 rfl hc ?_
      refine g_ic 1 dX0_isIn_10 rfl ?_
      refine g_goto dX0_isIn_11 rfl ?_
      cases h
      exact g_zret rfl (by decide) dX0_isIn_15
theorem ct_X0_isIn {Γ : GG} (hΓ : GF Γ) {m mF : MM} {l0 : Int32} {l1 : Int32} {l2 : Int32} {r : Int32} (h : f_X0_isIn l0 l1 l2 m = some (r, mF)) : Ct Γ kX0_isIn cX0_isIn [.int l0, .int l1, .int l2] m (.inl (some (.int r))) mF := by
  unfold f_X0_isIn at h
  exact Ct.of (κ := kX0_isIn) (by decide) rfl (Nat.le_of_ble_eq_true rfl) rfl (w_X0_isIn_0 hΓ h)
set_option maxHeartbeats 4000000 in
theorem w_X0_isGuild_0 {Γ : GG} (hΓ : GF Γ) {m0 mF m : MM} {l0 : Int32} {r : Int32} (h : b_X0_isGuild_0 l0 m = some (r, mF)) : G Γ kX0_isGuild cX0_isGuild m0 mF (.inl (some (.int r))) m 0 [some (.int l0)] [] := by
  unfold b_X0_isGuild_0 at h
  refine g_iload_n 0 dX0_isGuild_0 rfl rfl ?_
  refine g_ic 0 dX0_isGuild_1 rfl ?_
  refine g_ic 2 dX0_isGuild_2 rfl ?_
  replace h := bd2_of h; obtain ⟨v1, m2, em2, h⟩ := h
  have C := ct_X0_isIn hΓ em2
  refine g_callSi sl_X0_235 C rfl rfl (Nat.le_of_ble_eq_true rfl) (Nat.le_of_ble_eq_true rfl) (Nat.le_of_ble_eq_true rfl) dX0_isGuild_3 ?_
  replace h := ite_of h; rcases h with ⟨hc, h⟩ | ⟨hc, h⟩
  · cases h
    exact g_zret rfl hc dX0_isGuild_6
  · cases h
theorem ct_X0_isGuild {Γ : GG} (hΓ : GF Γ) {m mF : MM} {l0 : Int32} {r : Int32} (h : f_X0_isGuild l0 m = some (r, mF)) : Ct Γ kX0_isGuild cX0_isGuild [.int l0] m (.inl (some (.int r))) mF := by
  unfold f_X0_isGuild at h
  exact Ct.of (κ := kX0_isGuild) (by decide) rfl (Nat.le_of_ble_eq_true rfl) rfl (w_X0_isGuild_0 hΓ h)
set_option maxHeartbeats 4000000 in
theorem w_X0_isWord_0 {Γ : GG} (hΓ : GF Γ) {m0 mF m : MM} {x : Nat} {l1 : Int32} (hT : (m.K x).1 = 1) {r : Int32} (h : b_X0_isWord_0 x l1 m = some (r, mF)) : G Γ kX0_isWord cX0_isWord m0 mF (.inl (some (.int r))) m 0 [some (.ref x), some (.int l1)] [] := by
  unfold b_X0_isWord_0 at h
  refine g_iload_n 1 dX0_isWord_0 rfl rfl ?_
  refine g_ic 0 dX0_isWord_1 rfl ?_
  refine g_this dX0_isWord_2 rfl ?_
  refine g_getR hΓ.k fl_X0_31_X0 rfl hT dX0_isWord_3 ?_
  replace h := bd_of h; obtain ⟨v1, ev1, h⟩ := h
  refine g_fR hΓ.k fl_X0_80_X1 rfl ev1 dX0_isWord_6 ?_
  replace h := bd_of h; obtain ⟨a2, ea2, h⟩ := h
  obtain ⟨ea2, ka2⟩ := isK_of ea2
  cases ea2
  replace h := bd2_of h; obtain ⟨v3, m4, em4, h⟩ := h
  have C := ct_J2_size hΓ ka2 em4
  refine g_callVi hΓ.k vl_X0_47 ka2 C rfl rfl (Nat.le_of_ble_eq_true rfl) (Nat.le_of_ble_eq_true rfl) (Nat.le_of_ble_eq_true rfl) dX0_isWord_9 ?_
  replace hT := (C.1).kd hT
  refine g_ic 1 dX0_isWord_12 rfl ?_
  refine g_isub dX0_isWord_13 ?_
  replace h := bd2_of h; obtain ⟨v5, m6, em6, h⟩ := h
  have C := ct_X0_isIn hΓ em6
  refine g_callSi sl_X0_235 C rfl rfl (Nat.le_of_ble_eq_true rfl) (Nat.le_of_ble_eq_true rfl) (Nat.le_of_ble_eq_true rfl) dX0_isWord_14 ?_
  replace hT := (C.1).kd hT
  replace h := ite_of h; rcases h with ⟨hc, h⟩ | ⟨hc, h⟩
  · cases h
    exact g_zret rfl hc dX0_isWord_17
  · cases h
theorem ct_X0_isWord {Γ : GG} (hΓ : GF Γ) {m mF : MM} {x : Nat} {l1 : Int32} (hT : (m.K x).1 = 1) {r : Int32} (h : f_X0_isWord x l1 m = some (r, mF)) : Ct Γ kX0_isWord cX0_isWord [.ref x, .int l1] m (.inl (some (.int r))) mF := by
  unfold f_X0_isWord at h
  exact Ct.of (κ := kX0_isWord) (by decide) rfl (Nat.le_of_ble_eq_true rfl) rfl (w_X0_isWord_0 hΓ hT h)
set_option maxHeartbeats 4000000 in
theorem w_X0_worth_0 {Γ : GG} (hΓ : GF Γ) {m0 mF m : MM} {x : Nat} {l1 : Int32} {l2 : Int32} (hT : (m.K x).1 = 1) {r : Int32} (h : b_X0_worth_0 x l1 l2 m = some (r, mF)) : G Γ kX0_worth cX0_worth m0 mF (.inl (some (.int r))) m 0 [some (.ref x), some (.int l1), some (.int l2)] [] := by
  unfold b_X0_worth_0 at h
  refine g_this dX0_worth_0 rfl ?_
  refine g_iload_n 1 dX0_worth_1 rfl rfl ?_
  replace h := bd2_of h; obtain ⟨v1, m2, em2, h⟩ := h
  have C := ct_X0_isWord hΓ hT em2
  refine g_callVi hΓ.k vl_X0_239 hT C rfl rfl (Nat.le_of_ble_eq_true rfl) (Nat.le_of_ble_eq_true rfl) (Nat.le_of_ble_eq_true rfl) dX0_worth_2 ?_
  replace hT := (C.1).kd hT
  replace h := ite_of h; rcases h with ⟨hc, h⟩ | ⟨hc, h⟩
  · refine g_ifeqT dX0_worth_5 rfl hc ?_
    refine g_ldc (v := -1000000) q931 dX0_worth_31 ?_
    cases h
    exact g_iret rfl dX0_worth_33
  · refine g_ifeqF dX0_worth_5 rfl hc ?_
    refine g_iload_n 2 dX0_worth_8 rfl rfl ?_
    replace h := bd2_of h; obtain ⟨v3, m4, em4, h⟩ := h
    have C := ct_X0_isGuild hΓ em4
    refine g_callSi sl_X0_242 C rfl rfl (Nat.le_of_ble_eq_true rfl) (Nat.le_of_ble_eq_true rfl) (Nat.le_of_ble_eq_true rfl) dX0_worth_9 ?_
    replace hT := (C.1).kd hT
    replace h := ite_of h; rcases h with ⟨hc, h⟩ | ⟨hc, h⟩
    · refine g_ifeqT dX0_worth_12 rfl hc ?_
      refine g_ldc (v := -1000000) q931 dX0_worth_31 ?_
      cases h
      exact g_iret rfl dX0_worth_33
    · refine g_ifeqF dX0_worth_12 rfl hc ?_
      refine g_this dX0_worth_15 rfl ?_
      refine g_getR hΓ.k fl_X0_31_X0 rfl hT dX0_worth_16 ?_
      replace h := bd_of h; obtain ⟨v5, ev5, h⟩ := h
      refine g_fR hΓ.k fl_X0_111_X1 rfl ev5 dX0_worth_19 ?_
      refine g_ic 3 dX0_worth_22 rfl ?_
      refine g_iload_n 1 dX0_worth_23 rfl rfl ?_
      refine g_imul dX0_worth_24 ?_
      refine g_iload_n 2 dX0_worth_25 rfl rfl ?_
      refine g_iadd dX0_worth_26 ?_
      replace h := bd_of h; obtain ⟨v6, ev6, h⟩ := h
      refine g_iald ev6 dX0_worth_27 ?_
      refine g_goto dX0_worth_28 rfl ?_
      cases h
      exact g_iret rfl dX0_worth_33
theorem ct_X0_worth {Γ : GG} (hΓ : GF Γ) {m mF : MM} {x : Nat} {l1 : Int32} {l2 : Int32} (hT : (m.K x).1 = 1) {r : Int32} (h : f_X0_worth x l1 l2 m = some (r, mF)) : Ct Γ kX0_worth cX0_worth [.ref x, .int l1, .int l2] m (.inl (some (.int r))) mF := by
  unfold f_X0_worth at h
  exact Ct.of (κ := kX0_worth) (by decide) rfl (Nat.le_of_ble_eq_true rfl) rfl (w_X0_worth_0 hΓ hT h)
set_option maxHeartbeats 4000000 in
theorem w_X0_behind_0 {Γ : GG} (hΓ : GF Γ) {m0 mF m : MM} {x : Nat} {l1 : Int32} {l2 : Int32} {l3 : Int32} (hT : (m.K x).1 = 1) {r : Int32} (h : b_X0_behind_0 x l1 l2 l3 m = some (r, mF)) : G Γ kX0_behind cX0_behind m0 mF (.inl (some (.int r))) m 0 [some (.ref x), some (.int l1), some (.int l2), some (.int l3)] [] := by
  unfold b_X0_behind_0 at h
  refine g_this dX0_behind_0 rfl ?_
  refine g_iload_n 1 dX0_behind_1 rfl rfl ?_
  replace h := bd2_of h; obtain ⟨v1, m2, em2, h⟩ := h
  have C := ct_X0_isWord hΓ hT em2
  refine g_callVi hΓ.k vl_X0_239 hT C rfl rfl (Nat.le_of_ble_eq_true rfl) (Nat.le_of_ble_eq_true rfl) (Nat.le_of_ble_eq_true rfl) dX0_behind_2 ?_
  replace hT := (C.1).kd hT
  replace h := ite_of h; rcases h with ⟨hc, h⟩ | ⟨hc, h⟩
  · refine g_ifeqT dX0_behind_5 rfl hc ?_
    refine g_ldc (v := -1000000) q931 dX0_behind_44 ?_
    cases h
    exact g_iret rfl dX0_behind_46
  · refine g_ifeqF dX0_behind_5 rfl hc ?_
    refine g_this dX0_behind_8 rfl ?_
    refine g_iload_n 2 dX0_behind_9 rfl rfl ?_
    replace h := bd2_of h; obtain ⟨v3, m4, em4, h⟩ := h
    have C := ct_X0_isWord hΓ hT em4
    refine g_callVi hΓ.k vl_X0_239 hT C rfl rfl (Nat.le_of_ble_eq_true rfl) (Nat.le_of_ble_eq_true rfl) (Nat.le_of_ble_eq_true rfl) dX0_behind_10 ?_
    replace hT := (C.1).kd hT
    replace h := ite_of h; rcases h with ⟨hc, h⟩ | ⟨hc, h⟩
    · refine g_ifeqT dX0_behind_13 rfl hc ?_
      refine g_ldc (v := -1000000) q931 dX0_behind_44 ?_
      cases h
      exact g_iret rfl dX0_behind_46
    · refine g_ifeqF dX0_behind_13 rfl hc ?_
      refine g_iload_n 3 dX0_behind_16 rfl rfl ?_
      replace h := bd2_of h; obtain ⟨v5, m6, em6, h⟩ := h
      have C := ct_X0_isGuild hΓ em6
      refine g_callSi sl_X0_242 C rfl rfl (Nat.le_of_ble_eq_true rfl) (Nat.le_of_ble_eq_true rfl) (Nat.le_of_ble_eq_true rfl) dX0_behind_17 ?_
      replace hT := (C.1).kd hT
      replace h := ite_of h; rcases h with ⟨hc, h⟩ | ⟨hc, h⟩
      · refine g_ifeqT dX0_behind_20 rfl hc ?_
        refine g_ldc (v := -1000000) q931 dX0_behind_44 ?_
        cases h
        exact g_iret rfl dX0_behind_46
      · refine g_ifeqF dX0_behind_20 rfl hc ?_
        refine g_this dX0_behind_23 rfl ?_
        refine g_getR hΓ.k fl_X0_31_X0 rfl hT dX0_behind_24 ?_
        replace h := bd_of h; obtain ⟨v7, ev7, h⟩ := h
        refine g_fR hΓ.k fl_X0_114_X1 rfl ev7 dX0_behind_27 ?_
        refine g_ic 3 dX0_behind_30 rfl ?_
        refine g_bi (8) dX0_behind_31 rfl ?_
        refine g_iload_n 1 dX0_behind_33 rfl rfl ?_
        refine g_imul dX0_behind_34 ?_
        refine g_iload_n 2 dX0_behind_35 rfl rfl ?_
        refine g_iadd dX0_behind_36 ?_
        refine g_imul dX0_behind_37 ?_
        refine g_iload_n 3 dX0_behind_38 rfl rfl ?_
        refine g_iadd dX0_behind_39 ?_
        replace h := bd_of h; obtain ⟨v8, ev8, h⟩ := h
        refine g_iald ev8 dX0_behind_40 ?_
        refine g_goto dX0_behind_41 rfl ?_
        cases h
        exact g_iret rfl dX0_behind_46
theorem ct_X0_behind {Γ : GG} (hΓ : GF Γ) {m mF : MM} {x : Nat} {l1 : Int32} {l2 : Int32} {l3 : Int32} (hT : (m.K x).1 = 1) {r : Int32} (h : f_X0_behind x l1 l2 l3 m = some (r, mF)) : Ct Γ kX0_behind cX0_behind [.ref x, .int l1, .int l2, .int l3] m (.inl (some (.int r))) mF := by
  unfold f_X0_behind at h
  exact Ct.of (κ := kX0_behind) (by decide) rfl (Nat.le_of_ble_eq_true rfl) rfl (w_X0_behind_0 hΓ hT h)
def p_X0_exchange (Γ : GG) (m0 mF : MM) (x : Nat) (l1 : Option Nat) (r : Unit) : ((Int32 × MM)) → Prop := fun z => match z with
  | (l2, m) => (m.K x).1 = 1 → G Γ kX0_exchange cX0_exchange m0 mF (.inl none) m 2 [some (.ref x), some (va_rf l1), some (.int l2), none] []
set_option maxHeartbeats 4000000 in
theorem w_X0_exchange_2 {Γ : GG} (hΓ : GF Γ) {m0 mF m : MM} {x : Nat} {l1 : Option Nat} {l2 : Int32} (hT : (m.K x).1 = 1) {r : Unit} {q : ((Int32 × MM)) ⊕ (Unit × MM)} (h : b_X0_exchange_2 x l1 l2 m = some q) (Hl : ∀ z, q = .inl z → p_X0_exchange Γ m0 mF x l1 r z) (Hr : ∀ z, q = .inr z → z = (r, mF)) : G Γ kX0_exchange cX0_exchange m0 mF (.inl none) m 2 [some (.ref x), some (va_rf l1), some (.int l2), none] [] := by
  unfold b_X0_exchange_2 at h
  refine g_iload_n 2 dX0_exchange_2 rfl rfl ?_
  refine g_bi (13) dX0_exchange_3 rfl ?_
  replace h := ite_of h; rcases h with ⟨hc, h⟩ | ⟨hc, h⟩
  · refine g_icgeT dX0_exchange_5 rfl hc ?_
    cases h
    cases Hr _ rfl
    exact g_vret rfl dX0_exchange_34
  · refine g_icgeF dX0_exchange_5 rfl hc ?_
    refine g_aload_n 1 dX0_exchange_8 rfl rfl ?_
    refine g_iload_n 2 dX0_exchange_9 rfl rfl ?_
    replace h := bd_of h; obtain ⟨v1, ev1, h⟩ := h
    refine g_iald ev1 dX0_exchange_10 ?_
    refine g_istore_n 3 dX0_exchange_11 rfl (Nat.le_of_ble_eq_true rfl) rfl ?_
    dsimp only [List.set]
    refine g_aload_n 1 dX0_exchange_12 rfl rfl ?_
    refine g_iload_n 2 dX0_exchange_13 rfl rfl ?_
    refine g_this dX0_exchange_14 rfl ?_
    refine g_getR hΓ.k fl_X0_164_X0 rfl hT dX0_exchange_15 ?_
    refine g_iload_n 2 dX0_exchange_18 rfl rfl ?_
    replace h := bd_of h; obtain ⟨v2, ev2, h⟩ := h
    refine g_iald ev2 dX0_exchange_19 ?_
    replace h := bd_of h; obtain ⟨m3, em3, h⟩ := h
    refine g_iast em3 dX0_exchange_20 ?_
    replace hT := (sI_ext em3).kd hT
    refine g_this dX0_exchange_21 rfl ?_
    refine g_getR hΓ.k fl_X0_164_X0 rfl hT dX0_exchange_22 ?_
    refine g_iload_n 2 dX0_exchange_25 rfl rfl ?_
    refine g_iload_n 3 dX0_exchange_26 rfl rfl ?_
    replace h := bd_of h; obtain ⟨m4, em4, h⟩ := h
    refine g_iast em4 dX0_exchange_27 ?_
    replace hT := (sI_ext em4).kd hT
    refine g_iinc (l2 + (1 : Int32)) dX0_exchange_28 rfl rfl (Nat.le_of_ble_eq_true rfl) (lvC_rf rfl) ?_
    dsimp only [List.set]
    refine g_goto dX0_exchange_31 rfl ?_
    cases h
    refine G.weak [true, true, true, false] rfl ?_
    exact Hl _ rfl hT
set_option maxHeartbeats 4000000 in
theorem w_X0_exchange_0 {Γ : GG} (hΓ : GF Γ) {m0 mF m : MM} {x : Nat} {l1 : Option Nat} (hT : (m.K x).1 = 1) {r : Unit} {q : ((Int32 × MM)) ⊕ (Unit × MM)} (h : b_X0_exchange_0 x l1 m = some q) (Hl : ∀ z, q = .inl z → p_X0_exchange Γ m0 mF x l1 r z) (Hr : ∀ z, q = .inr z → z = (r, mF)) : G Γ kX0_exchange cX0_exchange m0 mF (.inl none) m 0 [some (.ref x), some (va_rf l1), none, none] [] := by
  unfold b_X0_exchange_0 at h
  refine g_ic 0 dX0_exchange_0 rfl ?_
  refine g_istore_n 2 dX0_exchange_1 rfl (Nat.le_of_ble_eq_true rfl) (lvC_rf rfl) ?_
  dsimp only [List.set]
  cases h
  refine G.weak [true, true, true, false] rfl ?_
  exact Hl _ rfl hT
theorem ct_X0_exchange {Γ : GG} (hΓ : GF Γ) {m mF : MM} {x : Nat} {l1 : Option Nat} (hT : (m.K x).1 = 1) {r : Unit} (h : f_X0_exchange x l1 m = some (r, mF)) : Ct Γ kX0_exchange cX0_exchange [.ref x, va_rf l1] m (.inl none) mF := by
  unfold f_X0_exchange at h
  replace h := bd_of h; obtain ⟨q, e, h⟩ := h
  have H := rx_go_ind (P := p_X0_exchange Γ m mF x l1 r) (fun z o hs Hl Hr => by
    match z with
    | (l2, m) => exact fun hT => w_X0_exchange_2 hΓ hT hs Hl Hr) h
  exact Ct.of (κ := kX0_exchange) (by decide) rfl (by cases l1 <;> exact Nat.le_of_ble_eq_true rfl) rfl (by have w9 := w_X0_exchange_0 (m0 := m) hΓ hT e H.1 H.2; cases l1 <;> exact w9)
set_option maxHeartbeats 4000000 in
theorem w_X0_undo_0 {Γ : GG} (hΓ : GF Γ) {m0 mF m : MM} {x : Nat} (hT : (m.K x).1 = 1) {r : Int32} (h : b_X0_undo_0 x m = some (r, mF)) : G Γ kX0_undo cX0_undo m0 mF (.inl (some (.int r))) m 0 [some (.ref x)] [] := by
  unfold b_X0_undo_0 at h
  refine g_this dX0_undo_0 rfl ?_
  refine g_getI hΓ.k fl_X0_250_X0 rfl hT dX0_undo_1 ?_
  replace h := ite_of h; rcases h with ⟨hc, h⟩ | ⟨hc, h⟩
  · refine g_ifneF dX0_undo_4 rfl hc ?_
    refine g_ic 0 dX0_undo_7 rfl ?_
    cases h
    exact g_zret rfl (by decide) dX0_undo_8
  · refine g_ifneT dX0_undo_4 rfl hc ?_
    refine g_this dX0_undo_9 rfl ?_
    refine g_dup dX0_undo_10 rfl ?_
    refine g_getI hΓ.k fl_X0_250_X0 rfl hT dX0_undo_11 ?_
    refine g_ic 1 dX0_undo_14 rfl ?_
    refine g_isub dX0_undo_15 ?_
    replace h := bd_of h; obtain ⟨m1, em1, h⟩ := h
    refine g_pI hΓ.k fl_X0_250_X0 (fun h9 => by cases h9) rfl (Or.inl ⟨rfl, rfl⟩) em1 dX0_undo_16 ?_
    replace hT := (pI_ext em1).kd hT
    refine g_this dX0_undo_19 rfl ?_
    refine g_dup dX0_undo_20 rfl ?_
    refine g_getI hΓ.k fl_X0_253_X0 rfl hT dX0_undo_21 ?_
    refine g_ic 1 dX0_undo_24 rfl ?_
    refine g_iadd dX0_undo_25 ?_
    replace h := bd_of h; obtain ⟨m2, em2, h⟩ := h
    refine g_pI hΓ.k fl_X0_253_X0 (fun h9 => by cases h9) rfl (Or.inl ⟨rfl, rfl⟩) em2 dX0_undo_26 ?_
    replace hT := (pI_ext em2).kd hT
    refine g_this dX0_undo_29 rfl ?_
    refine g_this dX0_undo_30 rfl ?_
    refine g_getR hΓ.k fl_X0_169_X0 rfl hT dX0_undo_31 ?_
    refine g_this dX0_undo_34 rfl ?_
    refine g_getI hΓ.k fl_X0_250_X0 rfl hT dX0_undo_35 ?_
    replace h := bd_of h; obtain ⟨v3, ev3, h⟩ := h
    refine g_aald (Or.inr rfl) ev3 dX0_undo_38 ?_
    replace h := bd2_of h; obtain ⟨_, m4, em4, h⟩ := h
    have C := ct_X0_exchange hΓ hT em4
    refine g_callVv hΓ.k vl_X0_256 hT C rfl rfl (Nat.le_of_ble_eq_true rfl) (Nat.le_of_ble_eq_true rfl) (Nat.le_of_ble_eq_true rfl) dX0_undo_39 ?_
    replace hT := (C.1).kd hT
    refine g_ic 1 dX0_undo_42 rfl ?_
    cases h
    exact g_zret rfl (by decide) dX0_undo_43
theorem ct_X0_undo {Γ : GG} (hΓ : GF Γ) {m mF : MM} {x : Nat} (hT : (m.K x).1 = 1) {r : Int32} (h : f_X0_undo x m = some (r, mF)) : Ct Γ kX0_undo cX0_undo [.ref x] m (.inl (some (.int r))) mF := by
  unfold f_X0_undo at h
  exact Ct.of (κ := kX0_undo) (by decide) rfl (Nat.le_of_ble_eq_true rfl) rfl (w_X0_undo_0 hΓ hT h)
set_option maxHeartbeats 4000000 in
theorem w_X0_redo_0 {Γ : GG} (hΓ : GF Γ) {m0 mF m : MM} {x : Nat} (hT : (m.K x).1 = 1) {r : Int32} (h : b_X0_redo_0 x m = some (r, mF)) : G Γ kX0_redo cX0_redo m0 mF (.inl (some (.int r))) m 0 [some (.ref x)] [] := by
  unfold b_X0_redo_0 at h
  refine g_this dX0_redo_0 rfl ?_
  refine g_getI hΓ.k fl_X0_253_X0 rfl hT dX0_redo_1 ?_
  replace h := ite_of h; rcases h with ⟨hc, h⟩ | ⟨hc, h⟩
  · refine g_ifneF dX0_redo_4 rfl hc ?_
    refine g_ic 0 dX0_redo_7 rfl ?_
    cases h
    exact g_zret rfl (by decide) dX0_redo_8
  · refine g_ifneT dX0_redo_4 rfl hc ?_
    refine g_this dX0_redo_9 rfl ?_
    refine g_this dX0_redo_10 rfl ?_
    refine g_getR hΓ.k fl_X0_169_X0 rfl hT dX0_redo_11 ?_
    refine g_this dX0_redo_14 rfl ?_
    refine g_getI hΓ.k fl_X0_250_X0 rfl hT dX0_redo_15 ?_
    replace h := bd_of h; obtain ⟨v1, ev1, h⟩ := h
    refine g_aald (Or.inr rfl) ev1 dX0_redo_18 ?_
    replace h := bd2_of h; obtain ⟨_, m2, em2, h⟩ := h
    have C := ct_X0_exchange hΓ hT em2
    refine g_callVv hΓ.k vl_X0_256 hT C rfl rfl (Nat.le_of_ble_eq_true rfl) (Nat.le_of_ble_eq_true rfl) (Nat.le_of_ble_eq_true rfl) dX0_redo_19 ?_
    replace hT := (C.1).kd hT
    refine g_this dX0_redo_22 rfl ?_
    refine g_dup dX0_redo_23 rfl ?_
    refine g_getI hΓ.k fl_X0_250_X0 rfl hT dX0_redo_24 ?_
    refine g_ic 1 dX0_redo_27 rfl ?_
    refine g_iadd dX0_redo_28 ?_
    replace h := bd_of h; obtain ⟨m3, em3, h⟩ := h
    refine g_pI hΓ.k fl_X0_250_X0 (fun h9 => by cases h9) rfl (Or.inl ⟨rfl, rfl⟩) em3 dX0_redo_29 ?_
    replace hT := (pI_ext em3).kd hT
    refine g_this dX0_redo_32 rfl ?_
    refine g_dup dX0_redo_33 rfl ?_
    refine g_getI hΓ.k fl_X0_253_X0 rfl hT dX0_redo_34 ?_
    refine g_ic 1 dX0_redo_37 rfl ?_
    refine g_isub dX0_redo_38 ?_
    replace h := bd_of h; obtain ⟨m4, em4, h⟩ := h
    refine g_pI hΓ.k fl_X0_253_X0 (fun h9 => by cases h9) rfl (Or.inl ⟨rfl, rfl⟩) em4 dX0_redo_39 ?_
    replace hT := (pI_ext em4).kd hT
    refine g_ic 1 dX0_redo_42 rfl ?_
    cases h
    exact g_zret rfl (by decide) dX0_redo_43
theorem ct_X0_redo {Γ : GG} (hΓ : GF Γ) {m mF : MM} {x : Nat} (hT : (m.K x).1 = 1) {r : Int32} (h : f_X0_redo x m = some (r, mF)) : Ct Γ kX0_redo cX0_redo [.ref x] m (.inl (some (.int r))) mF := by
  unfold f_X0_redo at h
  exact Ct.of (κ := kX0_redo) (by decide) rfl (Nat.le_of_ble_eq_true rfl) rfl (w_X0_redo_0 hΓ hT h)
set_option maxHeartbeats 4000000 in
theorem w_X1_most_0 {Γ : GG} (hΓ : GF Γ) {m0 mF m : MM} {x : Nat} (hT : (m.K x).1 = 2) {r : Int32} (h : b_X1_most_0 x m = some (r, mF)) : G Γ kX1_most cX1_most m0 mF (.inl (some (.int r))) m 0 [some (.ref x)] [] := by
  unfold b_X1_most_0 at h
  refine g_this dX1_most_0 rfl ?_
  refine g_getI hΓ.k fl_X1_57_X1 rfl hT dX1_most_1 ?_
  replace h := ite_of h; rcases h with ⟨hc, h⟩ | ⟨hc, h⟩
  · refine g_ifneF dX1_most_4 rfl hc ?_
    refine g_ic 3 dX1_most_7 rfl ?_
    refine g_goto dX1_most_8 rfl ?_
    cases h
    exact g_iret rfl dX1_most_15
  · refine g_ifneT dX1_most_4 rfl hc ?_
    refine g_this dX1_most_11 rfl ?_
    refine g_getI hΓ.k fl_X1_57_X1 rfl hT dX1_most_12 ?_
    cases h
    exact g_iret rfl dX1_most_15
theorem ct_X1_most {Γ : GG} (hΓ : GF Γ) {m mF : MM} {x : Nat} (hT : (m.K x).1 = 2) {r : Int32} (h : f_X1_most x m = some (r, mF)) : Ct Γ kX1_most cX1_most [.ref x] m (.inl (some (.int r))) mF := by
  unfold f_X1_most at h
  exact Ct.of (κ := kX1_most) (by decide) rfl (Nat.le_of_ble_eq_true rfl) rfl (w_X1_most_0 hΓ hT h)
set_option maxHeartbeats 4000000 in
theorem w_X0_isPlace_0 {Γ : GG} (hΓ : GF Γ) {m0 mF m : MM} {x : Nat} {l1 : Int32} (hT : (m.K x).1 = 1) {r : Int32} (h : b_X0_isPlace_0 x l1 m = some (r, mF)) : G Γ kX0_isPlace cX0_isPlace m0 mF (.inl (some (.int r))) m 0 [some (.ref x), some (.int l1)] [] := by
  unfold b_X0_isPlace_0 at h
  refine g_iload_n 1 dX0_isPlace_0 rfl rfl ?_
  refine g_ic 0 dX0_isPlace_1 rfl ?_
  refine g_this dX0_isPlace_2 rfl ?_
  refine g_getR hΓ.k fl_X0_31_X0 rfl hT dX0_isPlace_3 ?_
  replace h := bd_of h; obtain ⟨a1, ea1, h⟩ := h
  obtain ⟨ea1, ka1⟩ := isK_of ea1
  replace h := bd2_of h; obtain ⟨v2, m3, em3, h⟩ := h
  have C := ct_X1_most hΓ ka1 em3
  refine g_callVi hΓ.k vl_X0_65 ka1 C rfl (by rw [ea1]; rfl) (Nat.le_of_ble_eq_true rfl) (Nat.le_of_ble_eq_true rfl) (Nat.le_of_ble_eq_true rfl) dX0_isPlace_6 ?_
  replace hT := (C.1).kd hT
  refine g_ic 1 dX0_isPlace_9 rfl ?_
  refine g_isub dX0_isPlace_10 ?_
  replace h := bd2_of h; obtain ⟨v4, m5, em5, h⟩ := h
  have C := ct_X0_isIn hΓ em5
  refine g_callSi sl_X0_235 C rfl rfl (Nat.le_of_ble_eq_true rfl) (Nat.le_of_ble_eq_true rfl) (Nat.le_of_ble_eq_true rfl) dX0_isPlace_11 ?_
  replace hT := (C.1).kd hT
  replace h := ite_of h; rcases h with ⟨hc, h⟩ | ⟨hc, h⟩
  · cases h
    exact g_zret rfl hc dX0_isPlace_14
  · cases h
theorem ct_X0_isPlace {Γ : GG} (hΓ : GF Γ) {m mF : MM} {x : Nat} {l1 : Int32} (hT : (m.K x).1 = 1) {r : Int32} (h : f_X0_isPlace x l1 m = some (r, mF)) : Ct Γ kX0_isPlace cX0_isPlace [.ref x, .int l1] m (.inl (some (.int r))) mF := by
  unfold f_X0_isPlace at h
  exact Ct.of (κ := kX0_isPlace) (by decide) rfl (Nat.le_of_ble_eq_true rfl) rfl (w_X0_isPlace_0 hΓ hT h)
set_option maxHeartbeats 4000000 in
theorem w_X0_turn_0 {Γ : GG} (hΓ : GF Γ) {m0 mF m : MM} {x : Nat} {l1 : Int32} (hT : (m.K x).1 = 1) {r : Int32} (h : b_X0_turn_0 x l1 m = some (r, mF)) : G Γ kX0_turn cX0_turn m0 mF (.inl (some (.int r))) m 0 [some (.ref x), some (.int l1)] [] := by
  unfold b_X0_turn_0 at h
  refine g_this dX0_turn_0 rfl ?_
  refine g_iload_n 1 dX0_turn_1 rfl rfl ?_
  replace h := bd2_of h; obtain ⟨v1, m2, em2, h⟩ := h
  have C := ct_X0_isPlace hΓ hT em2
  refine g_callVi hΓ.k vl_X0_260 hT C rfl rfl (Nat.le_of_ble_eq_true rfl) (Nat.le_of_ble_eq_true rfl) (Nat.le_of_ble_eq_true rfl) dX0_turn_2 ?_
  replace hT := (C.1).kd hT
  replace h := ite_of h; rcases h with ⟨hc, h⟩ | ⟨hc, h⟩
  · refine g_ifeqT dX0_turn_5 rfl hc ?_
    refine g_ic (-1) dX0_turn_20 rfl ?_
    cases h
    exact g_iret rfl dX0_turn_21
  · refine g_ifeqF dX0_turn_5 rfl hc ?_
    refine g_this dX0_turn_8 rfl ?_
    refine g_getR hΓ.k fl_X0_164_X0 rfl hT dX0_turn_9 ?_
    refine g_bi (6) dX0_turn_12 rfl ?_
    refine g_iload_n 1 dX0_turn_14 rfl rfl ?_
    refine g_iadd dX0_turn_15 ?_
    replace h := bd_of h; obtain ⟨v3, ev3, h⟩ := h
    refine g_iald ev3 dX0_turn_16 ?_
    refine g_goto dX0_turn_17 rfl ?_
    cases h
    exact g_iret rfl dX0_turn_21
theorem ct_X0_turn {Γ : GG} (hΓ : GF Γ) {m mF : MM} {x : Nat} {l1 : Int32} (hT : (m.K x).1 = 1) {r : Int32} (h : f_X0_turn x l1 m = some (r, mF)) : Ct Γ kX0_turn cX0_turn [.ref x, .int l1] m (.inl (some (.int r))) mF := by
  unfold f_X0_turn at h
  exact Ct.of (κ := kX0_turn) (by decide) rfl (Nat.le_of_ble_eq_true rfl) rfl (w_X0_turn_0 hΓ hT h)
set_option maxHeartbeats 4000000 in
theorem w_X0_act_49 {Γ : GG} (hΓ : GF Γ) {m0 mF m : MM} {x : Nat} (hT : (m.K x).1 = 1) {r : Unit} (h : b_X0_act_49 x m = some (r, mF)) : G Γ kX0_act cX0_act m0 mF (.inl none) m 49 [some (.ref x), none] [] := by
  unfold b_X0_act_49 at h
  refine g_this dX0_act_49 rfl ?_
  refine g_getR hΓ.k fl_X0_164_X0 rfl hT dX0_act_50 ?_
  refine g_ic 0 dX0_act_53 rfl ?_
  refine g_this dX0_act_54 rfl ?_
  refine g_getR hΓ.k fl_X0_169_X0 rfl hT dX0_act_55 ?_
  refine g_this dX0_act_58 rfl ?_
  refine g_getI hΓ.k fl_X0_250_X0 rfl hT dX0_act_59 ?_
  replace h := bd_of h; obtain ⟨v1, ev1, h⟩ := h
  refine g_aald (Or.inr rfl) ev1 dX0_act_62 ?_
  refine g_ic 0 dX0_act_63 rfl ?_
  refine g_bi (13) dX0_act_64 rfl ?_
  replace h := bd_of h; obtain ⟨m2, em2, h⟩ := h
  refine g_copy50 hΓ q972 (Nat.le_of_ble_eq_true rfl) (Nat.le_of_ble_eq_true rfl) (Nat.le_of_ble_eq_true rfl) em2 dX0_act_66 ?_
  replace hT := (cI_ext em2).kd hT
  refine g_this dX0_act_69 rfl ?_
  refine g_dup dX0_act_70 rfl ?_
  refine g_getI hΓ.k fl_X0_250_X0 rfl hT dX0_act_71 ?_
  refine g_ic 1 dX0_act_74 rfl ?_
  refine g_iadd dX0_act_75 ?_
  replace h := bd_of h; obtain ⟨m3, em3, h⟩ := h
  refine g_pI hΓ.k fl_X0_250_X0 (fun h9 => by cases h9) rfl (Or.inl ⟨rfl, rfl⟩) em3 dX0_act_76 ?_
  replace hT := (pI_ext em3).kd hT
  refine g_this dX0_act_79 rfl ?_
  refine g_ic 0 dX0_act_80 rfl ?_
  replace h := bd_of h; obtain ⟨m4, em4, h⟩ := h
  refine g_pI hΓ.k fl_X0_253_X0 (fun h9 => by cases h9) rfl (Or.inl ⟨rfl, rfl⟩) em4 dX0_act_81 ?_
  replace hT := (pI_ext em4).kd hT
  cases h
  exact g_vret rfl dX0_act_84
set_option maxHeartbeats 4000000 in
theorem w_X0_act_0 {Γ : GG} (hΓ : GF Γ) {m0 mF m : MM} {x : Nat} (hT : (m.K x).1 = 1) {r : Unit} (h : b_X0_act_0 x m = some (r, mF)) : G Γ kX0_act cX0_act m0 mF (.inl none) m 0 [some (.ref x), none] [] := by
  unfold b_X0_act_0 at h
  refine g_this dX0_act_0 rfl ?_
  refine g_getI hΓ.k fl_X0_250_X0 rfl hT dX0_act_1 ?_
  refine g_bi (40) dX0_act_4 rfl ?_
  replace h := ite_of h; rcases h with ⟨hc, h⟩ | ⟨hc, h⟩
  · refine g_icneF dX0_act_6 rfl hc ?_
    refine g_this dX0_act_9 rfl ?_
    refine g_getR hΓ.k fl_X0_169_X0 rfl hT dX0_act_10 ?_
    refine g_ic 0 dX0_act_13 rfl ?_
    replace h := bd_of h; obtain ⟨v1, ev1, h⟩ := h
    refine g_aald (Or.inr rfl) ev1 dX0_act_14 ?_
    refine g_astore_n 1 dX0_act_15 rfl (Nat.le_of_ble_eq_true rfl) rfl ?_
    dsimp only [List.set]
    refine g_this dX0_act_16 rfl ?_
    refine g_getR hΓ.k fl_X0_169_X0 rfl hT dX0_act_17 ?_
    refine g_ic 1 dX0_act_20 rfl ?_
    refine g_this dX0_act_21 rfl ?_
    refine g_getR hΓ.k fl_X0_169_X0 rfl hT dX0_act_22 ?_
    refine g_ic 0 dX0_act_25 rfl ?_
    refine g_bi (39) dX0_act_26 rfl ?_
    replace h := bd_of h; obtain ⟨m2, em2, h⟩ := h
    refine g_copy55 hΓ q972 (Nat.le_of_ble_eq_true rfl) (Nat.le_of_ble_eq_true rfl) (Nat.le_of_ble_eq_true rfl) em2 dX0_act_28 ?_
    replace hT := (cR_ext em2).kd hT
    refine g_this dX0_act_31 rfl ?_
    refine g_getR hΓ.k fl_X0_169_X0 rfl hT dX0_act_32 ?_
    refine g_bi (39) dX0_act_35 rfl ?_
    refine g_aload_n 1 dX0_act_37 rfl rfl ?_
    replace h := bd_of h; obtain ⟨m3, em3, h⟩ := h
    refine g_aast55 hΓ em3 dX0_act_38 ?_
    replace hT := (sR_ext em3).kd hT
    refine g_this dX0_act_39 rfl ?_
    refine g_dup dX0_act_40 rfl ?_
    refine g_getI hΓ.k fl_X0_250_X0 rfl hT dX0_act_41 ?_
    refine g_ic 1 dX0_act_44 rfl ?_
    refine g_isub dX0_act_45 ?_
    replace h := bd_of h; obtain ⟨m4, em4, h⟩ := h
    refine g_pI hΓ.k fl_X0_250_X0 (fun h9 => by cases h9) rfl (Or.inl ⟨rfl, rfl⟩) em4 dX0_act_46 ?_
    replace hT := (pI_ext em4).kd hT
    refine G.weak [true, false] rfl ?_
    exact w_X0_act_49 hΓ hT h
  · refine g_icneT dX0_act_6 rfl hc ?_
    refine G.weak [true, false] rfl ?_
    exact w_X0_act_49 hΓ hT h
theorem ct_X0_act {Γ : GG} (hΓ : GF Γ) {m mF : MM} {x : Nat} (hT : (m.K x).1 = 1) {r : Unit} (h : f_X0_act x m = some (r, mF)) : Ct Γ kX0_act cX0_act [.ref x] m (.inl none) mF := by
  unfold f_X0_act at h
  exact Ct.of (κ := kX0_act) (by decide) rfl (Nat.le_of_ble_eq_true rfl) rfl (w_X0_act_0 hΓ hT h)
set_option maxHeartbeats 4000000 in
theorem w_J2_isEmpty_0 {Γ : GG} (hΓ : GF Γ) {m0 mF m : MM} {x : Nat} (hT : (m.K x).1 = 9) {r : Int32} (h : b_J2_isEmpty_0 x m = some (r, mF)) : G Γ kJ2_isEmpty cJ2_isEmpty m0 mF (.inl (some (.int r))) m 0 [some (.ref x)] [] := by
  unfold b_J2_isEmpty_0 at h
  refine g_this dJ2_isEmpty_0 rfl ?_
  refine g_getI hΓ.k fl_J2_48_J2 rfl hT dJ2_isEmpty_1 ?_
  replace h := ite_of h; rcases h with ⟨hc, h⟩ | ⟨hc, h⟩
  · refine g_ifneF dJ2_isEmpty_4 rfl hc ?_
    refine g_ic 1 dJ2_isEmpty_7 rfl ?_
    refine g_goto dJ2_isEmpty_8 rfl ?_
    cases h
    exact g_zret rfl (by decide) dJ2_isEmpty_12
  · refine g_ifneT dJ2_isEmpty_4 rfl hc ?_
    refine g_ic 0 dJ2_isEmpty_11 rfl ?_
    cases h
    exact g_zret rfl (by decide) dJ2_isEmpty_12
theorem ct_J2_isEmpty {Γ : GG} (hΓ : GF Γ) {m mF : MM} {x : Nat} (hT : (m.K x).1 = 9) {r : Int32} (h : f_J2_isEmpty x m = some (r, mF)) : Ct Γ kJ2_isEmpty cJ2_isEmpty [.ref x] m (.inl (some (.int r))) mF := by
  unfold f_J2_isEmpty at h
  exact Ct.of (κ := kJ2_isEmpty) (by decide) rfl (Nat.le_of_ble_eq_true rfl) rfl (w_J2_isEmpty_0 hΓ hT h)
set_option maxHeartbeats 4000000 in
theorem w_X0_span_0 {Γ : GG} (hΓ : GF Γ) {m0 mF m : MM} {l0 : Int32} {l1 : Int32} {l2 : Int32} {r : Int32} (h : b_X0_span_0 l0 l1 l2 m = some (r, mF)) : G Γ kX0_span cX0_span m0 mF (.inl (some (.int r))) m 0 [some (.int l0), some (.int l1), some (.int l2)] [] := by
  unfold b_X0_span_0 at h
  refine g_iload_n 0 dX0_span_0 rfl rfl ?_
  refine g_bi (7) dX0_span_1 rfl ?_
  refine g_imul dX0_span_3 ?_
  refine g_iload_n 1 dX0_span_4 rfl rfl ?_
  refine g_iadd dX0_span_5 ?_
  refine g_bi (7) dX0_span_6 rfl ?_
  refine g_imul dX0_span_8 ?_
  refine g_iload_n 2 dX0_span_9 rfl rfl ?_
  refine g_iadd dX0_span_10 ?_
  cases h
  exact g_iret rfl dX0_span_11
theorem ct_X0_span {Γ : GG} (hΓ : GF Γ) {m mF : MM} {l0 : Int32} {l1 : Int32} {l2 : Int32} {r : Int32} (h : f_X0_span l0 l1 l2 m = some (r, mF)) : Ct Γ kX0_span cX0_span [.int l0, .int l1, .int l2] m (.inl (some (.int r))) mF := by
  unfold f_X0_span at h
  exact Ct.of (κ := kX0_span) (by decide) rfl (Nat.le_of_ble_eq_true rfl) rfl (w_X0_span_0 hΓ h)
set_option maxHeartbeats 4000000 in
theorem w_X0_reads_0 {Γ : GG} (hΓ : GF Γ) {m0 mF m : MM} {x : Nat} {l1 : Int32} {l2 : Int32} {l3 : Int32} (hT : (m.K x).1 = 1) {r : Int64} (h : b_X0_reads_0 x l1 l2 l3 m = some (r, mF)) : G Γ kX0_reads cX0_reads m0 mF (.inl (some (.long r))) m 0 [some (.ref x), some (.int l1), some (.int l2), some (.int l3)] [] := by
  unfold b_X0_reads_0 at h
  refine g_iload_n 1 dX0_reads_0 rfl rfl ?_
  refine g_bi (8) dX0_reads_1 rfl ?_
  replace h := ite_of h; rcases h with ⟨hc, h⟩ | ⟨hc, h⟩
  · refine g_icltT dX0_reads_3 rfl hc ?_
    refine g_iload_n 3 dX0_reads_21 rfl rfl ?_
    refine g_iload_n 2 dX0_reads_22 rfl rfl ?_
    refine g_ic 1 dX0_reads_23 rfl ?_
    refine g_iadd dX0_reads_24 ?_
    replace h := ite_of h; rcases h with ⟨hc, h⟩ | ⟨hc, h⟩
    · refine g_icneF dX0_reads_25 rfl hc ?_
      refine g_this dX0_reads_28 rfl ?_
      refine g_getR hΓ.k fl_X0_11_X0 rfl hT dX0_reads_29 ?_
      refine g_iload_n 2 dX0_reads_32 rfl rfl ?_
      replace h := bd_of h; obtain ⟨v1, ev1, h⟩ := h
      refine g_iald ev1 dX0_reads_33 ?_
      refine g_iload_n 1 dX0_reads_34 rfl rfl ?_
      replace h := ite_of h; rcases h with ⟨hc, h⟩ | ⟨hc, h⟩
      · refine g_iceqT dX0_reads_35 rfl hc ?_
        refine g_lc 1 dX0_reads_48 rfl ?_
        refine g_goto dX0_reads_49 rfl ?_
        cases h
        exact g_lret rfl dX0_reads_53
      · refine g_iceqF dX0_reads_35 rfl hc ?_
        refine g_this dX0_reads_38 rfl ?_
        refine g_getR hΓ.k fl_X0_11_X0 rfl hT dX0_reads_39 ?_
        refine g_iload_n 2 dX0_reads_42 rfl rfl ?_
        replace h := bd_of h; obtain ⟨v2, ev2, h⟩ := h
        refine g_iald ev2 dX0_reads_43 ?_
        refine g_ic (-1) dX0_reads_44 rfl ?_
        replace h := ite_of h; rcases h with ⟨hc, h⟩ | ⟨hc, h⟩
        · refine g_icneF dX0_reads_45 rfl hc ?_
          refine g_lc 1 dX0_reads_48 rfl ?_
          refine g_goto dX0_reads_49 rfl ?_
          cases h
          exact g_lret rfl dX0_reads_53
        · refine g_icneT dX0_reads_45 rfl hc ?_
          refine g_lc 0 dX0_reads_52 rfl ?_
          cases h
          exact g_lret rfl dX0_reads_53
    · refine g_icneT dX0_reads_25 rfl hc ?_
      refine g_lc 0 dX0_reads_52 rfl ?_
      cases h
      exact g_lret rfl dX0_reads_53
  · refine g_icltF dX0_reads_3 rfl hc ?_
    refine g_this dX0_reads_6 rfl ?_
    refine g_getR hΓ.k fl_X0_3_X0 rfl hT dX0_reads_7 ?_
    refine g_iload_n 1 dX0_reads_10 rfl rfl ?_
    refine g_bi (8) dX0_reads_11 rfl ?_
    refine g_isub dX0_reads_13 ?_
    refine g_iload_n 2 dX0_reads_14 rfl rfl ?_
    refine g_iload_n 3 dX0_reads_15 rfl rfl ?_
    replace h := bd2_of h; obtain ⟨v3, m4, em4, h⟩ := h
    have C := ct_X0_span hΓ em4
    refine g_callSi sl_X0_7 C rfl rfl (Nat.le_of_ble_eq_true rfl) (Nat.le_of_ble_eq_true rfl) (Nat.le_of_ble_eq_true rfl) dX0_reads_16 ?_
    replace hT := (C.1).kd hT
    replace h := bd_of h; obtain ⟨v5, ev5, h⟩ := h
    refine g_lald ev5 dX0_reads_19 ?_
    cases h
    exact g_lret rfl dX0_reads_20
theorem ct_X0_reads {Γ : GG} (hΓ : GF Γ) {m mF : MM} {x : Nat} {l1 : Int32} {l2 : Int32} {l3 : Int32} (hT : (m.K x).1 = 1) {r : Int64} (h : f_X0_reads x l1 l2 l3 m = some (r, mF)) : Ct Γ kX0_reads cX0_reads [.ref x, .int l1, .int l2, .int l3] m (.inl (some (.long r))) mF := by
  unfold f_X0_reads at h
  exact Ct.of (κ := kX0_reads) (by decide) rfl (Nat.le_of_ble_eq_true rfl) rfl (w_X0_reads_0 hΓ hT h)
def p_X0_cover (Γ : GG) (m0 mF : MM) (dd : Nat) (l0 : Option Nat) (l1 : Option Nat) (l2 : Int32) (l3 : Int32) (l4 : Int32) (r : Int64) : ((Int64 × Int32 × MM)) → Prop := fun z => match z with
  | (l5, l7, m) => G Γ (kdX0_cover (dd + 1)) cX0_cover m0 mF (.inl (some (.long r))) m 27 [some (va_rf l0), some (va_rf l1), some (.int l2), some (.int l3), some (.int l4), some (.long l5), none, some (.int l7), none, none] []
set_option maxHeartbeats 4000000 in
theorem w_X0_cover_27 {Γ : GG} (hΓ : GF Γ) {m0 mF m : MM} {rf : Option Nat → Option Nat → Int32 → Int32 → Int32 → MM → Option (Int64 × MM)} {l0 : Option Nat} {l1 : Option Nat} {l2 : Int32} {l3 : Int32} {l4 : Int32} {l5 : Int64} {l7 : Int32} {dd : Nat} (IH : ∀ {l0 : Option Nat} {l1 : Option Nat} {l2 : Int32} {l3 : Int32} {l4 : Int32} {m mF : MM} {r : Int64}, rf l0 l1 l2 l3 l4 m = some (r, mF) → Ct Γ (kdX0_cover dd) cX0_cover [va_rf l0, va_rf l1, .int l2, .int l3, .int l4] m (.inl (some (.long r))) mF) {r : Int64} {q : ((Int64 × Int32 × MM)) ⊕ (Int64 × MM)} (h : b_X0_cover_27 rf l0 l1 l2 l3 l4 l5 l7 m = some q) (Hl : ∀ z, q = .inl z → p_X0_cover Γ m0 mF dd l0 l1 l2 l3 l4 r z) (Hr : ∀ z, q = .inr z → z = (r, mF)) : G Γ (kdX0_cover (dd + 1)) cX0_cover m0 mF (.inl (some (.long r))) m 27 [some (va_rf l0), some (va_rf l1), some (.int l2), some (.int l3), some (.int l4), some (.long l5), none, some (.int l7), none, none] [] := by
  unfold b_X0_cover_27 at h
  refine g_iload dX0_cover_27 rfl ?_
  refine g_iload dX0_cover_29 rfl ?_
  refine g_aload_n 1 dX0_cover_31 rfl rfl ?_
  replace h := bd_of h; obtain ⟨v1, ev1, h⟩ := h
  refine g_alen (Nat.le_of_ble_eq_true rfl) ev1 dX0_cover_32 ?_
  refine g_ic 1 dX0_cover_33 rfl ?_
  refine g_isub dX0_cover_34 ?_
  refine g_iload_n 2 dX0_cover_35 rfl rfl ?_
  refine g_isub dX0_cover_36 ?_
  refine g_isub dX0_cover_37 ?_
  replace h := ite_of h; rcases h with ⟨hc, h⟩ | ⟨hc, h⟩
  · refine g_icgtT dX0_cover_38 rfl hc ?_
    refine g_lload dX0_cover_92 rfl ?_
    cases h
    cases Hr _ rfl
    exact g_lret rfl dX0_cover_94
  · refine g_icgtF dX0_cover_38 rfl hc ?_
    refine g_aload_n 0 dX0_cover_41 rfl rfl ?_
    refine g_aload_n 1 dX0_cover_42 rfl rfl ?_
    refine g_iload_n 2 dX0_cover_43 rfl rfl ?_
    replace h := bd_of h; obtain ⟨v2, ev2, h⟩ := h
    refine g_iald ev2 dX0_cover_44 ?_
    refine g_iload_n 3 dX0_cover_45 rfl rfl ?_
    refine g_iload dX0_cover_46 rfl ?_
    replace h := bd_of h; obtain ⟨a3, ea3, h⟩ := h
    obtain ⟨ea3, ka3⟩ := isK_of ea3
    cases ea3
    replace h := bd2_of h; obtain ⟨v4, m5, em5, h⟩ := h
    have C := ct_X0_reads hΓ ka3 em5
    refine g_callVl hΓ.k vl_X0_15 ka3 C rfl rfl (by show 1 + 1 ≤ 2 + (dd + 1); omega) (by show 8 + (4 + 11) + 22 ≤ 60 + (dd + 1) * 29; omega) (Nat.le_of_ble_eq_true rfl) dX0_cover_48 ?_
    refine g_lstore dX0_cover_51 (Nat.le_of_ble_eq_true rfl) rfl ?_
    dsimp only [List.set]
    refine g_lload dX0_cover_53 rfl ?_
    refine g_lc 0 dX0_cover_55 rfl ?_
    refine g_lcmp dX0_cover_56 ?_
    replace h := ite_of h; rcases h with ⟨hc, h⟩ | ⟨hc, h⟩
    · refine g_ifleT dX0_cover_57 rfl hc ?_
      refine g_iinc (l7 + (1 : Int32)) dX0_cover_86 rfl rfl (Nat.le_of_ble_eq_true rfl) rfl ?_
      dsimp only [List.set]
      refine g_goto dX0_cover_89 rfl ?_
      cases h
      refine G.weak [true, true, true, true, true, true, false, true, false, false] rfl ?_
      exact Hl _ rfl
    · refine g_ifleF dX0_cover_57 rfl hc ?_
      refine g_ldc2 (v := 1000000000) q988 dX0_cover_60 ?_
      refine g_lload dX0_cover_63 rfl ?_
      refine g_lload dX0_cover_65 rfl ?_
      refine g_aload_n 0 dX0_cover_67 rfl rfl ?_
      refine g_aload_n 1 dX0_cover_68 rfl rfl ?_
      refine g_iload_n 2 dX0_cover_69 rfl rfl ?_
      refine g_ic 1 dX0_cover_70 rfl ?_
      refine g_iadd dX0_cover_71 ?_
      refine g_iload dX0_cover_72 rfl ?_
      refine g_iload dX0_cover_74 rfl ?_
      replace h := bd2_of h; obtain ⟨v6, m7, em7, h⟩ := h
      have C := IH em7
      refine g_callSl (sl_X0_21 dd) C rfl rfl (by show 2 + dd + 1 ≤ 2 + (dd + 1); omega) (by show 8 + (10 + 11) + (60 + dd * 29) ≤ 60 + (dd + 1) * 29; omega) (Nat.le_of_ble_eq_true rfl) dX0_cover_76 ?_
      refine g_lmul dX0_cover_79 ?_
      refine g_ladd dX0_cover_80 ?_
      refine g_mminl q999 q1000 q127 q1001 (by show 1 ≤ 2 + (dd + 1); omega) (by show 60 ≤ 60 + (dd + 1) * 29; omega) (Nat.le_of_ble_eq_true rfl) dX0_cover_81 ?_
      refine g_lstore dX0_cover_84 (Nat.le_of_ble_eq_true rfl) rfl ?_
      dsimp only [List.set]
      refine g_iinc (l7 + (1 : Int32)) dX0_cover_86 rfl rfl (Nat.le_of_ble_eq_true rfl) rfl ?_
      dsimp only [List.set]
      refine g_goto dX0_cover_89 rfl ?_
      cases h
      refine G.weak [true, true, true, true, true, true, false, true, false, false] rfl ?_
      exact Hl _ rfl
set_option maxHeartbeats 4000000 in
theorem w_X0_cover_0 {Γ : GG} (hΓ : GF Γ) {m0 mF m : MM} {rf : Option Nat → Option Nat → Int32 → Int32 → Int32 → MM → Option (Int64 × MM)} {l0 : Option Nat} {l1 : Option Nat} {l2 : Int32} {l3 : Int32} {l4 : Int32} {dd : Nat} (IH : ∀ {l0 : Option Nat} {l1 : Option Nat} {l2 : Int32} {l3 : Int32} {l4 : Int32} {m mF : MM} {r : Int64}, rf l0 l1 l2 l3 l4 m = some (r, mF) → Ct Γ (kdX0_cover dd) cX0_cover [va_rf l0, va_rf l1, .int l2, .int l3, .int l4] m (.inl (some (.long r))) mF) {r : Int64} {q : ((Int64 × Int32 × MM)) ⊕ (Int64 × MM)} (h : b_X0_cover_0 rf l0 l1 l2 l3 l4 m = some q) (Hl : ∀ z, q = .inl z → p_X0_cover Γ m0 mF dd l0 l1 l2 l3 l4 r z) (Hr : ∀ z, q = .inr z → z = (r, mF)) : G Γ (kdX0_cover (dd + 1)) cX0_cover m0 mF (.inl (some (.long r))) m 0 [some (va_rf l0), some (va_rf l1), some (.int l2), some (.int l3), some (.int l4), none, none, none, none, none] [] := by
  unfold b_X0_cover_0 at h
  refine g_iload_n 2 dX0_cover_0 rfl rfl ?_
  refine g_aload_n 1 dX0_cover_1 rfl rfl ?_
  replace h := bd_of h; obtain ⟨v1, ev1, h⟩ := h
  refine g_alen (Nat.le_of_ble_eq_true rfl) ev1 dX0_cover_2 ?_
  refine g_ic 1 dX0_cover_3 rfl ?_
  refine g_isub dX0_cover_4 ?_
  replace h := ite_of h; rcases h with ⟨hc, h⟩ | ⟨hc, h⟩
  · refine g_icneF dX0_cover_5 rfl hc ?_
    refine g_aload_n 0 dX0_cover_8 rfl rfl ?_
    refine g_aload_n 1 dX0_cover_9 rfl rfl ?_
    refine g_iload_n 2 dX0_cover_10 rfl rfl ?_
    replace h := bd_of h; obtain ⟨v2, ev2, h⟩ := h
    refine g_iald ev2 dX0_cover_11 ?_
    refine g_iload_n 3 dX0_cover_12 rfl rfl ?_
    refine g_iload dX0_cover_13 rfl ?_
    replace h := bd_of h; obtain ⟨a3, ea3, h⟩ := h
    obtain ⟨ea3, ka3⟩ := isK_of ea3
    cases ea3
    replace h := bd2_of h; obtain ⟨v4, m5, em5, h⟩ := h
    have C := ct_X0_reads hΓ ka3 em5
    refine g_callVl hΓ.k vl_X0_15 ka3 C rfl rfl (by show 1 + 1 ≤ 2 + (dd + 1); omega) (by show 8 + (4 + 11) + 22 ≤ 60 + (dd + 1) * 29; omega) (Nat.le_of_ble_eq_true rfl) dX0_cover_15 ?_
    cases h
    cases Hr _ rfl
    exact g_lret rfl dX0_cover_18
  · refine g_icneT dX0_cover_5 rfl hc ?_
    refine g_lc 0 dX0_cover_19 rfl ?_
    refine g_lstore dX0_cover_20 (Nat.le_of_ble_eq_true rfl) rfl ?_
    dsimp only [List.set]
    refine g_iload_n 3 dX0_cover_22 rfl rfl ?_
    refine g_ic 1 dX0_cover_23 rfl ?_
    refine g_iadd dX0_cover_24 ?_
    refine g_istore dX0_cover_25 (Nat.le_of_ble_eq_true rfl) rfl ?_
    dsimp only [List.set]
    cases h
    refine G.weak [true, true, true, true, true, true, false, true, false, false] rfl ?_
    exact Hl _ rfl
theorem ct_X0_cover {Γ : GG} (hΓ : GF Γ) : ∀ {dd : Nat} {l0 : Option Nat} {l1 : Option Nat} {l2 : Int32} {l3 : Int32} {l4 : Int32} {m mF : MM} {r : Int64}, f_X0_cover dd l0 l1 l2 l3 l4 m = some (r, mF) → Ct Γ (kdX0_cover dd) cX0_cover [va_rf l0, va_rf l1, .int l2, .int l3, .int l4] m (.inl (some (.long r))) mF := by
  intro dd
  induction dd with
  | zero =>
    intro l0 l1 l2 l3 l4 m mF r h
    cases h
  | succ dd IH =>
    intro l0 l1 l2 l3 l4 m mF r h
    have h : bd (b_X0_cover_0 (f_X0_cover dd) l0 l1 l2 l3 l4 m) (rx_go (s_X0_cover (f_X0_cover dd) l0 l1 l2 l3 l4)) = some (r, mF) := h
    replace h := bd_of h; obtain ⟨q, e, h⟩ := h
    have H := rx_go_ind (P := p_X0_cover Γ m mF dd l0 l1 l2 l3 l4 r) (fun z o hs Hl Hr => by
      match z with
      | (l5, l7, m) => exact w_X0_cover_27 hΓ IH hs Hl Hr) h
    exact Ct.of (κ := kdX0_cover (dd + 1)) (by show plainName RX0 = true; decide) rfl (by cases l0 <;> cases l1 <;> exact Nat.le_of_ble_eq_true rfl) rfl (by have w9 := w_X0_cover_0 (m0 := m) hΓ IH e H.1 H.2; cases l0 <;> cases l1 <;> exact w9)
def p_X0_readings (Γ : GG) (m0 mF : MM) (x : Nat) (l1 : Int32) (r : Int64) : ((Int32 × MM) ⊕ (Int32 × Int32 × MM) ⊕ (Int32 × Int32 × Int32 × MM) ⊕ (Int32 × Int32 × Int32 × Option Nat × Int64 × Int32 × MM)) → Prop := fun z => match z with
  | (.inl (l2, m)) => (m.K x).1 = 1 → G Γ kX0_readings cX0_readings m0 mF (.inl (some (.long r))) m 21 [some (.ref x), some (.int l1), some (.int l2), none, none, none, none, none, none] []
  | (.inr (.inl (l2, l3, m))) => (m.K x).1 = 1 → G Γ kX0_readings cX0_readings m0 mF (.inl (some (.long r))) m 28 [some (.ref x), some (.int l1), some (.int l2), some (.int l3), none, none, none, none, none] []
  | (.inr (.inr (.inl (l2, l3, l4, m)))) => (m.K x).1 = 1 → G Γ kX0_readings cX0_readings m0 mF (.inl (some (.long r))) m 49 [some (.ref x), some (.int l1), some (.int l2), some (.int l3), some (.int l4), none, none, none, none] []
  | (.inr (.inr (.inr (l2, l3, l4, l5, l6, l8, m)))) => (m.K x).1 = 1 → G Γ kX0_readings cX0_readings m0 mF (.inl (some (.long r))) m 77 [some (.ref x), some (.int l1), some (.int l2), some (.int l3), some (.int l4), some (va_rf l5), some (.long l6), none, some (.int l8)] []
set_option maxHeartbeats 4000000 in
theorem w_X0_readings_77 {Γ : GG} (hΓ : GF Γ) {m0 mF m : MM} {x : Nat} {l1 : Int32} {l2 : Int32} {l3 : Int32} {l4 : Int32} {l5 : Option Nat} {l6 : Int64} {l8 : Int32} (hT : (m.K x).1 = 1) {r : Int64} {q : ((Int32 × MM) ⊕ (Int32 × Int32 × MM) ⊕ (Int32 × Int32 × Int32 × MM) ⊕ (Int32 × Int32 × Int32 × Option Nat × Int64 × Int32 × MM)) ⊕ (Int64 × MM)} (h : b_X0_readings_77 x l1 l2 l3 l4 l5 l6 l8 m = some q) (Hl : ∀ z, q = .inl z → p_X0_readings Γ m0 mF x l1 r z) (Hr : ∀ z, q = .inr z → z = (r, mF)) : G Γ kX0_readings cX0_readings m0 mF (.inl (some (.long r))) m 77 [some (.ref x), some (.int l1), some (.int l2), some (.int l3), some (.int l4), some (va_rf l5), some (.long l6), none, some (.int l8)] [] := by
  unfold b_X0_readings_77 at h
  refine g_iload dX0_readings_77 rfl ?_
  refine g_aload dX0_readings_79 rfl ?_
  replace h := bd_of h; obtain ⟨v1, ev1, h⟩ := h
  refine g_fR hΓ.k fl_X0_57_X5 rfl ev1 dX0_readings_81 ?_
  replace h := bd_of h; obtain ⟨a2, ea2, h⟩ := h
  obtain ⟨ea2, ka2⟩ := isK_of ea2
  cases ea2
  replace h := bd2_of h; obtain ⟨v3, m4, em4, h⟩ := h
  have C := ct_J2_size hΓ ka2 em4
  refine g_callVi hΓ.k vl_X0_47 ka2 C rfl rfl (Nat.le_of_ble_eq_true rfl) (Nat.le_of_ble_eq_true rfl) (Nat.le_of_ble_eq_true rfl) dX0_readings_84 ?_
  replace hT := (C.1).kd hT
  replace h := ite_of h; rcases h with ⟨hc, h⟩ | ⟨hc, h⟩
  · refine g_icgeT dX0_readings_87 rfl hc ?_
    refine g_this dX0_readings_153 rfl ?_
    refine g_getR hΓ.k fl_X0_3_X0 rfl hT dX0_readings_154 ?_
    refine g_iload dX0_readings_157 rfl ?_
    refine g_iload_n 3 dX0_readings_159 rfl rfl ?_
    refine g_iload_n 3 dX0_readings_160 rfl rfl ?_
    refine g_iload_n 2 dX0_readings_161 rfl rfl ?_
    refine g_iadd dX0_readings_162 ?_
    replace h := bd2_of h; obtain ⟨v5, m6, em6, h⟩ := h
    have C := ct_X0_span hΓ em6
    refine g_callSi sl_X0_7 C rfl rfl (Nat.le_of_ble_eq_true rfl) (Nat.le_of_ble_eq_true rfl) (Nat.le_of_ble_eq_true rfl) dX0_readings_163 ?_
    replace hT := (C.1).kd hT
    refine g_lload dX0_readings_166 rfl ?_
    replace h := bd_of h; obtain ⟨m7, em7, h⟩ := h
    refine g_last em7 dX0_readings_168 ?_
    replace hT := (sL_ext em7).kd hT
    refine g_iinc (l4 + (-1 : Int32)) dX0_readings_169 rfl rfl (Nat.le_of_ble_eq_true rfl) rfl ?_
    dsimp only [List.set]
    refine g_goto dX0_readings_172 rfl ?_
    cases h
    refine G.weak [true, true, true, true, true, false, false, false, false] rfl ?_
    exact Hl _ rfl hT
  · refine g_icgeF dX0_readings_87 rfl hc ?_
    refine g_aload dX0_readings_90 rfl ?_
    replace h := bd_of h; obtain ⟨v8, ev8, h⟩ := h
    refine g_fR hΓ.k fl_X0_57_X5 rfl ev8 dX0_readings_92 ?_
    refine g_iload dX0_readings_95 rfl ?_
    replace h := bd_of h; obtain ⟨a9, ea9, h⟩ := h
    obtain ⟨ea9, ka9⟩ := isK_of ea9
    cases ea9
    replace h := bd2_of h; obtain ⟨v10, m11, em11, h⟩ := h
    have C := ct_J2_get hΓ ka9 em11
    refine g_callVr hΓ.k vl_X0_51 ka9 C rfl rfl (Nat.le_of_ble_eq_true rfl) (Nat.le_of_ble_eq_true rfl) (Nat.le_of_ble_eq_true rfl) dX0_readings_97 ?_
    replace hT := (C.1).kd hT
    replace h := ite_of h; rcases h with ⟨hc, h⟩ | ⟨hc, h⟩
    · refine g_cast hΓ q987 ⟨rfl, by decide, _, _, rfl⟩ hc dX0_readings_100 ?_
      replace h := bd_of h; obtain ⟨v12, ev12, h⟩ := h
      refine g_fR hΓ.k fl_X0_62_X6 rfl ev12 dX0_readings_103 ?_
      replace h := bd_of h; obtain ⟨v13, ev13, h⟩ := h
      refine g_alen (Nat.le_of_ble_eq_true rfl) ev13 dX0_readings_106 ?_
      refine g_iload_n 2 dX0_readings_107 rfl rfl ?_
      replace h := ite_of h; rcases h with ⟨hc, h⟩ | ⟨hc, h⟩
      · refine g_icgtT dX0_readings_108 rfl hc ?_
        refine g_iinc (l8 + (1 : Int32)) dX0_readings_147 rfl rfl (Nat.le_of_ble_eq_true rfl) rfl ?_
        dsimp only [List.set]
        refine g_goto dX0_readings_150 rfl ?_
        cases h
        refine G.weak [true, true, true, true, true, true, true, false, true] rfl ?_
        exact Hl _ rfl hT
      · refine g_icgtF dX0_readings_108 rfl hc ?_
        refine g_ldc2 (v := 1000000000) q988 dX0_readings_111 ?_
        refine g_lload dX0_readings_114 rfl ?_
        refine g_this dX0_readings_116 rfl ?_
        refine g_aload dX0_readings_117 rfl ?_
        replace h := bd_of h; obtain ⟨v14, ev14, h⟩ := h
        refine g_fR hΓ.k fl_X0_57_X5 rfl ev14 dX0_readings_119 ?_
        refine g_iload dX0_readings_122 rfl ?_
        replace h := bd_of h; obtain ⟨a15, ea15, h⟩ := h
        obtain ⟨ea15, ka15⟩ := isK_of ea15
        cases ea15
        replace h := bd2_of h; obtain ⟨v16, m17, em17, h⟩ := h
        have C := ct_J2_get hΓ ka15 em17
        refine g_callVr hΓ.k vl_X0_51 ka15 C rfl rfl (Nat.le_of_ble_eq_true rfl) (Nat.le_of_ble_eq_true rfl) (Nat.le_of_ble_eq_true rfl) dX0_readings_124 ?_
        replace hT := (C.1).kd hT
        replace h := ite_of h; rcases h with ⟨hc, h⟩ | ⟨hc, h⟩
        · refine g_cast hΓ q987 ⟨rfl, by decide, _, _, rfl⟩ hc dX0_readings_127 ?_
          replace h := bd_of h; obtain ⟨v18, ev18, h⟩ := h
          refine g_fR hΓ.k fl_X0_62_X6 rfl ev18 dX0_readings_130 ?_
          refine g_ic 0 dX0_readings_133 rfl ?_
          refine g_iload_n 3 dX0_readings_134 rfl rfl ?_
          refine g_iload_n 3 dX0_readings_135 rfl rfl ?_
          refine g_iload_n 2 dX0_readings_136 rfl rfl ?_
          refine g_iadd dX0_readings_137 ?_
          replace h := bd2_of h; obtain ⟨v19, m20, em20, h⟩ := h
          have C := ct_X0_cover hΓ em20
          refine g_callSl (sl_X0_21 9) C rfl rfl (Nat.le_of_ble_eq_true rfl) (Nat.le_of_ble_eq_true rfl) (Nat.le_of_ble_eq_true rfl) dX0_readings_138 ?_
          replace hT := (C.1).kd hT
          refine g_ladd dX0_readings_141 ?_
          refine g_mminl q999 q1000 q127 q1001 (Nat.le_of_ble_eq_true rfl) (Nat.le_of_ble_eq_true rfl) (Nat.le_of_ble_eq_true rfl) dX0_readings_142 ?_
          refine g_lstore dX0_readings_145 (Nat.le_of_ble_eq_true rfl) (lvC_rf rfl) ?_
          dsimp only [List.set]
          refine g_iinc (l8 + (1 : Int32)) dX0_readings_147 rfl rfl (Nat.le_of_ble_eq_true rfl) rfl ?_
          dsimp only [List.set]
          refine g_goto dX0_readings_150 rfl ?_
          cases h
          refine G.weak [true, true, true, true, true, true, true, false, true] rfl ?_
          exact Hl _ rfl hT
        · cases h
    · cases h
set_option maxHeartbeats 4000000 in
theorem w_X0_readings_49 {Γ : GG} (hΓ : GF Γ) {m0 mF m : MM} {x : Nat} {l1 : Int32} {l2 : Int32} {l3 : Int32} {l4 : Int32} (hT : (m.K x).1 = 1) {r : Int64} {q : ((Int32 × MM) ⊕ (Int32 × Int32 × MM) ⊕ (Int32 × Int32 × Int32 × MM) ⊕ (Int32 × Int32 × Int32 × Option Nat × Int64 × Int32 × MM)) ⊕ (Int64 × MM)} (h : b_X0_readings_49 x l1 l2 l3 l4 m = some q) (Hl : ∀ z, q = .inl z → p_X0_readings Γ m0 mF x l1 r z) (Hr : ∀ z, q = .inr z → z = (r, mF)) : G Γ kX0_readings cX0_readings m0 mF (.inl (some (.long r))) m 49 [some (.ref x), some (.int l1), some (.int l2), some (.int l3), some (.int l4), none, none, none, none] [] := by
  unfold b_X0_readings_49 at h
  refine g_iload dX0_readings_49 rfl ?_
  replace h := ite_of h; rcases h with ⟨hc, h⟩ | ⟨hc, h⟩
  · refine g_ifltT dX0_readings_51 rfl hc ?_
    refine g_iinc (l3 + (1 : Int32)) dX0_readings_175 rfl rfl (Nat.le_of_ble_eq_true rfl) rfl ?_
    dsimp only [List.set]
    refine g_goto dX0_readings_178 rfl ?_
    cases h
    refine G.weak [true, true, true, true, false, false, false, false, false] rfl ?_
    exact Hl _ rfl hT
  · refine g_ifltF dX0_readings_51 rfl hc ?_
    refine g_this dX0_readings_54 rfl ?_
    refine g_getR hΓ.k fl_X0_31_X0 rfl hT dX0_readings_55 ?_
    replace h := bd_of h; obtain ⟨v1, ev1, h⟩ := h
    refine g_fR hΓ.k fl_X0_35_X1 rfl ev1 dX0_readings_58 ?_
    refine g_iload dX0_readings_61 rfl ?_
    replace h := bd_of h; obtain ⟨a2, ea2, h⟩ := h
    obtain ⟨ea2, ka2⟩ := isK_of ea2
    cases ea2
    replace h := bd2_of h; obtain ⟨v3, m4, em4, h⟩ := h
    have C := ct_J2_get hΓ ka2 em4
    refine g_callVr hΓ.k vl_X0_51 ka2 C rfl rfl (Nat.le_of_ble_eq_true rfl) (Nat.le_of_ble_eq_true rfl) (Nat.le_of_ble_eq_true rfl) dX0_readings_63 ?_
    replace hT := (C.1).kd hT
    replace h := ite_of h; rcases h with ⟨hc, h⟩ | ⟨hc, h⟩
    · refine g_cast hΓ q986 ⟨rfl, by decide, _, _, rfl⟩ hc dX0_readings_66 ?_
      refine g_astore dX0_readings_69 (Nat.le_of_ble_eq_true rfl) rfl ?_
      dsimp only [List.set]
      refine g_lc 0 dX0_readings_71 rfl ?_
      refine g_lstore dX0_readings_72 (Nat.le_of_ble_eq_true rfl) (lvC_rf rfl) ?_
      dsimp only [List.set]
      refine g_ic 0 dX0_readings_74 rfl ?_
      refine g_istore dX0_readings_75 (Nat.le_of_ble_eq_true rfl) rfl ?_
      dsimp only [List.set]
      cases h
      refine G.weak [true, true, true, true, true, true, true, false, true] rfl ?_
      exact Hl _ rfl hT
    · cases h
set_option maxHeartbeats 4000000 in
theorem w_X0_readings_28 {Γ : GG} (hΓ : GF Γ) {m0 mF m : MM} {x : Nat} {l1 : Int32} {l2 : Int32} {l3 : Int32} (hT : (m.K x).1 = 1) {r : Int64} {q : ((Int32 × MM) ⊕ (Int32 × Int32 × MM) ⊕ (Int32 × Int32 × Int32 × MM) ⊕ (Int32 × Int32 × Int32 × Option Nat × Int64 × Int32 × MM)) ⊕ (Int64 × MM)} (h : b_X0_readings_28 x l1 l2 l3 m = some q) (Hl : ∀ z, q = .inl z → p_X0_readings Γ m0 mF x l1 r z) (Hr : ∀ z, q = .inr z → z = (r, mF)) : G Γ kX0_readings cX0_readings m0 mF (.inl (some (.long r))) m 28 [some (.ref x), some (.int l1), some (.int l2), some (.int l3), none, none, none, none, none] [] := by
  unfold b_X0_readings_28 at h
  refine g_iload_n 3 dX0_readings_28 rfl rfl ?_
  refine g_iload_n 2 dX0_readings_29 rfl rfl ?_
  refine g_iadd dX0_readings_30 ?_
  refine g_iload_n 1 dX0_readings_31 rfl rfl ?_
  replace h := ite_of h; rcases h with ⟨hc, h⟩ | ⟨hc, h⟩
  · refine g_icgtT dX0_readings_32 rfl hc ?_
    refine g_iinc (l2 + (1 : Int32)) dX0_readings_181 rfl rfl (Nat.le_of_ble_eq_true rfl) rfl ?_
    dsimp only [List.set]
    refine g_goto dX0_readings_184 rfl ?_
    cases h
    refine G.weak [true, true, true, false, false, false, false, false, false] rfl ?_
    exact Hl _ rfl hT
  · refine g_icgtF dX0_readings_32 rfl hc ?_
    refine g_this dX0_readings_35 rfl ?_
    refine g_getR hΓ.k fl_X0_31_X0 rfl hT dX0_readings_36 ?_
    replace h := bd_of h; obtain ⟨v1, ev1, h⟩ := h
    refine g_fR hΓ.k fl_X0_35_X1 rfl ev1 dX0_readings_39 ?_
    replace h := bd_of h; obtain ⟨a2, ea2, h⟩ := h
    obtain ⟨ea2, ka2⟩ := isK_of ea2
    cases ea2
    replace h := bd2_of h; obtain ⟨v3, m4, em4, h⟩ := h
    have C := ct_J2_size hΓ ka2 em4
    refine g_callVi hΓ.k vl_X0_47 ka2 C rfl rfl (Nat.le_of_ble_eq_true rfl) (Nat.le_of_ble_eq_true rfl) (Nat.le_of_ble_eq_true rfl) dX0_readings_42 ?_
    replace hT := (C.1).kd hT
    refine g_ic 1 dX0_readings_45 rfl ?_
    refine g_isub dX0_readings_46 ?_
    refine g_istore dX0_readings_47 (Nat.le_of_ble_eq_true rfl) rfl ?_
    dsimp only [List.set]
    cases h
    refine G.weak [true, true, true, true, true, false, false, false, false] rfl ?_
    exact Hl _ rfl hT
set_option maxHeartbeats 4000000 in
theorem w_X0_readings_21 {Γ : GG} (hΓ : GF Γ) {m0 mF m : MM} {x : Nat} {l1 : Int32} {l2 : Int32} (hT : (m.K x).1 = 1) {r : Int64} {q : ((Int32 × MM) ⊕ (Int32 × Int32 × MM) ⊕ (Int32 × Int32 × Int32 × MM) ⊕ (Int32 × Int32 × Int32 × Option Nat × Int64 × Int32 × MM)) ⊕ (Int64 × MM)} (h : b_X0_readings_21 x l1 l2 m = some q) (Hl : ∀ z, q = .inl z → p_X0_readings Γ m0 mF x l1 r z) (Hr : ∀ z, q = .inr z → z = (r, mF)) : G Γ kX0_readings cX0_readings m0 mF (.inl (some (.long r))) m 21 [some (.ref x), some (.int l1), some (.int l2), none, none, none, none, none, none] [] := by
  unfold b_X0_readings_21 at h
  refine g_iload_n 2 dX0_readings_21 rfl rfl ?_
  refine g_iload_n 1 dX0_readings_22 rfl rfl ?_
  replace h := ite_of h; rcases h with ⟨hc, h⟩ | ⟨hc, h⟩
  · refine g_icgtT dX0_readings_23 rfl hc ?_
    refine g_this dX0_readings_187 rfl ?_
    refine g_getR hΓ.k fl_X0_3_X0 rfl hT dX0_readings_188 ?_
    refine g_ic 0 dX0_readings_191 rfl ?_
    refine g_ic 0 dX0_readings_192 rfl ?_
    refine g_iload_n 1 dX0_readings_193 rfl rfl ?_
    replace h := bd2_of h; obtain ⟨v1, m2, em2, h⟩ := h
    have C := ct_X0_span hΓ em2
    refine g_callSi sl_X0_7 C rfl rfl (Nat.le_of_ble_eq_true rfl) (Nat.le_of_ble_eq_true rfl) (Nat.le_of_ble_eq_true rfl) dX0_readings_194 ?_
    replace hT := (C.1).kd hT
    replace h := bd_of h; obtain ⟨v3, ev3, h⟩ := h
    refine g_lald ev3 dX0_readings_197 ?_
    cases h
    cases Hr _ rfl
    exact g_lret rfl dX0_readings_198
  · refine g_icgtF dX0_readings_23 rfl hc ?_
    refine g_ic 0 dX0_readings_26 rfl ?_
    refine g_istore_n 3 dX0_readings_27 rfl (Nat.le_of_ble_eq_true rfl) rfl ?_
    dsimp only [List.set]
    cases h
    refine G.weak [true, true, true, true, false, false, false, false, false] rfl ?_
    exact Hl _ rfl hT
set_option maxHeartbeats 4000000 in
theorem w_X0_readings_0 {Γ : GG} (hΓ : GF Γ) {m0 mF m : MM} {x : Nat} {l1 : Int32} (hT : (m.K x).1 = 1) {r : Int64} {q : ((Int32 × MM) ⊕ (Int32 × Int32 × MM) ⊕ (Int32 × Int32 × Int32 × MM) ⊕ (Int32 × Int32 × Int32 × Option Nat × Int64 × Int32 × MM)) ⊕ (Int64 × MM)} (h : b_X0_readings_0 x l1 m = some q) (Hl : ∀ z, q = .inl z → p_X0_readings Γ m0 mF x l1 r z) (Hr : ∀ z, q = .inr z → z = (r, mF)) : G Γ kX0_readings cX0_readings m0 mF (.inl (some (.long r))) m 0 [some (.ref x), some (.int l1), none, none, none, none, none, none, none] [] := by
  unfold b_X0_readings_0 at h
  refine g_this dX0_readings_0 rfl ?_
  refine g_getR hΓ.k fl_X0_31_X0 rfl hT dX0_readings_1 ?_
  replace h := bd_of h; obtain ⟨v1, ev1, h⟩ := h
  refine g_fR hΓ.k fl_X0_35_X1 rfl ev1 dX0_readings_4 ?_
  replace h := bd_of h; obtain ⟨a2, ea2, h⟩ := h
  obtain ⟨ea2, ka2⟩ := isK_of ea2
  cases ea2
  replace h := bd2_of h; obtain ⟨v3, m4, em4, h⟩ := h
  have C := ct_J2_isEmpty hΓ ka2 em4
  refine g_callVi hΓ.k vl_X0_41 ka2 C rfl rfl (Nat.le_of_ble_eq_true rfl) (Nat.le_of_ble_eq_true rfl) (Nat.le_of_ble_eq_true rfl) dX0_readings_7 ?_
  replace hT := (C.1).kd hT
  replace h := ite_of h; rcases h with ⟨hc, h⟩ | ⟨hc, h⟩
  · refine g_ifneF dX0_readings_10 rfl hc ?_
    refine g_iload_n 1 dX0_readings_13 rfl rfl ?_
    replace h := ite_of h; rcases h with ⟨hc, h⟩ | ⟨hc, h⟩
    · refine g_ifneF dX0_readings_14 rfl hc ?_
      refine g_lc 0 dX0_readings_17 rfl ?_
      cases h
      cases Hr _ rfl
      exact g_lret rfl dX0_readings_18
    · refine g_ifneT dX0_readings_14 rfl hc ?_
      refine g_ic 1 dX0_readings_19 rfl ?_
      refine g_istore_n 2 dX0_readings_20 rfl (Nat.le_of_ble_eq_true rfl) rfl ?_
      dsimp only [List.set]
      cases h
      refine G.weak [true, true, true, false, false, false, false, false, false] rfl ?_
      exact Hl _ rfl hT
  · refine g_ifneT dX0_readings_10 rfl hc ?_
    refine g_lc 0 dX0_readings_17 rfl ?_
    cases h
    cases Hr _ rfl
    exact g_lret rfl dX0_readings_18
theorem ct_X0_readings {Γ : GG} (hΓ : GF Γ) {m mF : MM} {x : Nat} {l1 : Int32} (hT : (m.K x).1 = 1) {r : Int64} (h : f_X0_readings x l1 m = some (r, mF)) : Ct Γ kX0_readings cX0_readings [.ref x, .int l1] m (.inl (some (.long r))) mF := by
  unfold f_X0_readings at h
  replace h := bd_of h; obtain ⟨q, e, h⟩ := h
  have H := rx_go_ind (P := p_X0_readings Γ m mF x l1 r) (fun z o hs Hl Hr => by
    match z with
    | (.inl (l2, m)) => exact fun hT => w_X0_readings_21 hΓ hT hs Hl Hr
    | (.inr (.inl (l2, l3, m))) => exact fun hT => w_X0_readings_28 hΓ hT hs Hl Hr
    | (.inr (.inr (.inl (l2, l3, l4, m)))) => exact fun hT => w_X0_readings_49 hΓ hT hs Hl Hr
    | (.inr (.inr (.inr (l2, l3, l4, l5, l6, l8, m)))) => exact fun hT => w_X0_readings_77 hΓ hT hs Hl Hr) h
  exact Ct.of (κ := kX0_readings) (by decide) rfl (Nat.le_of_ble_eq_true rfl) rfl (w_X0_readings_0 hΓ hT e H.1 H.2)
def p_X0_canGoOn (Γ : GG) (m0 mF : MM) (x : Nat) (l1 : Int32) (r : Int32) : ((Int32 × Int32 × MM)) → Prop := fun z => match z with
  | (l2, l3, m) => (m.K x).1 = 1 → G Γ kX0_canGoOn cX0_canGoOn m0 mF (.inl (some (.int r))) m 10 [some (.ref x), some (.int l1), some (.int l2), some (.int l3)] []
set_option maxHeartbeats 4000000 in
theorem w_X0_canGoOn_10 {Γ : GG} (hΓ : GF Γ) {m0 mF m : MM} {x : Nat} {l1 : Int32} {l2 : Int32} {l3 : Int32} (hT : (m.K x).1 = 1) {r : Int32} {q : ((Int32 × Int32 × MM)) ⊕ (Int32 × MM)} (h : b_X0_canGoOn_10 x l1 l2 l3 m = some q) (Hl : ∀ z, q = .inl z → p_X0_canGoOn Γ m0 mF x l1 r z) (Hr : ∀ z, q = .inr z → z = (r, mF)) : G Γ kX0_canGoOn cX0_canGoOn m0 mF (.inl (some (.int r))) m 10 [some (.ref x), some (.int l1), some (.int l2), some (.int l3)] [] := by
  unfold b_X0_canGoOn_10 at h
  refine g_iload_n 3 dX0_canGoOn_10 rfl rfl ?_
  refine g_iload_n 2 dX0_canGoOn_11 rfl rfl ?_
  replace h := ite_of h; rcases h with ⟨hc, h⟩ | ⟨hc, h⟩
  · refine g_icgeT dX0_canGoOn_12 rfl hc ?_
    refine g_this dX0_canGoOn_28 rfl ?_
    refine g_iload_n 2 dX0_canGoOn_29 rfl rfl ?_
    replace h := bd2_of h; obtain ⟨v1, m2, em2, h⟩ := h
    have C := ct_X0_readings hΓ hT em2
    refine g_callVl hΓ.k vl_X0_68 hT C rfl rfl (Nat.le_of_ble_eq_true rfl) (Nat.le_of_ble_eq_true rfl) (Nat.le_of_ble_eq_true rfl) dX0_canGoOn_30 ?_
    replace hT := (C.1).kd hT
    refine g_lc 0 dX0_canGoOn_33 rfl ?_
    refine g_lcmp dX0_canGoOn_34 ?_
    replace h := ite_of h; rcases h with ⟨hc, h⟩ | ⟨hc, h⟩
    · refine g_ifleT dX0_canGoOn_35 rfl hc ?_
      refine g_ic 0 dX0_canGoOn_42 rfl ?_
      cases h
      cases Hr _ rfl
      exact g_zret rfl (by decide) dX0_canGoOn_43
    · refine g_ifleF dX0_canGoOn_35 rfl hc ?_
      refine g_ic 1 dX0_canGoOn_38 rfl ?_
      refine g_goto dX0_canGoOn_39 rfl ?_
      cases h
      cases Hr _ rfl
      exact g_zret rfl (by decide) dX0_canGoOn_43
  · refine g_icgeF dX0_canGoOn_12 rfl hc ?_
    refine g_this dX0_canGoOn_15 rfl ?_
    refine g_getR hΓ.k fl_X0_11_X0 rfl hT dX0_canGoOn_16 ?_
    refine g_iload_n 3 dX0_canGoOn_19 rfl rfl ?_
    refine g_ic (-1) dX0_canGoOn_20 rfl ?_
    replace h := bd_of h; obtain ⟨m3, em3, h⟩ := h
    refine g_iast em3 dX0_canGoOn_21 ?_
    replace hT := (sI_ext em3).kd hT
    refine g_iinc (l3 + (1 : Int32)) dX0_canGoOn_22 rfl rfl (Nat.le_of_ble_eq_true rfl) rfl ?_
    dsimp only [List.set]
    refine g_goto dX0_canGoOn_25 rfl ?_
    cases h
    refine G.weak [true, true, true, true] rfl ?_
    exact Hl _ rfl hT
set_option maxHeartbeats 4000000 in
theorem w_X0_canGoOn_0 {Γ : GG} (hΓ : GF Γ) {m0 mF m : MM} {x : Nat} {l1 : Int32} (hT : (m.K x).1 = 1) {r : Int32} {q : ((Int32 × Int32 × MM)) ⊕ (Int32 × MM)} (h : b_X0_canGoOn_0 x l1 m = some q) (Hl : ∀ z, q = .inl z → p_X0_canGoOn Γ m0 mF x l1 r z) (Hr : ∀ z, q = .inr z → z = (r, mF)) : G Γ kX0_canGoOn cX0_canGoOn m0 mF (.inl (some (.int r))) m 0 [some (.ref x), some (.int l1), none, none] [] := by
  unfold b_X0_canGoOn_0 at h
  refine g_this dX0_canGoOn_0 rfl ?_
  refine g_getR hΓ.k fl_X0_31_X0 rfl hT dX0_canGoOn_1 ?_
  replace h := bd_of h; obtain ⟨a1, ea1, h⟩ := h
  obtain ⟨ea1, ka1⟩ := isK_of ea1
  replace h := bd2_of h; obtain ⟨v2, m3, em3, h⟩ := h
  have C := ct_X1_most hΓ ka1 em3
  refine g_callVi hΓ.k vl_X0_65 ka1 C rfl (by rw [ea1]; rfl) (Nat.le_of_ble_eq_true rfl) (Nat.le_of_ble_eq_true rfl) (Nat.le_of_ble_eq_true rfl) dX0_canGoOn_4 ?_
  replace hT := (C.1).kd hT
  refine g_istore_n 2 dX0_canGoOn_7 rfl (Nat.le_of_ble_eq_true rfl) rfl ?_
  dsimp only [List.set]
  refine g_iload_n 1 dX0_canGoOn_8 rfl rfl ?_
  refine g_istore_n 3 dX0_canGoOn_9 rfl (Nat.le_of_ble_eq_true rfl) rfl ?_
  dsimp only [List.set]
  cases h
  refine G.weak [true, true, true, true] rfl ?_
  exact Hl _ rfl hT
theorem ct_X0_canGoOn {Γ : GG} (hΓ : GF Γ) {m mF : MM} {x : Nat} {l1 : Int32} (hT : (m.K x).1 = 1) {r : Int32} (h : f_X0_canGoOn x l1 m = some (r, mF)) : Ct Γ kX0_canGoOn cX0_canGoOn [.ref x, .int l1] m (.inl (some (.int r))) mF := by
  unfold f_X0_canGoOn at h
  replace h := bd_of h; obtain ⟨q, e, h⟩ := h
  have H := rx_go_ind (P := p_X0_canGoOn Γ m mF x l1 r) (fun z o hs Hl Hr => by
    match z with
    | (l2, l3, m) => exact fun hT => w_X0_canGoOn_10 hΓ hT hs Hl Hr) h
  exact Ct.of (κ := kX0_canGoOn) (by decide) rfl (Nat.le_of_ble_eq_true rfl) rfl (w_X0_canGoOn_0 hΓ hT e H.1 H.2)
set_option maxHeartbeats 4000000 in
theorem w_X0_load_0 {Γ : GG} (hΓ : GF Γ) {m0 mF m : MM} {x : Nat} {l1 : Option Nat} {l2 : Int32} (hT : (m.K x).1 = 1) {r : Unit} (h : b_X0_load_0 x l1 l2 m = some (r, mF)) : G Γ kX0_load cX0_load m0 mF (.inl none) m 0 [some (.ref x), some (va_rf l1), some (.int l2)] [] := by
  unfold b_X0_load_0 at h
  refine g_aload_n 1 dX0_load_0 rfl rfl ?_
  refine g_ic 0 dX0_load_1 rfl ?_
  refine g_this dX0_load_2 rfl ?_
  refine g_getR hΓ.k fl_X0_11_X0 rfl hT dX0_load_3 ?_
  refine g_ic 0 dX0_load_6 rfl ?_
  refine g_iload_n 2 dX0_load_7 rfl rfl ?_
  replace h := bd_of h; obtain ⟨m1, em1, h⟩ := h
  refine g_copy50 hΓ q972 (Nat.le_of_ble_eq_true rfl) (Nat.le_of_ble_eq_true rfl) (Nat.le_of_ble_eq_true rfl) em1 dX0_load_8 ?_
  replace hT := (cI_ext em1).kd hT
  cases h
  exact g_vret rfl dX0_load_11
theorem ct_X0_load {Γ : GG} (hΓ : GF Γ) {m mF : MM} {x : Nat} {l1 : Option Nat} {l2 : Int32} (hT : (m.K x).1 = 1) {r : Unit} (h : f_X0_load x l1 l2 m = some (r, mF)) : Ct Γ kX0_load cX0_load [.ref x, va_rf l1, .int l2] m (.inl none) mF := by
  unfold f_X0_load at h
  exact Ct.of (κ := kX0_load) (by decide) rfl (by cases l1 <;> exact Nat.le_of_ble_eq_true rfl) rfl (by have w9 := w_X0_load_0 (m0 := m) hΓ hT h; cases l1 <;> exact w9)
set_option maxHeartbeats 4000000 in
theorem w_X0_canCome_0 {Γ : GG} (hΓ : GF Γ) {m0 mF m : MM} {x : Nat} {l1 : Int32} (hT : (m.K x).1 = 1) {r : Int32} (h : b_X0_canCome_0 x l1 m = some (r, mF)) : G Γ kX0_canCome cX0_canCome m0 mF (.inl (some (.int r))) m 0 [some (.ref x), some (.int l1), none] [] := by
  unfold b_X0_canCome_0 at h
  refine g_this dX0_canCome_0 rfl ?_
  refine g_getR hΓ.k fl_X0_164_X0 rfl hT dX0_canCome_1 ?_
  refine g_bi (12) dX0_canCome_4 rfl ?_
  replace h := bd_of h; obtain ⟨v1, ev1, h⟩ := h
  refine g_iald ev1 dX0_canCome_6 ?_
  refine g_istore_n 2 dX0_canCome_7 rfl (Nat.le_of_ble_eq_true rfl) rfl ?_
  dsimp only [List.set]
  refine g_iload_n 2 dX0_canCome_8 rfl rfl ?_
  refine g_this dX0_canCome_9 rfl ?_
  refine g_getR hΓ.k fl_X0_31_X0 rfl hT dX0_canCome_10 ?_
  replace h := bd_of h; obtain ⟨a2, ea2, h⟩ := h
  obtain ⟨ea2, ka2⟩ := isK_of ea2
  replace h := bd2_of h; obtain ⟨v3, m4, em4, h⟩ := h
  have C := ct_X1_most hΓ ka2 em4
  refine g_callVi hΓ.k vl_X0_65 ka2 C rfl (by rw [ea2]; rfl) (Nat.le_of_ble_eq_true rfl) (Nat.le_of_ble_eq_true rfl) (Nat.le_of_ble_eq_true rfl) dX0_canCome_13 ?_
  replace hT := (C.1).kd hT
  replace h := ite_of h; rcases h with ⟨hc, h⟩ | ⟨hc, h⟩
  · refine g_iceqT dX0_canCome_16 rfl hc ?_
    refine g_ic 0 dX0_canCome_27 rfl ?_
    cases h
    exact g_zret rfl (by decide) dX0_canCome_28
  · refine g_iceqF dX0_canCome_16 rfl hc ?_
    refine g_this dX0_canCome_19 rfl ?_
    refine g_iload_n 1 dX0_canCome_20 rfl rfl ?_
    replace h := bd2_of h; obtain ⟨v5, m6, em6, h⟩ := h
    have C := ct_X0_isWord hΓ hT em6
    refine g_callVi hΓ.k vl_X0_239 hT C rfl rfl (Nat.le_of_ble_eq_true rfl) (Nat.le_of_ble_eq_true rfl) (Nat.le_of_ble_eq_true rfl) dX0_canCome_21 ?_
    replace hT := (C.1).kd hT
    replace h := ite_of h; rcases h with ⟨hc, h⟩ | ⟨hc, h⟩
    · refine g_ifneF dX0_canCome_24 rfl hc ?_
      refine g_ic 0 dX0_canCome_27 rfl ?_
      cases h
      exact g_zret rfl (by decide) dX0_canCome_28
    · refine g_ifneT dX0_canCome_24 rfl hc ?_
      refine g_this dX0_canCome_29 rfl ?_
      refine g_this dX0_canCome_30 rfl ?_
      refine g_getR hΓ.k fl_X0_164_X0 rfl hT dX0_canCome_31 ?_
      refine g_iload_n 2 dX0_canCome_34 rfl rfl ?_
      replace h := bd2_of h; obtain ⟨_, m7, em7, h⟩ := h
      have C := ct_X0_load hΓ hT em7
      refine g_callVv hΓ.k vl_X0_104 hT C rfl rfl (Nat.le_of_ble_eq_true rfl) (Nat.le_of_ble_eq_true rfl) (Nat.le_of_ble_eq_true rfl) dX0_canCome_35 ?_
      replace hT := (C.1).kd hT
      refine g_this dX0_canCome_38 rfl ?_
      refine g_getR hΓ.k fl_X0_11_X0 rfl hT dX0_canCome_39 ?_
      refine g_iload_n 2 dX0_canCome_42 rfl rfl ?_
      refine g_iload_n 1 dX0_canCome_43 rfl rfl ?_
      replace h := bd_of h; obtain ⟨m8, em8, h⟩ := h
      refine g_iast em8 dX0_canCome_44 ?_
      replace hT := (sI_ext em8).kd hT
      refine g_this dX0_canCome_45 rfl ?_
      refine g_iload_n 2 dX0_canCome_46 rfl rfl ?_
      refine g_ic 1 dX0_canCome_47 rfl ?_
      refine g_iadd dX0_canCome_48 ?_
      replace h := bd2_of h; obtain ⟨v9, m10, em10, h⟩ := h
      have C := ct_X0_canGoOn hΓ hT em10
      refine g_callVi hΓ.k vl_X0_87 hT C rfl rfl (Nat.le_of_ble_eq_true rfl) (Nat.le_of_ble_eq_true rfl) (Nat.le_of_ble_eq_true rfl) dX0_canCome_49 ?_
      replace hT := (C.1).kd hT
      replace h := ite_of h; rcases h with ⟨hc, h⟩ | ⟨hc, h⟩
      · cases h
        exact g_zret rfl hc dX0_canCome_52
      · cases h
theorem ct_X0_canCome {Γ : GG} (hΓ : GF Γ) {m mF : MM} {x : Nat} {l1 : Int32} (hT : (m.K x).1 = 1) {r : Int32} (h : f_X0_canCome x l1 m = some (r, mF)) : Ct Γ kX0_canCome cX0_canCome [.ref x, .int l1] m (.inl (some (.int r))) mF := by
  unfold f_X0_canCome at h
  exact Ct.of (κ := kX0_canCome) (by decide) rfl (Nat.le_of_ble_eq_true rfl) rfl (w_X0_canCome_0 hΓ hT h)
set_option maxHeartbeats 4000000 in
theorem w_X0_write_0 {Γ : GG} (hΓ : GF Γ) {m0 mF m : MM} {x : Nat} {l1 : Int32} (hT : (m.K x).1 = 1) {r : Int32} (h : b_X0_write_0 x l1 m = some (r, mF)) : G Γ kX0_write cX0_write m0 mF (.inl (some (.int r))) m 0 [some (.ref x), some (.int l1)] [] := by
  unfold b_X0_write_0 at h
  refine g_this dX0_write_0 rfl ?_
  refine g_iload_n 1 dX0_write_1 rfl rfl ?_
  replace h := bd2_of h; obtain ⟨v1, m2, em2, h⟩ := h
  have C := ct_X0_canCome hΓ hT em2
  refine g_callVi hΓ.k vl_X0_263 hT C rfl rfl (Nat.le_of_ble_eq_true rfl) (Nat.le_of_ble_eq_true rfl) (Nat.le_of_ble_eq_true rfl) dX0_write_2 ?_
  replace hT := (C.1).kd hT
  replace h := ite_of h; rcases h with ⟨hc, h⟩ | ⟨hc, h⟩
  · refine g_ifneF dX0_write_5 rfl hc ?_
    refine g_ic (-1) dX0_write_8 rfl ?_
    cases h
    exact g_iret rfl dX0_write_9
  · refine g_ifneT dX0_write_5 rfl hc ?_
    refine g_this dX0_write_10 rfl ?_
    replace h := bd2_of h; obtain ⟨_, m3, em3, h⟩ := h
    have C := ct_X0_act hΓ hT em3
    refine g_callVv hΓ.k vl_X0_266 hT C rfl rfl (Nat.le_of_ble_eq_true rfl) (Nat.le_of_ble_eq_true rfl) (Nat.le_of_ble_eq_true rfl) dX0_write_11 ?_
    replace hT := (C.1).kd hT
    refine g_this dX0_write_14 rfl ?_
    refine g_getR hΓ.k fl_X0_164_X0 rfl hT dX0_write_15 ?_
    refine g_this dX0_write_18 rfl ?_
    refine g_getR hΓ.k fl_X0_164_X0 rfl hT dX0_write_19 ?_
    refine g_bi (12) dX0_write_22 rfl ?_
    replace h := bd_of h; obtain ⟨v4, ev4, h⟩ := h
    refine g_iald ev4 dX0_write_24 ?_
    refine g_iload_n 1 dX0_write_25 rfl rfl ?_
    replace h := bd_of h; obtain ⟨m5, em5, h⟩ := h
    refine g_iast em5 dX0_write_26 ?_
    replace hT := (sI_ext em5).kd hT
    refine g_this dX0_write_27 rfl ?_
    refine g_getR hΓ.k fl_X0_164_X0 rfl hT dX0_write_28 ?_
    refine g_bi (12) dX0_write_31 rfl ?_
    refine g_dup2 dX0_write_33 rfl (va_rf_cat _) ?_
    replace h := bd_of h; obtain ⟨v6, ev6, h⟩ := h
    refine g_iald ev6 dX0_write_34 ?_
    refine g_ic 1 dX0_write_35 rfl ?_
    refine g_iadd dX0_write_36 ?_
    replace h := bd_of h; obtain ⟨m7, em7, h⟩ := h
    refine g_iast em7 dX0_write_37 ?_
    replace hT := (sI_ext em7).kd hT
    refine g_this dX0_write_38 rfl ?_
    refine g_getR hΓ.k fl_X0_164_X0 rfl hT dX0_write_39 ?_
    refine g_bi (12) dX0_write_42 rfl ?_
    replace h := bd_of h; obtain ⟨v8, ev8, h⟩ := h
    refine g_iald ev8 dX0_write_44 ?_
    cases h
    exact g_iret rfl dX0_write_45
theorem ct_X0_write {Γ : GG} (hΓ : GF Γ) {m mF : MM} {x : Nat} {l1 : Int32} (hT : (m.K x).1 = 1) {r : Int32} (h : f_X0_write x l1 m = some (r, mF)) : Ct Γ kX0_write cX0_write [.ref x, .int l1] m (.inl (some (.int r))) mF := by
  unfold f_X0_write at h
  exact Ct.of (κ := kX0_write) (by decide) rfl (Nat.le_of_ble_eq_true rfl) rfl (w_X0_write_0 hΓ hT h)
set_option maxHeartbeats 4000000 in
theorem w_X0_sell_0 {Γ : GG} (hΓ : GF Γ) {m0 mF m : MM} {x : Nat} {l1 : Int32} {l2 : Int32} (hT : (m.K x).1 = 1) {r : Int32} (h : b_X0_sell_0 x l1 l2 m = some (r, mF)) : G Γ kX0_sell cX0_sell m0 mF (.inl (some (.int r))) m 0 [some (.ref x), some (.int l1), some (.int l2), none] [] := by
  unfold b_X0_sell_0 at h
  refine g_this dX0_sell_0 rfl ?_
  refine g_iload_n 1 dX0_sell_1 rfl rfl ?_
  replace h := bd2_of h; obtain ⟨v1, m2, em2, h⟩ := h
  have C := ct_X0_isPlace hΓ hT em2
  refine g_callVi hΓ.k vl_X0_260 hT C rfl rfl (Nat.le_of_ble_eq_true rfl) (Nat.le_of_ble_eq_true rfl) (Nat.le_of_ble_eq_true rfl) dX0_sell_2 ?_
  replace hT := (C.1).kd hT
  replace h := ite_of h; rcases h with ⟨hc, h⟩ | ⟨hc, h⟩
  · refine g_ifeqT dX0_sell_5 rfl hc ?_
    refine g_ic (-1) dX0_sell_26 rfl ?_
    cases h
    exact g_iret rfl dX0_sell_27
  · refine g_ifeqF dX0_sell_5 rfl hc ?_
    refine g_iload_n 1 dX0_sell_8 rfl rfl ?_
    refine g_this dX0_sell_9 rfl ?_
    refine g_getR hΓ.k fl_X0_164_X0 rfl hT dX0_sell_10 ?_
    refine g_bi (12) dX0_sell_13 rfl ?_
    replace h := bd_of h; obtain ⟨v3, ev3, h⟩ := h
    refine g_iald ev3 dX0_sell_15 ?_
    replace h := ite_of h; rcases h with ⟨hc, h⟩ | ⟨hc, h⟩
    · refine g_icltT dX0_sell_16 rfl hc ?_
      refine g_ic (-1) dX0_sell_26 rfl ?_
      cases h
      exact g_iret rfl dX0_sell_27
    · refine g_icltF dX0_sell_16 rfl hc ?_
      refine g_iload_n 2 dX0_sell_19 rfl rfl ?_
      replace h := bd2_of h; obtain ⟨v4, m5, em5, h⟩ := h
      have C := ct_X0_isGuild hΓ em5
      refine g_callSi sl_X0_242 C rfl rfl (Nat.le_of_ble_eq_true rfl) (Nat.le_of_ble_eq_true rfl) (Nat.le_of_ble_eq_true rfl) dX0_sell_20 ?_
      replace hT := (C.1).kd hT
      replace h := ite_of h; rcases h with ⟨hc, h⟩ | ⟨hc, h⟩
      · refine g_ifneF dX0_sell_23 rfl hc ?_
        refine g_ic (-1) dX0_sell_26 rfl ?_
        cases h
        exact g_iret rfl dX0_sell_27
      · refine g_ifneT dX0_sell_23 rfl hc ?_
        refine g_this dX0_sell_28 rfl ?_
        replace h := bd2_of h; obtain ⟨_, m6, em6, h⟩ := h
        have C := ct_X0_act hΓ hT em6
        refine g_callVv hΓ.k vl_X0_266 hT C rfl rfl (Nat.le_of_ble_eq_true rfl) (Nat.le_of_ble_eq_true rfl) (Nat.le_of_ble_eq_true rfl) dX0_sell_29 ?_
        replace hT := (C.1).kd hT
        refine g_this dX0_sell_32 rfl ?_
        refine g_getR hΓ.k fl_X0_164_X0 rfl hT dX0_sell_33 ?_
        refine g_bi (6) dX0_sell_36 rfl ?_
        refine g_iload_n 1 dX0_sell_38 rfl rfl ?_
        refine g_iadd dX0_sell_39 ?_
        replace h := bd_of h; obtain ⟨v7, ev7, h⟩ := h
        refine g_iald ev7 dX0_sell_40 ?_
        refine g_istore_n 3 dX0_sell_41 rfl (Nat.le_of_ble_eq_true rfl) rfl ?_
        dsimp only [List.set]
        refine g_this dX0_sell_42 rfl ?_
        refine g_getR hΓ.k fl_X0_164_X0 rfl hT dX0_sell_43 ?_
        refine g_bi (6) dX0_sell_46 rfl ?_
        refine g_iload_n 1 dX0_sell_48 rfl rfl ?_
        refine g_iadd dX0_sell_49 ?_
        refine g_iload_n 2 dX0_sell_50 rfl rfl ?_
        replace h := bd_of h; obtain ⟨m8, em8, h⟩ := h
        refine g_iast em8 dX0_sell_51 ?_
        replace hT := (sI_ext em8).kd hT
        refine g_iload_n 3 dX0_sell_52 rfl rfl ?_
        cases h
        exact g_iret rfl dX0_sell_53
theorem ct_X0_sell {Γ : GG} (hΓ : GF Γ) {m mF : MM} {x : Nat} {l1 : Int32} {l2 : Int32} (hT : (m.K x).1 = 1) {r : Int32} (h : f_X0_sell x l1 l2 m = some (r, mF)) : Ct Γ kX0_sell cX0_sell [.ref x, .int l1, .int l2] m (.inl (some (.int r))) mF := by
  unfold f_X0_sell at h
  exact Ct.of (κ := kX0_sell) (by decide) rfl (Nat.le_of_ble_eq_true rfl) rfl (w_X0_sell_0 hΓ hT h)
set_option maxHeartbeats 4000000 in
theorem w_X0_wipe_0 {Γ : GG} (hΓ : GF Γ) {m0 mF m : MM} {x : Nat} (hT : (m.K x).1 = 1) {r : Int32} (h : b_X0_wipe_0 x m = some (r, mF)) : G Γ kX0_wipe cX0_wipe m0 mF (.inl (some (.int r))) m 0 [some (.ref x), none] [] := by
  unfold b_X0_wipe_0 at h
  refine g_this dX0_wipe_0 rfl ?_
  refine g_getR hΓ.k fl_X0_164_X0 rfl hT dX0_wipe_1 ?_
  refine g_bi (12) dX0_wipe_4 rfl ?_
  replace h := bd_of h; obtain ⟨v1, ev1, h⟩ := h
  refine g_iald ev1 dX0_wipe_6 ?_
  refine g_istore_n 1 dX0_wipe_7 rfl (Nat.le_of_ble_eq_true rfl) rfl ?_
  dsimp only [List.set]
  refine g_this dX0_wipe_8 rfl ?_
  replace h := bd2_of h; obtain ⟨_, m2, em2, h⟩ := h
  have C := ct_X0_begin hΓ hT em2
  refine g_callVv hΓ.k vl_X0_203 hT C rfl rfl (Nat.le_of_ble_eq_true rfl) (Nat.le_of_ble_eq_true rfl) (Nat.le_of_ble_eq_true rfl) dX0_wipe_9 ?_
  replace hT := (C.1).kd hT
  refine g_iload_n 1 dX0_wipe_12 rfl rfl ?_
  cases h
  exact g_iret rfl dX0_wipe_13
theorem ct_X0_wipe {Γ : GG} (hΓ : GF Γ) {m mF : MM} {x : Nat} (hT : (m.K x).1 = 1) {r : Int32} (h : f_X0_wipe x m = some (r, mF)) : Ct Γ kX0_wipe cX0_wipe [.ref x] m (.inl (some (.int r))) mF := by
  unfold f_X0_wipe at h
  exact Ct.of (κ := kX0_wipe) (by decide) rfl (Nat.le_of_ble_eq_true rfl) rfl (w_X0_wipe_0 hΓ hT h)
set_option maxHeartbeats 4000000 in
theorem w_X0_word_0 {Γ : GG} (hΓ : GF Γ) {m0 mF m : MM} {x : Nat} {l1 : Int32} (hT : (m.K x).1 = 1) {r : Int32} (h : b_X0_word_0 x l1 m = some (r, mF)) : G Γ kX0_word cX0_word m0 mF (.inl (some (.int r))) m 0 [some (.ref x), some (.int l1)] [] := by
  unfold b_X0_word_0 at h
  refine g_iload_n 1 dX0_word_0 rfl rfl ?_
  refine g_ic 0 dX0_word_1 rfl ?_
  refine g_this dX0_word_2 rfl ?_
  refine g_getR hΓ.k fl_X0_164_X0 rfl hT dX0_word_3 ?_
  refine g_bi (12) dX0_word_6 rfl ?_
  replace h := bd_of h; obtain ⟨v1, ev1, h⟩ := h
  refine g_iald ev1 dX0_word_8 ?_
  refine g_ic 1 dX0_word_9 rfl ?_
  refine g_isub dX0_word_10 ?_
  replace h := bd2_of h; obtain ⟨v2, m3, em3, h⟩ := h
  have C := ct_X0_isIn hΓ em3
  refine g_callSi sl_X0_235 C rfl rfl (Nat.le_of_ble_eq_true rfl) (Nat.le_of_ble_eq_true rfl) (Nat.le_of_ble_eq_true rfl) dX0_word_11 ?_
  replace hT := (C.1).kd hT
  replace h := ite_of h; rcases h with ⟨hc, h⟩ | ⟨hc, h⟩
  · refine g_ifeqT dX0_word_14 rfl hc ?_
    refine g_ic (-1) dX0_word_26 rfl ?_
    cases h
    exact g_iret rfl dX0_word_27
  · refine g_ifeqF dX0_word_14 rfl hc ?_
    refine g_this dX0_word_17 rfl ?_
    refine g_getR hΓ.k fl_X0_164_X0 rfl hT dX0_word_18 ?_
    refine g_iload_n 1 dX0_word_21 rfl rfl ?_
    replace h := bd_of h; obtain ⟨v4, ev4, h⟩ := h
    refine g_iald ev4 dX0_word_22 ?_
    refine g_goto dX0_word_23 rfl ?_
    cases h
    exact g_iret rfl dX0_word_27
theorem ct_X0_word {Γ : GG} (hΓ : GF Γ) {m mF : MM} {x : Nat} {l1 : Int32} (hT : (m.K x).1 = 1) {r : Int32} (h : f_X0_word x l1 m = some (r, mF)) : Ct Γ kX0_word cX0_word [.ref x, .int l1] m (.inl (some (.int r))) mF := by
  unfold f_X0_word at h
  exact Ct.of (κ := kX0_word) (by decide) rfl (Nat.le_of_ble_eq_true rfl) rfl (w_X0_word_0 hΓ hT h)
def p_X0_next (Γ : GG) (m0 mF : MM) (x : Nat) (r : Int32) : ((Int32 × Int32 × MM)) → Prop := fun z => match z with
  | (l1, l2, m) => (m.K x).1 = 1 → G Γ kX0_next cX0_next m0 mF (.inl (some (.int r))) m 4 [some (.ref x), some (.int l1), some (.int l2)] []
set_option maxHeartbeats 4000000 in
theorem w_X0_next_4 {Γ : GG} (hΓ : GF Γ) {m0 mF m : MM} {x : Nat} {l1 : Int32} {l2 : Int32} (hT : (m.K x).1 = 1) {r : Int32} {q : ((Int32 × Int32 × MM)) ⊕ (Int32 × MM)} (h : b_X0_next_4 x l1 l2 m = some q) (Hl : ∀ z, q = .inl z → p_X0_next Γ m0 mF x r z) (Hr : ∀ z, q = .inr z → z = (r, mF)) : G Γ kX0_next cX0_next m0 mF (.inl (some (.int r))) m 4 [some (.ref x), some (.int l1), some (.int l2)] [] := by
  unfold b_X0_next_4 at h
  refine g_iload_n 2 dX0_next_4 rfl rfl ?_
  refine g_this dX0_next_5 rfl ?_
  refine g_getR hΓ.k fl_X0_31_X0 rfl hT dX0_next_6 ?_
  replace h := bd_of h; obtain ⟨v1, ev1, h⟩ := h
  refine g_fR hΓ.k fl_X0_80_X1 rfl ev1 dX0_next_9 ?_
  replace h := bd_of h; obtain ⟨a2, ea2, h⟩ := h
  obtain ⟨ea2, ka2⟩ := isK_of ea2
  cases ea2
  replace h := bd2_of h; obtain ⟨v3, m4, em4, h⟩ := h
  have C := ct_J2_size hΓ ka2 em4
  refine g_callVi hΓ.k vl_X0_47 ka2 C rfl rfl (Nat.le_of_ble_eq_true rfl) (Nat.le_of_ble_eq_true rfl) (Nat.le_of_ble_eq_true rfl) dX0_next_12 ?_
  replace hT := (C.1).kd hT
  replace h := ite_of h; rcases h with ⟨hc, h⟩ | ⟨hc, h⟩
  · refine g_icgeT dX0_next_15 rfl hc ?_
    refine g_iload_n 1 dX0_next_42 rfl rfl ?_
    cases h
    cases Hr _ rfl
    exact g_iret rfl dX0_next_43
  · refine g_icgeF dX0_next_15 rfl hc ?_
    refine g_iload_n 1 dX0_next_18 rfl rfl ?_
    refine g_this dX0_next_19 rfl ?_
    refine g_iload_n 2 dX0_next_20 rfl rfl ?_
    replace h := bd2_of h; obtain ⟨v5, m6, em6, h⟩ := h
    have C := ct_X0_canCome hΓ hT em6
    refine g_callVi hΓ.k vl_X0_263 hT C rfl rfl (Nat.le_of_ble_eq_true rfl) (Nat.le_of_ble_eq_true rfl) (Nat.le_of_ble_eq_true rfl) dX0_next_21 ?_
    replace hT := (C.1).kd hT
    replace h := ite_of h; rcases h with ⟨hc, h⟩ | ⟨hc, h⟩
    · refine g_ifeqT dX0_next_24 rfl hc ?_
      refine g_ic 0 dX0_next_33 rfl ?_
      refine g_ior dX0_next_34 ?_
      refine g_istore_n 1 dX0_next_35 rfl (Nat.le_of_ble_eq_true rfl) rfl ?_
      dsimp only [List.set]
      refine g_iinc (l2 + (1 : Int32)) dX0_next_36 rfl rfl (Nat.le_of_ble_eq_true rfl) rfl ?_
      dsimp only [List.set]
      refine g_goto dX0_next_39 rfl ?_
      cases h
      refine G.weak [true, true, true] rfl ?_
      exact Hl _ rfl hT
    · refine g_ifeqF dX0_next_24 rfl hc ?_
      refine g_ic 1 dX0_next_27 rfl ?_
      refine g_iload_n 2 dX0_next_28 rfl rfl ?_
      refine g_ishl dX0_next_29 ?_
      refine g_goto dX0_next_30 rfl ?_
      refine g_ior dX0_next_34 ?_
      refine g_istore_n 1 dX0_next_35 rfl (Nat.le_of_ble_eq_true rfl) rfl ?_
      dsimp only [List.set]
      refine g_iinc (l2 + (1 : Int32)) dX0_next_36 rfl rfl (Nat.le_of_ble_eq_true rfl) rfl ?_
      dsimp only [List.set]
      refine g_goto dX0_next_39 rfl ?_
      cases h
      refine G.weak [true, true, true] rfl ?_
      exact Hl _ rfl hT
set_option maxHeartbeats 4000000 in
theorem w_X0_next_0 {Γ : GG} (hΓ : GF Γ) {m0 mF m : MM} {x : Nat} (hT : (m.K x).1 = 1) {r : Int32} {q : ((Int32 × Int32 × MM)) ⊕ (Int32 × MM)} (h : b_X0_next_0 x m = some q) (Hl : ∀ z, q = .inl z → p_X0_next Γ m0 mF x r z) (Hr : ∀ z, q = .inr z → z = (r, mF)) : G Γ kX0_next cX0_next m0 mF (.inl (some (.int r))) m 0 [some (.ref x), none, none] [] := by
  unfold b_X0_next_0 at h
  refine g_ic 0 dX0_next_0 rfl ?_
  refine g_istore_n 1 dX0_next_1 rfl (Nat.le_of_ble_eq_true rfl) rfl ?_
  dsimp only [List.set]
  refine g_ic 0 dX0_next_2 rfl ?_
  refine g_istore_n 2 dX0_next_3 rfl (Nat.le_of_ble_eq_true rfl) rfl ?_
  dsimp only [List.set]
  cases h
  refine G.weak [true, true, true] rfl ?_
  exact Hl _ rfl hT
theorem ct_X0_next {Γ : GG} (hΓ : GF Γ) {m mF : MM} {x : Nat} (hT : (m.K x).1 = 1) {r : Int32} (h : f_X0_next x m = some (r, mF)) : Ct Γ kX0_next cX0_next [.ref x] m (.inl (some (.int r))) mF := by
  unfold f_X0_next at h
  replace h := bd_of h; obtain ⟨q, e, h⟩ := h
  have H := rx_go_ind (P := p_X0_next Γ m mF x r) (fun z o hs Hl Hr => by
    match z with
    | (l1, l2, m) => exact fun hT => w_X0_next_4 hΓ hT hs Hl Hr) h
  exact Ct.of (κ := kX0_next) (by decide) rfl (Nat.le_of_ble_eq_true rfl) rfl (w_X0_next_0 hΓ hT e H.1 H.2)
set_option maxHeartbeats 4000000 in
theorem w_X0_readings_2_0 {Γ : GG} (hΓ : GF Γ) {m0 mF m : MM} {x : Nat} (hT : (m.K x).1 = 1) {r : Int32} (h : b_X0_readings_2_0 x m = some (r, mF)) : G Γ kX0_readings_2 cX0_readings_2 m0 mF (.inl (some (.int r))) m 0 [some (.ref x)] [] := by
  unfold b_X0_readings_2_0 at h
  refine g_this dX0_readings_2_0 rfl ?_
  refine g_this dX0_readings_2_1 rfl ?_
  refine g_getR hΓ.k fl_X0_164_X0 rfl hT dX0_readings_2_2 ?_
  refine g_this dX0_readings_2_5 rfl ?_
  refine g_getR hΓ.k fl_X0_164_X0 rfl hT dX0_readings_2_6 ?_
  refine g_bi (12) dX0_readings_2_9 rfl ?_
  replace h := bd_of h; obtain ⟨v1, ev1, h⟩ := h
  refine g_iald ev1 dX0_readings_2_11 ?_
  replace h := bd2_of h; obtain ⟨_, m2, em2, h⟩ := h
  have C := ct_X0_load hΓ hT em2
  refine g_callVv hΓ.k vl_X0_104 hT C rfl rfl (Nat.le_of_ble_eq_true rfl) (Nat.le_of_ble_eq_true rfl) (Nat.le_of_ble_eq_true rfl) dX0_readings_2_12 ?_
  replace hT := (C.1).kd hT
  refine g_this dX0_readings_2_15 rfl ?_
  refine g_this dX0_readings_2_16 rfl ?_
  refine g_getR hΓ.k fl_X0_164_X0 rfl hT dX0_readings_2_17 ?_
  refine g_bi (12) dX0_readings_2_20 rfl ?_
  replace h := bd_of h; obtain ⟨v3, ev3, h⟩ := h
  refine g_iald ev3 dX0_readings_2_22 ?_
  replace h := bd2_of h; obtain ⟨v4, m5, em5, h⟩ := h
  have C := ct_X0_readings hΓ hT em5
  refine g_callVl hΓ.k vl_X0_68 hT C rfl rfl (Nat.le_of_ble_eq_true rfl) (Nat.le_of_ble_eq_true rfl) (Nat.le_of_ble_eq_true rfl) dX0_readings_2_23 ?_
  replace hT := (C.1).kd hT
  refine g_l2i dX0_readings_2_26 ?_
  cases h
  exact g_iret rfl dX0_readings_2_27
theorem ct_X0_readings_2 {Γ : GG} (hΓ : GF Γ) {m mF : MM} {x : Nat} (hT : (m.K x).1 = 1) {r : Int32} (h : f_X0_readings_2 x m = some (r, mF)) : Ct Γ kX0_readings_2 cX0_readings_2 [.ref x] m (.inl (some (.int r))) mF := by
  unfold f_X0_readings_2 at h
  exact Ct.of (κ := kX0_readings_2) (by decide) rfl (Nat.le_of_ble_eq_true rfl) rfl (w_X0_readings_2_0 hΓ hT h)
def p_X0_meaning (Γ : GG) (m0 mF : MM) (x : Nat) (l1 : Option Nat) (l2 : Int32) (l3 : Int32) (r : Int32) : ((Int32 × Int32 × MM)) → Prop := fun z => match z with
  | (l4, l5, m) => (m.K x).1 = 1 → G Γ kX0_meaning cX0_meaning m0 mF (.inl (some (.int r))) m 6 [some (.ref x), some (va_rf l1), some (.int l2), some (.int l3), some (.int l4), some (.int l5)] []
set_option maxHeartbeats 4000000 in
theorem w_X0_meaning_6 {Γ : GG} (hΓ : GF Γ) {m0 mF m : MM} {x : Nat} {l1 : Option Nat} {l2 : Int32} {l3 : Int32} {l4 : Int32} {l5 : Int32} (hT : (m.K x).1 = 1) {r : Int32} {q : ((Int32 × Int32 × MM)) ⊕ (Int32 × MM)} (h : b_X0_meaning_6 x l1 l2 l3 l4 l5 m = some q) (Hl : ∀ z, q = .inl z → p_X0_meaning Γ m0 mF x l1 l2 l3 r z) (Hr : ∀ z, q = .inr z → z = (r, mF)) : G Γ kX0_meaning cX0_meaning m0 mF (.inl (some (.int r))) m 6 [some (.ref x), some (va_rf l1), some (.int l2), some (.int l3), some (.int l4), some (.int l5)] [] := by
  unfold b_X0_meaning_6 at h
  refine g_iload dX0_meaning_6 rfl ?_
  refine g_iload_n 2 dX0_meaning_8 rfl rfl ?_
  replace h := ite_of h; rcases h with ⟨hc, h⟩ | ⟨hc, h⟩
  · refine g_icgeT dX0_meaning_9 rfl hc ?_
    refine g_iload_n 3 dX0_meaning_75 rfl rfl ?_
    refine g_this dX0_meaning_76 rfl ?_
    refine g_getI hΓ.k fl_X0_117_X0 rfl hT dX0_meaning_77 ?_
    replace h := ite_of h; rcases h with ⟨hc, h⟩ | ⟨hc, h⟩
    · refine g_icneF dX0_meaning_80 rfl hc ?_
      refine g_aload_n 1 dX0_meaning_83 rfl rfl ?_
      refine g_this dX0_meaning_84 rfl ?_
      refine g_getI hΓ.k fl_X0_120_X0 rfl hT dX0_meaning_85 ?_
      replace h := bd_of h; obtain ⟨v1, ev1, h⟩ := h
      refine g_iald ev1 dX0_meaning_88 ?_
      refine g_this dX0_meaning_89 rfl ?_
      refine g_getI hΓ.k fl_X0_123_X0 rfl hT dX0_meaning_90 ?_
      replace h := ite_of h; rcases h with ⟨hc, h⟩ | ⟨hc, h⟩
      · refine g_icneF dX0_meaning_93 rfl hc ?_
        refine g_iload dX0_meaning_96 rfl ?_
        refine g_this dX0_meaning_98 rfl ?_
        refine g_getI hΓ.k fl_X0_126_X0 rfl hT dX0_meaning_99 ?_
        refine g_iadd dX0_meaning_102 ?_
        refine g_goto dX0_meaning_103 rfl ?_
        cases h
        cases Hr _ rfl
        exact g_iret rfl dX0_meaning_108
      · refine g_icneT dX0_meaning_93 rfl hc ?_
        refine g_iload dX0_meaning_106 rfl ?_
        cases h
        cases Hr _ rfl
        exact g_iret rfl dX0_meaning_108
    · refine g_icneT dX0_meaning_80 rfl hc ?_
      refine g_iload dX0_meaning_106 rfl ?_
      cases h
      cases Hr _ rfl
      exact g_iret rfl dX0_meaning_108
  · refine g_icgeF dX0_meaning_9 rfl hc ?_
    refine g_iload dX0_meaning_12 rfl ?_
    refine g_this dX0_meaning_14 rfl ?_
    refine g_getR hΓ.k fl_X0_31_X0 rfl hT dX0_meaning_15 ?_
    replace h := bd_of h; obtain ⟨v2, ev2, h⟩ := h
    refine g_fR hΓ.k fl_X0_111_X1 rfl ev2 dX0_meaning_18 ?_
    refine g_ic 3 dX0_meaning_21 rfl ?_
    refine g_aload_n 1 dX0_meaning_22 rfl rfl ?_
    refine g_iload dX0_meaning_23 rfl ?_
    replace h := bd_of h; obtain ⟨v3, ev3, h⟩ := h
    refine g_iald ev3 dX0_meaning_25 ?_
    refine g_imul dX0_meaning_26 ?_
    refine g_iload_n 3 dX0_meaning_27 rfl rfl ?_
    refine g_iadd dX0_meaning_28 ?_
    replace h := bd_of h; obtain ⟨v4, ev4, h⟩ := h
    refine g_iald ev4 dX0_meaning_29 ?_
    refine g_iadd dX0_meaning_30 ?_
    refine g_istore dX0_meaning_31 (Nat.le_of_ble_eq_true rfl) rfl ?_
    dsimp only [List.set]
    refine g_iload dX0_meaning_33 rfl ?_
    replace h := ite_of h; rcases h with ⟨hc, h⟩ | ⟨hc, h⟩
    · refine g_ifleT dX0_meaning_35 rfl hc ?_
      refine g_iinc (l5 + (1 : Int32)) dX0_meaning_69 rfl rfl (Nat.le_of_ble_eq_true rfl) rfl ?_
      dsimp only [List.set]
      refine g_goto dX0_meaning_72 rfl ?_
      cases h
      refine G.weak [true, true, true, true, true, true] rfl ?_
      exact Hl _ rfl hT
    · refine g_ifleF dX0_meaning_35 rfl hc ?_
      refine g_iload dX0_meaning_38 rfl ?_
      refine g_this dX0_meaning_40 rfl ?_
      refine g_getR hΓ.k fl_X0_31_X0 rfl hT dX0_meaning_41 ?_
      replace h := bd_of h; obtain ⟨v5, ev5, h⟩ := h
      refine g_fR hΓ.k fl_X0_114_X1 rfl ev5 dX0_meaning_44 ?_
      refine g_ic 3 dX0_meaning_47 rfl ?_
      refine g_bi (8) dX0_meaning_48 rfl ?_
      refine g_aload_n 1 dX0_meaning_50 rfl rfl ?_
      refine g_iload dX0_meaning_51 rfl ?_
      refine g_ic 1 dX0_meaning_53 rfl ?_
      refine g_isub dX0_meaning_54 ?_
      replace h := bd_of h; obtain ⟨v6, ev6, h⟩ := h
      refine g_iald ev6 dX0_meaning_55 ?_
      refine g_imul dX0_meaning_56 ?_
      refine g_aload_n 1 dX0_meaning_57 rfl rfl ?_
      refine g_iload dX0_meaning_58 rfl ?_
      replace h := bd_of h; obtain ⟨v7, ev7, h⟩ := h
      refine g_iald ev7 dX0_meaning_60 ?_
      refine g_iadd dX0_meaning_61 ?_
      refine g_imul dX0_meaning_62 ?_
      refine g_iload_n 3 dX0_meaning_63 rfl rfl ?_
      refine g_iadd dX0_meaning_64 ?_
      replace h := bd_of h; obtain ⟨v8, ev8, h⟩ := h
      refine g_iald ev8 dX0_meaning_65 ?_
      refine g_iadd dX0_meaning_66 ?_
      refine g_istore dX0_meaning_67 (Nat.le_of_ble_eq_true rfl) rfl ?_
      dsimp only [List.set]
      refine g_iinc (l5 + (1 : Int32)) dX0_meaning_69 rfl rfl (Nat.le_of_ble_eq_true rfl) rfl ?_
      dsimp only [List.set]
      refine g_goto dX0_meaning_72 rfl ?_
      cases h
      refine G.weak [true, true, true, true, true, true] rfl ?_
      exact Hl _ rfl hT
set_option maxHeartbeats 4000000 in
theorem w_X0_meaning_0 {Γ : GG} (hΓ : GF Γ) {m0 mF m : MM} {x : Nat} {l1 : Option Nat} {l2 : Int32} {l3 : Int32} (hT : (m.K x).1 = 1) {r : Int32} {q : ((Int32 × Int32 × MM)) ⊕ (Int32 × MM)} (h : b_X0_meaning_0 x l1 l2 l3 m = some q) (Hl : ∀ z, q = .inl z → p_X0_meaning Γ m0 mF x l1 l2 l3 r z) (Hr : ∀ z, q = .inr z → z = (r, mF)) : G Γ kX0_meaning cX0_meaning m0 mF (.inl (some (.int r))) m 0 [some (.ref x), some (va_rf l1), some (.int l2), some (.int l3), none, none] [] := by
  unfold b_X0_meaning_0 at h
  refine g_ic 0 dX0_meaning_0 rfl ?_
  refine g_istore dX0_meaning_1 (Nat.le_of_ble_eq_true rfl) rfl ?_
  dsimp only [List.set]
  refine g_ic 0 dX0_meaning_3 rfl ?_
  refine g_istore dX0_meaning_4 (Nat.le_of_ble_eq_true rfl) rfl ?_
  dsimp only [List.set]
  cases h
  refine G.weak [true, true, true, true, true, true] rfl ?_
  exact Hl _ rfl hT
theorem ct_X0_meaning {Γ : GG} (hΓ : GF Γ) {m mF : MM} {x : Nat} {l1 : Option Nat} {l2 : Int32} {l3 : Int32} (hT : (m.K x).1 = 1) {r : Int32} (h : f_X0_meaning x l1 l2 l3 m = some (r, mF)) : Ct Γ kX0_meaning cX0_meaning [.ref x, va_rf l1, .int l2, .int l3] m (.inl (some (.int r))) mF := by
  unfold f_X0_meaning at h
  replace h := bd_of h; obtain ⟨q, e, h⟩ := h
  have H := rx_go_ind (P := p_X0_meaning Γ m mF x l1 l2 l3 r) (fun z o hs Hl Hr => by
    match z with
    | (l4, l5, m) => exact fun hT => w_X0_meaning_6 hΓ hT hs Hl Hr) h
  exact Ct.of (κ := kX0_meaning) (by decide) rfl (by cases l1 <;> exact Nat.le_of_ble_eq_true rfl) rfl (by have w9 := w_X0_meaning_0 (m0 := m) hΓ hT e H.1 H.2; cases l1 <;> exact w9)
set_option maxHeartbeats 4000000 in
theorem w_X0_means_0 {Γ : GG} (hΓ : GF Γ) {m0 mF m : MM} {x : Nat} {l1 : Int32} (hT : (m.K x).1 = 1) {r : Int32} (h : b_X0_means_0 x l1 m = some (r, mF)) : G Γ kX0_means cX0_means m0 mF (.inl (some (.int r))) m 0 [some (.ref x), some (.int l1)] [] := by
  unfold b_X0_means_0 at h
  refine g_iload_n 1 dX0_means_0 rfl rfl ?_
  replace h := bd2_of h; obtain ⟨v1, m2, em2, h⟩ := h
  have C := ct_X0_isGuild hΓ em2
  refine g_callSi sl_X0_242 C rfl rfl (Nat.le_of_ble_eq_true rfl) (Nat.le_of_ble_eq_true rfl) (Nat.le_of_ble_eq_true rfl) dX0_means_1 ?_
  replace hT := (C.1).kd hT
  replace h := ite_of h; rcases h with ⟨hc, h⟩ | ⟨hc, h⟩
  · refine g_ifeqT dX0_means_4 rfl hc ?_
    refine g_ldc (v := -1000000) q931 dX0_means_26 ?_
    cases h
    exact g_iret rfl dX0_means_28
  · refine g_ifeqF dX0_means_4 rfl hc ?_
    refine g_this dX0_means_7 rfl ?_
    refine g_this dX0_means_8 rfl ?_
    refine g_getR hΓ.k fl_X0_164_X0 rfl hT dX0_means_9 ?_
    refine g_this dX0_means_12 rfl ?_
    refine g_getR hΓ.k fl_X0_164_X0 rfl hT dX0_means_13 ?_
    refine g_bi (12) dX0_means_16 rfl ?_
    replace h := bd_of h; obtain ⟨v3, ev3, h⟩ := h
    refine g_iald ev3 dX0_means_18 ?_
    refine g_iload_n 1 dX0_means_19 rfl rfl ?_
    replace h := bd2_of h; obtain ⟨v4, m5, em5, h⟩ := h
    have C := ct_X0_meaning hΓ hT em5
    refine g_callVi hΓ.k vl_X0_139 hT C rfl rfl (Nat.le_of_ble_eq_true rfl) (Nat.le_of_ble_eq_true rfl) (Nat.le_of_ble_eq_true rfl) dX0_means_20 ?_
    replace hT := (C.1).kd hT
    refine g_goto dX0_means_23 rfl ?_
    cases h
    exact g_iret rfl dX0_means_28
theorem ct_X0_means {Γ : GG} (hΓ : GF Γ) {m mF : MM} {x : Nat} {l1 : Int32} (hT : (m.K x).1 = 1) {r : Int32} (h : f_X0_means x l1 m = some (r, mF)) : Ct Γ kX0_means cX0_means [.ref x, .int l1] m (.inl (some (.int r))) mF := by
  unfold f_X0_means at h
  exact Ct.of (κ := kX0_means) (by decide) rfl (Nat.le_of_ble_eq_true rfl) rfl (w_X0_means_0 hΓ hT h)
def p_X0_pathOf (Γ : GG) (m0 mF : MM) (x : Nat) (l1 : Int32) (l2 : Option Nat) (l3 : Int32) (r : Option Nat) : ((Int32 × MM)) → Prop := fun z => match z with
  | (l4, m) => (m.K x).1 = 1 → G Γ kX0_pathOf cX0_pathOf m0 mF (.inl (some (va_rf r))) m 14 [some (.ref x), some (.int l1), some (va_rf l2), some (.int l3), some (.int l4)] []
set_option maxHeartbeats 4000000 in
theorem w_X0_pathOf_14 {Γ : GG} (hΓ : GF Γ) {m0 mF m : MM} {x : Nat} {l1 : Int32} {l2 : Option Nat} {l3 : Int32} {l4 : Int32} (hT : (m.K x).1 = 1) {r : Option Nat} {q : ((Int32 × MM)) ⊕ (Option Nat × MM)} (h : b_X0_pathOf_14 x l1 l2 l3 l4 m = some q) (Hl : ∀ z, q = .inl z → p_X0_pathOf Γ m0 mF x l1 l2 l3 r z) (Hr : ∀ z, q = .inr z → z = (r, mF)) : G Γ kX0_pathOf cX0_pathOf m0 mF (.inl (some (va_rf r))) m 14 [some (.ref x), some (.int l1), some (va_rf l2), some (.int l3), some (.int l4)] [] := by
  unfold b_X0_pathOf_14 at h
  refine g_iload dX0_pathOf_14 rfl ?_
  replace h := ite_of h; rcases h with ⟨hc, h⟩ | ⟨hc, h⟩
  · refine g_ifleT dX0_pathOf_16 rfl hc ?_
    refine g_this dX0_pathOf_52 rfl ?_
    refine g_getR hΓ.k fl_X0_108_X0 rfl hT dX0_pathOf_53 ?_
    cases h
    cases Hr _ rfl
    exact g_aret rfl (Or.inr ⟨_, rfl⟩) dX0_pathOf_56
  · refine g_ifleF dX0_pathOf_16 rfl hc ?_
    refine g_this dX0_pathOf_19 rfl ?_
    refine g_getR hΓ.k fl_X0_108_X0 rfl hT dX0_pathOf_20 ?_
    refine g_this dX0_pathOf_23 rfl ?_
    refine g_getR hΓ.k fl_X0_78_X0 rfl hT dX0_pathOf_24 ?_
    refine g_iload dX0_pathOf_27 rfl ?_
    replace h := bd_of h; obtain ⟨v1, ev1, h⟩ := h
    refine g_iald ev1 dX0_pathOf_29 ?_
    refine g_ic 1 dX0_pathOf_30 rfl ?_
    refine g_isub dX0_pathOf_31 ?_
    refine g_this dX0_pathOf_32 rfl ?_
    refine g_getR hΓ.k fl_X0_98_X0 rfl hT dX0_pathOf_33 ?_
    refine g_iload dX0_pathOf_36 rfl ?_
    replace h := bd_of h; obtain ⟨v2, ev2, h⟩ := h
    refine g_iald ev2 dX0_pathOf_38 ?_
    replace h := bd_of h; obtain ⟨m3, em3, h⟩ := h
    refine g_iast em3 dX0_pathOf_39 ?_
    replace hT := (sI_ext em3).kd hT
    refine g_this dX0_pathOf_40 rfl ?_
    refine g_getR hΓ.k fl_X0_95_X0 rfl hT dX0_pathOf_41 ?_
    refine g_iload dX0_pathOf_44 rfl ?_
    replace h := bd_of h; obtain ⟨v4, ev4, h⟩ := h
    refine g_iald ev4 dX0_pathOf_46 ?_
    refine g_istore dX0_pathOf_47 (Nat.le_of_ble_eq_true rfl) rfl ?_
    dsimp only [List.set]
    refine g_goto dX0_pathOf_49 rfl ?_
    cases h
    refine G.weak [true, true, true, true, true] rfl ?_
    exact Hl _ rfl hT
set_option maxHeartbeats 4000000 in
theorem w_X0_pathOf_0 {Γ : GG} (hΓ : GF Γ) {m0 mF m : MM} {x : Nat} {l1 : Int32} {l2 : Option Nat} {l3 : Int32} (hT : (m.K x).1 = 1) {r : Option Nat} {q : ((Int32 × MM)) ⊕ (Option Nat × MM)} (h : b_X0_pathOf_0 x l1 l2 l3 m = some q) (Hl : ∀ z, q = .inl z → p_X0_pathOf Γ m0 mF x l1 l2 l3 r z) (Hr : ∀ z, q = .inr z → z = (r, mF)) : G Γ kX0_pathOf cX0_pathOf m0 mF (.inl (some (va_rf r))) m 0 [some (.ref x), some (.int l1), some (va_rf l2), some (.int l3), none] [] := by
  unfold b_X0_pathOf_0 at h
  refine g_aload_n 2 dX0_pathOf_0 rfl rfl ?_
  refine g_ic 0 dX0_pathOf_1 rfl ?_
  refine g_this dX0_pathOf_2 rfl ?_
  refine g_getR hΓ.k fl_X0_108_X0 rfl hT dX0_pathOf_3 ?_
  refine g_ic 0 dX0_pathOf_6 rfl ?_
  refine g_iload_n 3 dX0_pathOf_7 rfl rfl ?_
  replace h := bd_of h; obtain ⟨m1, em1, h⟩ := h
  refine g_copy50 hΓ q972 (Nat.le_of_ble_eq_true rfl) (Nat.le_of_ble_eq_true rfl) (Nat.le_of_ble_eq_true rfl) em1 dX0_pathOf_8 ?_
  replace hT := (cI_ext em1).kd hT
  refine g_iload_n 1 dX0_pathOf_11 rfl rfl ?_
  refine g_istore dX0_pathOf_12 (Nat.le_of_ble_eq_true rfl) rfl ?_
  dsimp only [List.set]
  cases h
  refine G.weak [true, true, true, true, true] rfl ?_
  exact Hl _ rfl hT
theorem ct_X0_pathOf {Γ : GG} (hΓ : GF Γ) {m mF : MM} {x : Nat} {l1 : Int32} {l2 : Option Nat} {l3 : Int32} (hT : (m.K x).1 = 1) {r : Option Nat} (h : f_X0_pathOf x l1 l2 l3 m = some (r, mF)) : Ct Γ kX0_pathOf cX0_pathOf [.ref x, .int l1, va_rf l2, .int l3] m (.inl (some (va_rf r))) mF := by
  unfold f_X0_pathOf at h
  replace h := bd_of h; obtain ⟨q, e, h⟩ := h
  have H := rx_go_ind (P := p_X0_pathOf Γ m mF x l1 l2 l3 r) (fun z o hs Hl Hr => by
    match z with
    | (l4, m) => exact fun hT => w_X0_pathOf_14 hΓ hT hs Hl Hr) h
  exact Ct.of (κ := kX0_pathOf) (by decide) rfl (by cases l2 <;> exact Nat.le_of_ble_eq_true rfl) rfl (by have w9 := w_X0_pathOf_0 (m0 := m) hΓ hT e H.1 H.2; cases l2 <;> exact w9)
set_option maxHeartbeats 4000000 in
theorem w_X0_layDown_0 {Γ : GG} (hΓ : GF Γ) {m0 mF m : MM} {x : Nat} {l1 : Int32} {l2 : Option Nat} {l3 : Int32} (hT : (m.K x).1 = 1) {r : Unit} (h : b_X0_layDown_0 x l1 l2 l3 m = some (r, mF)) : G Γ kX0_layDown cX0_layDown m0 mF (.inl none) m 0 [some (.ref x), some (.int l1), some (va_rf l2), some (.int l3)] [] := by
  unfold b_X0_layDown_0 at h
  refine g_this dX0_layDown_0 rfl ?_
  refine g_iload_n 1 dX0_layDown_1 rfl rfl ?_
  refine g_aload_n 2 dX0_layDown_2 rfl rfl ?_
  refine g_iload_n 3 dX0_layDown_3 rfl rfl ?_
  replace h := bd2_of h; obtain ⟨v1, m2, em2, h⟩ := h
  have C := ct_X0_pathOf hΓ hT em2
  refine g_callVr hΓ.k vl_X0_135 hT C rfl rfl (Nat.le_of_ble_eq_true rfl) (Nat.le_of_ble_eq_true rfl) (Nat.le_of_ble_eq_true rfl) dX0_layDown_4 ?_
  replace hT := (C.1).kd hT
  refine g_ic 0 dX0_layDown_7 rfl ?_
  refine g_this dX0_layDown_8 rfl ?_
  refine g_getR hΓ.k fl_X0_175_X0 rfl hT dX0_layDown_9 ?_
  refine g_ic 0 dX0_layDown_12 rfl ?_
  refine g_this dX0_layDown_13 rfl ?_
  refine g_getR hΓ.k fl_X0_31_X0 rfl hT dX0_layDown_14 ?_
  replace h := bd_of h; obtain ⟨a3, ea3, h⟩ := h
  obtain ⟨ea3, ka3⟩ := isK_of ea3
  replace h := bd2_of h; obtain ⟨v4, m5, em5, h⟩ := h
  have C := ct_X1_most hΓ ka3 em5
  refine g_callVi hΓ.k vl_X0_65 ka3 C rfl (by rw [ea3]; rfl) (Nat.le_of_ble_eq_true rfl) (Nat.le_of_ble_eq_true rfl) (Nat.le_of_ble_eq_true rfl) dX0_layDown_17 ?_
  replace hT := (C.1).kd hT
  replace h := bd_of h; obtain ⟨m6, em6, h⟩ := h
  refine g_copy50 hΓ q972 (Nat.le_of_ble_eq_true rfl) (Nat.le_of_ble_eq_true rfl) (Nat.le_of_ble_eq_true rfl) em6 dX0_layDown_20 ?_
  replace hT := (cI_ext em6).kd hT
  refine g_this dX0_layDown_23 rfl ?_
  refine g_this dX0_layDown_24 rfl ?_
  refine g_getR hΓ.k fl_X0_31_X0 rfl hT dX0_layDown_25 ?_
  replace h := bd_of h; obtain ⟨a7, ea7, h⟩ := h
  obtain ⟨ea7, ka7⟩ := isK_of ea7
  replace h := bd2_of h; obtain ⟨v8, m9, em9, h⟩ := h
  have C := ct_X1_most hΓ ka7 em9
  refine g_callVi hΓ.k vl_X0_65 ka7 C rfl (by rw [ea7]; rfl) (Nat.le_of_ble_eq_true rfl) (Nat.le_of_ble_eq_true rfl) (Nat.le_of_ble_eq_true rfl) dX0_layDown_28 ?_
  replace hT := (C.1).kd hT
  replace h := bd_of h; obtain ⟨m10, em10, h⟩ := h
  refine g_pI hΓ.k fl_X0_218_X0 (fun h9 => by cases h9) rfl (Or.inl ⟨rfl, rfl⟩) em10 dX0_layDown_31 ?_
  replace hT := (pI_ext em10).kd hT
  cases h
  exact g_vret rfl dX0_layDown_34
theorem ct_X0_layDown {Γ : GG} (hΓ : GF Γ) {m mF : MM} {x : Nat} {l1 : Int32} {l2 : Option Nat} {l3 : Int32} (hT : (m.K x).1 = 1) {r : Unit} (h : f_X0_layDown x l1 l2 l3 m = some (r, mF)) : Ct Γ kX0_layDown cX0_layDown [.ref x, .int l1, va_rf l2, .int l3] m (.inl none) mF := by
  unfold f_X0_layDown at h
  exact Ct.of (κ := kX0_layDown) (by decide) rfl (by cases l2 <;> exact Nat.le_of_ble_eq_true rfl) rfl (by have w9 := w_X0_layDown_0 (m0 := m) hΓ hT h; cases l2 <;> exact w9)
def p_X0_grow (Γ : GG) (m0 mF : MM) (dd : Nat) (l0 : Option Nat) (l1 : Int32) (l2 : Option Nat) (r : Unit) : ((Int32 × Int32 × MM)) → Prop := fun z => match z with
  | (l3, l4, m) => G Γ (kdX0_grow (dd + 1)) cX0_grow m0 mF (.inl none) m 22 [some (va_rf l0), some (.int l1), some (va_rf l2), some (.int l3), some (.int l4), none] []
set_option maxHeartbeats 4000000 in
theorem w_X0_grow_66 {Γ : GG} (hΓ : GF Γ) {m0 mF m : MM} {rf : Option Nat → Int32 → Option Nat → MM → Option (Unit × MM)} {l0 : Option Nat} {l1 : Int32} {l2 : Option Nat} {l3 : Int32} {l4 : Int32} {dd : Nat} (IH : ∀ {l0 : Option Nat} {l1 : Int32} {l2 : Option Nat} {m mF : MM} {r : Unit}, rf l0 l1 l2 m = some (r, mF) → Ct Γ (kdX0_grow dd) cX0_grow [va_rf l0, .int l1, va_rf l2] m (.inl none) mF) {r : Unit} {q : ((Int32 × Int32 × MM)) ⊕ (Unit × MM)} (h : b_X0_grow_66 rf l0 l1 l2 l3 l4 m = some q) (Hl : ∀ z, q = .inl z → p_X0_grow Γ m0 mF dd l0 l1 l2 r z) (Hr : ∀ z, q = .inr z → z = (r, mF)) : G Γ (kdX0_grow (dd + 1)) cX0_grow m0 mF (.inl none) m 66 [some (va_rf l0), some (.int l1), some (va_rf l2), some (.int l3), some (.int l4), none] [] := by
  unfold b_X0_grow_66 at h
  refine g_aload_n 0 dX0_grow_66 rfl rfl ?_
  replace h := bd_of h; obtain ⟨v1, ev1, h⟩ := h
  refine g_fR hΓ.k fl_X0_11_X0 rfl ev1 dX0_grow_67 ?_
  refine g_iload_n 3 dX0_grow_70 rfl rfl ?_
  refine g_iload dX0_grow_71 rfl ?_
  replace h := bd_of h; obtain ⟨m2, em2, h⟩ := h
  refine g_iast em2 dX0_grow_73 ?_
  refine g_aload_n 0 dX0_grow_74 rfl rfl ?_
  refine g_iload_n 3 dX0_grow_75 rfl rfl ?_
  refine g_ic 1 dX0_grow_76 rfl ?_
  refine g_iadd dX0_grow_77 ?_
  replace h := bd_of h; obtain ⟨a3, ea3, h⟩ := h
  obtain ⟨ea3, ka3⟩ := isK_of ea3
  cases ea3
  replace h := bd2_of h; obtain ⟨v4, m5, em5, h⟩ := h
  have C := ct_X0_canGoOn hΓ ka3 em5
  refine g_callVi hΓ.k vl_X0_87 ka3 C rfl rfl (by show 13 + 1 ≤ 14 + (dd + 1); omega) (by show 8 + (4 + 11) + 378 ≤ 401 + (dd + 1) * 25; omega) (Nat.le_of_ble_eq_true rfl) dX0_grow_78 ?_
  replace h := ite_of h; rcases h with ⟨hc, h⟩ | ⟨hc, h⟩
  · refine g_ifneF dX0_grow_81 rfl hc ?_
    refine g_goto dX0_grow_84 rfl ?_
    refine g_iinc (l4 + (1 : Int32)) dX0_grow_153 rfl rfl (Nat.le_of_ble_eq_true rfl) rfl ?_
    dsimp only [List.set]
    refine g_goto dX0_grow_156 rfl ?_
    cases h
    refine G.weak [true, true, true, true, true, false] rfl ?_
    exact Hl _ rfl
  · refine g_ifneT dX0_grow_81 rfl hc ?_
    refine g_aload_n 0 dX0_grow_87 rfl rfl ?_
    replace h := bd_of h; obtain ⟨v6, ev6, h⟩ := h
    refine g_fI hΓ.k fl_X0_91_X0 rfl ev6 dX0_grow_88 ?_
    refine g_si (3000) dX0_grow_91 rfl ?_
    replace h := ite_of h; rcases h with ⟨hc, h⟩ | ⟨hc, h⟩
    · refine g_icneF dX0_grow_94 rfl hc ?_
      refine g_aload_n 0 dX0_grow_97 rfl rfl ?_
      refine g_ic 1 dX0_grow_98 rfl ?_
      replace h := bd_of h; obtain ⟨m17, em17, h⟩ := h
      refine g_pI hΓ.k fl_X0_83_X0 (fun h9 => by cases h9) rfl (Or.inr (Or.inr ⟨rfl, rfl⟩)) em17 dX0_grow_99 ?_
      cases h
      cases Hr _ rfl
      exact g_vret rfl dX0_grow_102
    · refine g_icneT dX0_grow_94 rfl hc ?_
      refine g_aload_n 0 dX0_grow_103 rfl rfl ?_
      replace h := bd_of h; obtain ⟨v7, ev7, h⟩ := h
      refine g_fI hΓ.k fl_X0_91_X0 rfl ev7 dX0_grow_104 ?_
      refine g_istore dX0_grow_107 (Nat.le_of_ble_eq_true rfl) rfl ?_
      dsimp only [List.set]
      refine g_aload_n 0 dX0_grow_109 rfl rfl ?_
      refine g_dup dX0_grow_110 (va_rf_cat _) ?_
      replace h := bd_of h; obtain ⟨v8, ev8, h⟩ := h
      refine g_fI hΓ.k fl_X0_91_X0 rfl ev8 dX0_grow_111 ?_
      refine g_ic 1 dX0_grow_114 rfl ?_
      refine g_iadd dX0_grow_115 ?_
      replace h := bd_of h; obtain ⟨m9, em9, h⟩ := h
      refine g_pI hΓ.k fl_X0_91_X0 (fun h9 => by cases h9) rfl (Or.inl ⟨rfl, rfl⟩) em9 dX0_grow_116 ?_
      refine g_aload_n 0 dX0_grow_119 rfl rfl ?_
      replace h := bd_of h; obtain ⟨v10, ev10, h⟩ := h
      refine g_fR hΓ.k fl_X0_95_X0 rfl ev10 dX0_grow_120 ?_
      refine g_iload dX0_grow_123 rfl ?_
      refine g_iload_n 1 dX0_grow_125 rfl rfl ?_
      replace h := bd_of h; obtain ⟨m11, em11, h⟩ := h
      refine g_iast em11 dX0_grow_126 ?_
      refine g_aload_n 0 dX0_grow_127 rfl rfl ?_
      replace h := bd_of h; obtain ⟨v12, ev12, h⟩ := h
      refine g_fR hΓ.k fl_X0_98_X0 rfl ev12 dX0_grow_128 ?_
      refine g_iload dX0_grow_131 rfl ?_
      refine g_iload dX0_grow_133 rfl ?_
      replace h := bd_of h; obtain ⟨m13, em13, h⟩ := h
      refine g_iast em13 dX0_grow_135 ?_
      refine g_aload_n 0 dX0_grow_136 rfl rfl ?_
      replace h := bd_of h; obtain ⟨v14, ev14, h⟩ := h
      refine g_fR hΓ.k fl_X0_78_X0 rfl ev14 dX0_grow_137 ?_
      refine g_iload dX0_grow_140 rfl ?_
      refine g_iload_n 3 dX0_grow_142 rfl rfl ?_
      refine g_ic 1 dX0_grow_143 rfl ?_
      refine g_iadd dX0_grow_144 ?_
      replace h := bd_of h; obtain ⟨m15, em15, h⟩ := h
      refine g_iast em15 dX0_grow_145 ?_
      refine g_aload_n 0 dX0_grow_146 rfl rfl ?_
      refine g_iload dX0_grow_147 rfl ?_
      refine g_aload_n 2 dX0_grow_149 rfl rfl ?_
      replace h := bd2_of h; obtain ⟨_, m16, em16, h⟩ := h
      have C := IH em16
      refine g_callSv (sl_X0_100 dd) C rfl rfl (by show 14 + dd + 1 ≤ 14 + (dd + 1); omega) (by show 8 + (6 + 11) + (401 + dd * 25) ≤ 401 + (dd + 1) * 25; omega) (Nat.le_of_ble_eq_true rfl) dX0_grow_150 ?_
      refine g_iinc (l4 + (1 : Int32)) dX0_grow_153 rfl rfl (Nat.le_of_ble_eq_true rfl) rfl ?_
      dsimp only [List.set]
      refine g_goto dX0_grow_156 rfl ?_
      cases h
      refine G.weak [true, true, true, true, true, false] rfl ?_
      exact Hl _ rfl
set_option maxHeartbeats 4000000 in
theorem w_X0_grow_22 {Γ : GG} (hΓ : GF Γ) {m0 mF m : MM} {rf : Option Nat → Int32 → Option Nat → MM → Option (Unit × MM)} {l0 : Option Nat} {l1 : Int32} {l2 : Option Nat} {l3 : Int32} {l4 : Int32} {dd : Nat} (IH : ∀ {l0 : Option Nat} {l1 : Int32} {l2 : Option Nat} {m mF : MM} {r : Unit}, rf l0 l1 l2 m = some (r, mF) → Ct Γ (kdX0_grow dd) cX0_grow [va_rf l0, .int l1, va_rf l2] m (.inl none) mF) {r : Unit} {q : ((Int32 × Int32 × MM)) ⊕ (Unit × MM)} (h : b_X0_grow_22 rf l0 l1 l2 l3 l4 m = some q) (Hl : ∀ z, q = .inl z → p_X0_grow Γ m0 mF dd l0 l1 l2 r z) (Hr : ∀ z, q = .inr z → z = (r, mF)) : G Γ (kdX0_grow (dd + 1)) cX0_grow m0 mF (.inl none) m 22 [some (va_rf l0), some (.int l1), some (va_rf l2), some (.int l3), some (.int l4), none] [] := by
  unfold b_X0_grow_22 at h
  refine g_iload dX0_grow_22 rfl ?_
  refine g_aload_n 0 dX0_grow_24 rfl rfl ?_
  replace h := bd_of h; obtain ⟨v1, ev1, h⟩ := h
  refine g_fR hΓ.k fl_X0_31_X0 rfl ev1 dX0_grow_25 ?_
  replace h := bd_of h; obtain ⟨v2, ev2, h⟩ := h
  refine g_fR hΓ.k fl_X0_80_X1 rfl ev2 dX0_grow_28 ?_
  replace h := bd_of h; obtain ⟨a3, ea3, h⟩ := h
  obtain ⟨ea3, ka3⟩ := isK_of ea3
  cases ea3
  replace h := bd2_of h; obtain ⟨v4, m5, em5, h⟩ := h
  have C := ct_J2_size hΓ ka3 em5
  refine g_callVi hΓ.k vl_X0_47 ka3 C rfl rfl (by show 0 + 1 ≤ 14 + (dd + 1); omega) (by show 8 + (1 + 11) + 0 ≤ 401 + (dd + 1) * 25; omega) (Nat.le_of_ble_eq_true rfl) dX0_grow_31 ?_
  replace h := ite_of h; rcases h with ⟨hc, h⟩ | ⟨hc, h⟩
  · refine g_icgeT dX0_grow_34 rfl hc ?_
    cases h
    cases Hr _ rfl
    exact g_vret rfl dX0_grow_159
  · refine g_icgeF dX0_grow_34 rfl hc ?_
    refine g_aload_n 0 dX0_grow_37 rfl rfl ?_
    replace h := bd_of h; obtain ⟨v6, ev6, h⟩ := h
    refine g_fI hΓ.k fl_X0_83_X0 rfl ev6 dX0_grow_38 ?_
    replace h := ite_of h; rcases h with ⟨hc, h⟩ | ⟨hc, h⟩
    · refine g_ifneF dX0_grow_41 rfl hc ?_
      refine g_aload_n 2 dX0_grow_44 rfl rfl ?_
      replace h := ite_of h; rcases h with ⟨hc, h⟩ | ⟨hc, h⟩
      · refine g_ifnullT dX0_grow_45 rfl hc ?_
        refine G.weak [true, true, true, true, true, false] rfl ?_
        exact w_X0_grow_66 hΓ IH h Hl Hr
      · refine g_ifnullF dX0_grow_45 rfl hc ?_
        refine g_aload_n 2 dX0_grow_48 rfl rfl ?_
        refine g_iload_n 3 dX0_grow_49 rfl rfl ?_
        replace h := bd_of h; obtain ⟨v7, ev7, h⟩ := h
        refine g_iald ev7 dX0_grow_50 ?_
        refine g_ic (-1) dX0_grow_51 rfl ?_
        replace h := ite_of h; rcases h with ⟨hc, h⟩ | ⟨hc, h⟩
        · refine g_iceqT dX0_grow_52 rfl hc ?_
          refine G.weak [true, true, true, true, true, false] rfl ?_
          exact w_X0_grow_66 hΓ IH h Hl Hr
        · refine g_iceqF dX0_grow_52 rfl hc ?_
          refine g_aload_n 2 dX0_grow_55 rfl rfl ?_
          refine g_iload_n 3 dX0_grow_56 rfl rfl ?_
          replace h := bd_of h; obtain ⟨v8, ev8, h⟩ := h
          refine g_iald ev8 dX0_grow_57 ?_
          refine g_iload dX0_grow_58 rfl ?_
          replace h := ite_of h; rcases h with ⟨hc, h⟩ | ⟨hc, h⟩
          · refine g_iceqT dX0_grow_60 rfl hc ?_
            refine G.weak [true, true, true, true, true, false] rfl ?_
            exact w_X0_grow_66 hΓ IH h Hl Hr
          · refine g_iceqF dX0_grow_60 rfl hc ?_
            refine g_goto dX0_grow_63 rfl ?_
            refine g_iinc (l4 + (1 : Int32)) dX0_grow_153 rfl rfl (Nat.le_of_ble_eq_true rfl) rfl ?_
            dsimp only [List.set]
            refine g_goto dX0_grow_156 rfl ?_
            cases h
            refine G.weak [true, true, true, true, true, false] rfl ?_
            exact Hl _ rfl
    · refine g_ifneT dX0_grow_41 rfl hc ?_
      cases h
      cases Hr _ rfl
      exact g_vret rfl dX0_grow_159
set_option maxHeartbeats 4000000 in
theorem w_X0_grow_0 {Γ : GG} (hΓ : GF Γ) {m0 mF m : MM} {rf : Option Nat → Int32 → Option Nat → MM → Option (Unit × MM)} {l0 : Option Nat} {l1 : Int32} {l2 : Option Nat} {dd : Nat} (IH : ∀ {l0 : Option Nat} {l1 : Int32} {l2 : Option Nat} {m mF : MM} {r : Unit}, rf l0 l1 l2 m = some (r, mF) → Ct Γ (kdX0_grow dd) cX0_grow [va_rf l0, .int l1, va_rf l2] m (.inl none) mF) {r : Unit} {q : ((Int32 × Int32 × MM)) ⊕ (Unit × MM)} (h : b_X0_grow_0 rf l0 l1 l2 m = some q) (Hl : ∀ z, q = .inl z → p_X0_grow Γ m0 mF dd l0 l1 l2 r z) (Hr : ∀ z, q = .inr z → z = (r, mF)) : G Γ (kdX0_grow (dd + 1)) cX0_grow m0 mF (.inl none) m 0 [some (va_rf l0), some (.int l1), some (va_rf l2), none, none, none] [] := by
  unfold b_X0_grow_0 at h
  refine g_aload_n 0 dX0_grow_0 rfl rfl ?_
  replace h := bd_of h; obtain ⟨v1, ev1, h⟩ := h
  refine g_fR hΓ.k fl_X0_78_X0 rfl ev1 dX0_grow_1 ?_
  refine g_iload_n 1 dX0_grow_4 rfl rfl ?_
  replace h := bd_of h; obtain ⟨v2, ev2, h⟩ := h
  refine g_iald ev2 dX0_grow_5 ?_
  refine g_istore_n 3 dX0_grow_6 rfl (Nat.le_of_ble_eq_true rfl) (lvC_rf rfl) ?_
  dsimp only [List.set]
  refine g_iload_n 3 dX0_grow_7 rfl rfl ?_
  refine g_aload_n 0 dX0_grow_8 rfl rfl ?_
  replace h := bd_of h; obtain ⟨v3, ev3, h⟩ := h
  refine g_fR hΓ.k fl_X0_31_X0 rfl ev3 dX0_grow_9 ?_
  replace h := bd_of h; obtain ⟨a4, ea4, h⟩ := h
  obtain ⟨ea4, ka4⟩ := isK_of ea4
  cases ea4
  replace h := bd2_of h; obtain ⟨v5, m6, em6, h⟩ := h
  have C := ct_X1_most hΓ ka4 em6
  refine g_callVi hΓ.k vl_X0_65 ka4 C rfl rfl (by show 0 + 1 ≤ 14 + (dd + 1); omega) (by show 8 + (1 + 11) + 0 ≤ 401 + (dd + 1) * 25; omega) (Nat.le_of_ble_eq_true rfl) dX0_grow_12 ?_
  replace h := ite_of h; rcases h with ⟨hc, h⟩ | ⟨hc, h⟩
  · refine g_icneF dX0_grow_15 rfl hc ?_
    cases h
    cases Hr _ rfl
    exact g_vret rfl dX0_grow_18
  · refine g_icneT dX0_grow_15 rfl hc ?_
    refine g_ic 0 dX0_grow_19 rfl ?_
    refine g_istore dX0_grow_20 (Nat.le_of_ble_eq_true rfl) rfl ?_
    dsimp only [List.set]
    cases h
    refine G.weak [true, true, true, true, true, false] rfl ?_
    exact Hl _ rfl
theorem ct_X0_grow {Γ : GG} (hΓ : GF Γ) : ∀ {dd : Nat} {l0 : Option Nat} {l1 : Int32} {l2 : Option Nat} {m mF : MM} {r : Unit}, f_X0_grow dd l0 l1 l2 m = some (r, mF) → Ct Γ (kdX0_grow dd) cX0_grow [va_rf l0, .int l1, va_rf l2] m (.inl none) mF := by
  intro dd
  induction dd with
  | zero =>
    intro l0 l1 l2 m mF r h
    cases h
  | succ dd IH =>
    intro l0 l1 l2 m mF r h
    have h : bd (b_X0_grow_0 (f_X0_grow dd) l0 l1 l2 m) (rx_go (s_X0_grow (f_X0_grow dd) l0 l1 l2)) = some (r, mF) := h
    replace h := bd_of h; obtain ⟨q, e, h⟩ := h
    have H := rx_go_ind (P := p_X0_grow Γ m mF dd l0 l1 l2 r) (fun z o hs Hl Hr => by
      match z with
      | (l3, l4, m) => exact w_X0_grow_22 hΓ IH hs Hl Hr) h
    exact Ct.of (κ := kdX0_grow (dd + 1)) (by show plainName RX0 = true; decide) rfl (by cases l0 <;> cases l2 <;> exact Nat.le_of_ble_eq_true rfl) rfl (by have w9 := w_X0_grow_0 (m0 := m) hΓ IH e H.1 H.2; cases l0 <;> cases l2 <;> exact w9)
set_option maxHeartbeats 4000000 in
theorem w_X0_layTree_0 {Γ : GG} (hΓ : GF Γ) {m0 mF m : MM} {x : Nat} {l1 : Option Nat} {l2 : Int32} {l3 : Option Nat} (hT : (m.K x).1 = 1) {r : Int32} (h : b_X0_layTree_0 x l1 l2 l3 m = some (r, mF)) : G Γ kX0_layTree cX0_layTree m0 mF (.inl (some (.int r))) m 0 [some (.ref x), some (va_rf l1), some (.int l2), some (va_rf l3)] [] := by
  unfold b_X0_layTree_0 at h
  refine g_this dX0_layTree_0 rfl ?_
  refine g_aload_n 1 dX0_layTree_1 rfl rfl ?_
  refine g_iload_n 2 dX0_layTree_2 rfl rfl ?_
  replace h := bd2_of h; obtain ⟨_, m1, em1, h⟩ := h
  have C := ct_X0_load hΓ hT em1
  refine g_callVv hΓ.k vl_X0_104 hT C rfl rfl (Nat.le_of_ble_eq_true rfl) (Nat.le_of_ble_eq_true rfl) (Nat.le_of_ble_eq_true rfl) dX0_layTree_3 ?_
  replace hT := (C.1).kd hT
  refine g_this dX0_layTree_6 rfl ?_
  refine g_ic 1 dX0_layTree_7 rfl ?_
  replace h := bd_of h; obtain ⟨m2, em2, h⟩ := h
  refine g_pI hΓ.k fl_X0_91_X0 (fun h9 => by cases h9) rfl (Or.inl ⟨rfl, rfl⟩) em2 dX0_layTree_8 ?_
  replace hT := (pI_ext em2).kd hT
  refine g_this dX0_layTree_11 rfl ?_
  refine g_ic 0 dX0_layTree_12 rfl ?_
  replace h := bd_of h; obtain ⟨m3, em3, h⟩ := h
  refine g_pI hΓ.k fl_X0_83_X0 (fun h9 => by cases h9) rfl (Or.inr (Or.inr ⟨rfl, rfl⟩)) em3 dX0_layTree_13 ?_
  replace hT := (pI_ext em3).kd hT
  refine g_this dX0_layTree_16 rfl ?_
  refine g_getR hΓ.k fl_X0_95_X0 rfl hT dX0_layTree_17 ?_
  refine g_ic 0 dX0_layTree_20 rfl ?_
  refine g_ic (-1) dX0_layTree_21 rfl ?_
  replace h := bd_of h; obtain ⟨m4, em4, h⟩ := h
  refine g_iast em4 dX0_layTree_22 ?_
  replace hT := (sI_ext em4).kd hT
  refine g_this dX0_layTree_23 rfl ?_
  refine g_getR hΓ.k fl_X0_78_X0 rfl hT dX0_layTree_24 ?_
  refine g_ic 0 dX0_layTree_27 rfl ?_
  refine g_iload_n 2 dX0_layTree_28 rfl rfl ?_
  replace h := bd_of h; obtain ⟨m5, em5, h⟩ := h
  refine g_iast em5 dX0_layTree_29 ?_
  replace hT := (sI_ext em5).kd hT
  refine g_this dX0_layTree_30 rfl ?_
  refine g_iload_n 2 dX0_layTree_31 rfl rfl ?_
  replace h := bd2_of h; obtain ⟨v6, m7, em7, h⟩ := h
  have C := ct_X0_canGoOn hΓ hT em7
  refine g_callVi hΓ.k vl_X0_87 hT C rfl rfl (Nat.le_of_ble_eq_true rfl) (Nat.le_of_ble_eq_true rfl) (Nat.le_of_ble_eq_true rfl) dX0_layTree_32 ?_
  replace hT := (C.1).kd hT
  replace h := ite_of h; rcases h with ⟨hc, h⟩ | ⟨hc, h⟩
  · refine g_ifneF dX0_layTree_35 rfl hc ?_
    refine g_ic 0 dX0_layTree_38 rfl ?_
    cases h
    exact g_zret rfl (by decide) dX0_layTree_39
  · refine g_ifneT dX0_layTree_35 rfl hc ?_
    refine g_this dX0_layTree_40 rfl ?_
    refine g_aload_n 1 dX0_layTree_41 rfl rfl ?_
    refine g_iload_n 2 dX0_layTree_42 rfl rfl ?_
    replace h := bd2_of h; obtain ⟨_, m8, em8, h⟩ := h
    have C := ct_X0_load hΓ hT em8
    refine g_callVv hΓ.k vl_X0_104 hT C rfl rfl (Nat.le_of_ble_eq_true rfl) (Nat.le_of_ble_eq_true rfl) (Nat.le_of_ble_eq_true rfl) dX0_layTree_43 ?_
    replace hT := (C.1).kd hT
    refine g_this dX0_layTree_46 rfl ?_
    refine g_ic 0 dX0_layTree_47 rfl ?_
    refine g_aload_n 3 dX0_layTree_48 rfl rfl ?_
    replace h := bd2_of h; obtain ⟨_, m9, em9, h⟩ := h
    have C := ct_X0_grow hΓ em9
    refine g_callSv (sl_X0_100 9) C rfl rfl (Nat.le_of_ble_eq_true rfl) (Nat.le_of_ble_eq_true rfl) (Nat.le_of_ble_eq_true rfl) dX0_layTree_49 ?_
    replace hT := (C.1).kd hT
    refine g_ic 1 dX0_layTree_52 rfl ?_
    cases h
    exact g_zret rfl (by decide) dX0_layTree_53
theorem ct_X0_layTree {Γ : GG} (hΓ : GF Γ) {m mF : MM} {x : Nat} {l1 : Option Nat} {l2 : Int32} {l3 : Option Nat} (hT : (m.K x).1 = 1) {r : Int32} (h : f_X0_layTree x l1 l2 l3 m = some (r, mF)) : Ct Γ kX0_layTree cX0_layTree [.ref x, va_rf l1, .int l2, va_rf l3] m (.inl (some (.int r))) mF := by
  unfold f_X0_layTree at h
  exact Ct.of (κ := kX0_layTree) (by decide) rfl (by cases l1 <;> cases l3 <;> exact Nat.le_of_ble_eq_true rfl) rfl (by have w9 := w_X0_layTree_0 (m0 := m) hΓ hT h; cases l1 <;> cases l3 <;> exact w9)
set_option maxHeartbeats 4000000 in
theorem w_X0_meaningOf_0 {Γ : GG} (hΓ : GF Γ) {m0 mF m : MM} {x : Nat} {l1 : Int32} {l2 : Option Nat} {l3 : Int32} {l4 : Int32} (hT : (m.K x).1 = 1) {r : Int32} (h : b_X0_meaningOf_0 x l1 l2 l3 l4 m = some (r, mF)) : G Γ kX0_meaningOf cX0_meaningOf m0 mF (.inl (some (.int r))) m 0 [some (.ref x), some (.int l1), some (va_rf l2), some (.int l3), some (.int l4)] [] := by
  unfold b_X0_meaningOf_0 at h
  refine g_this dX0_meaningOf_0 rfl ?_
  refine g_this dX0_meaningOf_1 rfl ?_
  refine g_iload_n 1 dX0_meaningOf_2 rfl rfl ?_
  refine g_aload_n 2 dX0_meaningOf_3 rfl rfl ?_
  refine g_iload_n 3 dX0_meaningOf_4 rfl rfl ?_
  replace h := bd2_of h; obtain ⟨v1, m2, em2, h⟩ := h
  have C := ct_X0_pathOf hΓ hT em2
  refine g_callVr hΓ.k vl_X0_135 hT C rfl rfl (Nat.le_of_ble_eq_true rfl) (Nat.le_of_ble_eq_true rfl) (Nat.le_of_ble_eq_true rfl) dX0_meaningOf_5 ?_
  replace hT := (C.1).kd hT
  refine g_this dX0_meaningOf_8 rfl ?_
  refine g_getR hΓ.k fl_X0_31_X0 rfl hT dX0_meaningOf_9 ?_
  replace h := bd_of h; obtain ⟨a3, ea3, h⟩ := h
  obtain ⟨ea3, ka3⟩ := isK_of ea3
  replace h := bd2_of h; obtain ⟨v4, m5, em5, h⟩ := h
  have C := ct_X1_most hΓ ka3 em5
  refine g_callVi hΓ.k vl_X0_65 ka3 C rfl (by rw [ea3]; rfl) (Nat.le_of_ble_eq_true rfl) (Nat.le_of_ble_eq_true rfl) (Nat.le_of_ble_eq_true rfl) dX0_meaningOf_12 ?_
  replace hT := (C.1).kd hT
  refine g_iload dX0_meaningOf_15 rfl ?_
  replace h := bd2_of h; obtain ⟨v6, m7, em7, h⟩ := h
  have C := ct_X0_meaning hΓ hT em7
  refine g_callVi hΓ.k vl_X0_139 hT C rfl rfl (Nat.le_of_ble_eq_true rfl) (Nat.le_of_ble_eq_true rfl) (Nat.le_of_ble_eq_true rfl) dX0_meaningOf_17 ?_
  replace hT := (C.1).kd hT
  cases h
  exact g_iret rfl dX0_meaningOf_20
theorem ct_X0_meaningOf {Γ : GG} (hΓ : GF Γ) {m mF : MM} {x : Nat} {l1 : Int32} {l2 : Option Nat} {l3 : Int32} {l4 : Int32} (hT : (m.K x).1 = 1) {r : Int32} (h : f_X0_meaningOf x l1 l2 l3 l4 m = some (r, mF)) : Ct Γ kX0_meaningOf cX0_meaningOf [.ref x, .int l1, va_rf l2, .int l3, .int l4] m (.inl (some (.int r))) mF := by
  unfold f_X0_meaningOf at h
  exact Ct.of (κ := kX0_meaningOf) (by decide) rfl (by cases l2 <;> exact Nat.le_of_ble_eq_true rfl) rfl (by have w9 := w_X0_meaningOf_0 (m0 := m) hΓ hT h; cases l2 <;> exact w9)
set_option maxHeartbeats 4000000 in
theorem w_X0_isWhole_0 {Γ : GG} (hΓ : GF Γ) {m0 mF m : MM} {x : Nat} {l1 : Int32} (hT : (m.K x).1 = 1) {r : Int32} (h : b_X0_isWhole_0 x l1 m = some (r, mF)) : G Γ kX0_isWhole cX0_isWhole m0 mF (.inl (some (.int r))) m 0 [some (.ref x), some (.int l1)] [] := by
  unfold b_X0_isWhole_0 at h
  refine g_this dX0_isWhole_0 rfl ?_
  refine g_getR hΓ.k fl_X0_78_X0 rfl hT dX0_isWhole_1 ?_
  refine g_iload_n 1 dX0_isWhole_4 rfl rfl ?_
  replace h := bd_of h; obtain ⟨v1, ev1, h⟩ := h
  refine g_iald ev1 dX0_isWhole_5 ?_
  refine g_this dX0_isWhole_6 rfl ?_
  refine g_getR hΓ.k fl_X0_31_X0 rfl hT dX0_isWhole_7 ?_
  replace h := bd_of h; obtain ⟨a2, ea2, h⟩ := h
  obtain ⟨ea2, ka2⟩ := isK_of ea2
  replace h := bd2_of h; obtain ⟨v3, m4, em4, h⟩ := h
  have C := ct_X1_most hΓ ka2 em4
  refine g_callVi hΓ.k vl_X0_65 ka2 C rfl (by rw [ea2]; rfl) (Nat.le_of_ble_eq_true rfl) (Nat.le_of_ble_eq_true rfl) (Nat.le_of_ble_eq_true rfl) dX0_isWhole_10 ?_
  replace hT := (C.1).kd hT
  replace h := ite_of h; rcases h with ⟨hc, h⟩ | ⟨hc, h⟩
  · refine g_icneF dX0_isWhole_13 rfl hc ?_
    refine g_ic 1 dX0_isWhole_16 rfl ?_
    refine g_goto dX0_isWhole_17 rfl ?_
    cases h
    exact g_zret rfl (by decide) dX0_isWhole_21
  · refine g_icneT dX0_isWhole_13 rfl hc ?_
    refine g_ic 0 dX0_isWhole_20 rfl ?_
    cases h
    exact g_zret rfl (by decide) dX0_isWhole_21
theorem ct_X0_isWhole {Γ : GG} (hΓ : GF Γ) {m mF : MM} {x : Nat} {l1 : Int32} (hT : (m.K x).1 = 1) {r : Int32} (h : f_X0_isWhole x l1 m = some (r, mF)) : Ct Γ kX0_isWhole cX0_isWhole [.ref x, .int l1] m (.inl (some (.int r))) mF := by
  unfold f_X0_isWhole at h
  exact Ct.of (κ := kX0_isWhole) (by decide) rfl (Nat.le_of_ble_eq_true rfl) rfl (w_X0_isWhole_0 hΓ hT h)
def p_X0_write_2 (Γ : GG) (m0 mF : MM) (x : Nat) (l1 : Option Nat) (l2 : Int32) (l3 : Option Nat) (r : Int32) : ((Int32 × MM) ⊕ (Int32 × MM)) → Prop := fun z => match z with
  | (.inl (l4, m)) => (m.K x).1 = 1 → G Γ kX0_write_2 cX0_write_2 m0 mF (.inl (some (.int r))) m 3 [some (.ref x), some (va_rf l1), some (.int l2), some (va_rf l3), some (.int l4), none, none] []
  | (.inr (l4, m)) => (m.K x).1 = 1 → G Γ kX0_write_2 cX0_write_2 m0 mF (.inl (some (.int r))) m 48 [some (.ref x), some (va_rf l1), some (.int l2), some (va_rf l3), some (.int l4), none, none] []
set_option maxHeartbeats 4000000 in
theorem w_X0_write_2_127 {Γ : GG} (hΓ : GF Γ) {m0 mF m : MM} {x : Nat} {l1 : Option Nat} {l2 : Int32} {l3 : Option Nat} {l4 : Int32} {l5 : Int32} (hT : (m.K x).1 = 1) {r : Int32} {q : ((Int32 × MM) ⊕ (Int32 × MM)) ⊕ (Int32 × MM)} (h : b_X0_write_2_127 x l1 l2 l3 l4 l5 m = some q) (Hl : ∀ z, q = .inl z → p_X0_write_2 Γ m0 mF x l1 l2 l3 r z) (Hr : ∀ z, q = .inr z → z = (r, mF)) : G Γ kX0_write_2 cX0_write_2 m0 mF (.inl (some (.int r))) m 127 [some (.ref x), some (va_rf l1), some (.int l2), some (va_rf l3), some (.int l4), some (.int l5), none] [] := by
  unfold b_X0_write_2_127 at h
  refine g_this dX0_write_2_127 rfl ?_
  refine g_getR hΓ.k fl_X0_129_X0 rfl hT dX0_write_2_128 ?_
  refine g_iload dX0_write_2_131 rfl ?_
  refine g_this dX0_write_2_133 rfl ?_
  refine g_getR hΓ.k fl_X0_129_X0 rfl hT dX0_write_2_134 ?_
  refine g_iload dX0_write_2_137 rfl ?_
  replace h := bd_of h; obtain ⟨v1, ev1, h⟩ := h
  refine g_iald ev1 dX0_write_2_139 ?_
  replace h := bd_of h; obtain ⟨m2, em2, h⟩ := h
  refine g_iast em2 dX0_write_2_140 ?_
  replace hT := (sI_ext em2).kd hT
  refine g_iinc (l4 + (-1 : Int32)) dX0_write_2_141 rfl rfl (Nat.le_of_ble_eq_true rfl) (lvC_rf rfl) ?_
  dsimp only [List.set]
  refine g_goto dX0_write_2_144 rfl ?_
  cases h
  refine G.weak [true, true, true, true, true, false, false] rfl ?_
  exact Hl _ rfl hT
set_option maxHeartbeats 4000000 in
theorem w_X0_write_2_48 {Γ : GG} (hΓ : GF Γ) {m0 mF m : MM} {x : Nat} {l1 : Option Nat} {l2 : Int32} {l3 : Option Nat} {l4 : Int32} (hT : (m.K x).1 = 1) {r : Int32} {q : ((Int32 × MM) ⊕ (Int32 × MM)) ⊕ (Int32 × MM)} (h : b_X0_write_2_48 x l1 l2 l3 l4 m = some q) (Hl : ∀ z, q = .inl z → p_X0_write_2 Γ m0 mF x l1 l2 l3 r z) (Hr : ∀ z, q = .inr z → z = (r, mF)) : G Γ kX0_write_2 cX0_write_2 m0 mF (.inl (some (.int r))) m 48 [some (.ref x), some (va_rf l1), some (.int l2), some (va_rf l3), some (.int l4), none, none] [] := by
  unfold b_X0_write_2_48 at h
  refine g_iload dX0_write_2_48 rfl ?_
  replace h := ite_of h; rcases h with ⟨hc, h⟩ | ⟨hc, h⟩
  · refine g_ifleT dX0_write_2_50 rfl hc ?_
    refine g_this dX0_write_2_147 rfl ?_
    refine g_getR hΓ.k fl_X0_129_X0 rfl hT dX0_write_2_148 ?_
    refine g_ic 0 dX0_write_2_151 rfl ?_
    replace h := bd_of h; obtain ⟨v1, ev1, h⟩ := h
    refine g_iald ev1 dX0_write_2_152 ?_
    cases h
    cases Hr _ rfl
    exact g_iret rfl dX0_write_2_153
  · refine g_ifleF dX0_write_2_50 rfl hc ?_
    refine g_this dX0_write_2_53 rfl ?_
    refine g_getR hΓ.k fl_X0_95_X0 rfl hT dX0_write_2_54 ?_
    refine g_iload dX0_write_2_57 rfl ?_
    replace h := bd_of h; obtain ⟨v2, ev2, h⟩ := h
    refine g_iald ev2 dX0_write_2_59 ?_
    refine g_istore dX0_write_2_60 (Nat.le_of_ble_eq_true rfl) rfl ?_
    dsimp only [List.set]
    refine g_aload_n 3 dX0_write_2_62 rfl rfl ?_
    refine g_this dX0_write_2_63 rfl ?_
    refine g_getR hΓ.k fl_X0_78_X0 rfl hT dX0_write_2_64 ?_
    refine g_iload dX0_write_2_67 rfl ?_
    replace h := bd_of h; obtain ⟨v3, ev3, h⟩ := h
    refine g_iald ev3 dX0_write_2_69 ?_
    replace h := bd_of h; obtain ⟨v4, ev4, h⟩ := h
    refine g_iald ev4 dX0_write_2_70 ?_
    refine g_istore dX0_write_2_71 (Nat.le_of_ble_eq_true rfl) rfl ?_
    dsimp only [List.set]
    refine g_this dX0_write_2_73 rfl ?_
    refine g_getR hΓ.k fl_X0_129_X0 rfl hT dX0_write_2_74 ?_
    refine g_iload dX0_write_2_77 rfl ?_
    replace h := bd_of h; obtain ⟨v5, ev5, h⟩ := h
    refine g_iald ev5 dX0_write_2_79 ?_
    replace h := ite_of h; rcases h with ⟨hc, h⟩ | ⟨hc, h⟩
    · refine g_ifltT dX0_write_2_80 rfl hc ?_
      refine G.weak [true, true, true, true, true, true, false] rfl ?_
      exact w_X0_write_2_127 hΓ hT h Hl Hr
    · refine g_ifltF dX0_write_2_80 rfl hc ?_
      refine g_this dX0_write_2_83 rfl ?_
      refine g_this dX0_write_2_84 rfl ?_
      refine g_this dX0_write_2_85 rfl ?_
      refine g_getR hΓ.k fl_X0_129_X0 rfl hT dX0_write_2_86 ?_
      refine g_iload dX0_write_2_89 rfl ?_
      replace h := bd_of h; obtain ⟨v6, ev6, h⟩ := h
      refine g_iald ev6 dX0_write_2_91 ?_
      refine g_aload_n 1 dX0_write_2_92 rfl rfl ?_
      refine g_iload_n 2 dX0_write_2_93 rfl rfl ?_
      replace h := bd2_of h; obtain ⟨v7, m8, em8, h⟩ := h
      have C := ct_X0_pathOf hΓ hT em8
      refine g_callVr hΓ.k vl_X0_135 hT C rfl rfl (Nat.le_of_ble_eq_true rfl) (Nat.le_of_ble_eq_true rfl) (Nat.le_of_ble_eq_true rfl) dX0_write_2_94 ?_
      replace hT := (C.1).kd hT
      refine g_this dX0_write_2_97 rfl ?_
      refine g_getR hΓ.k fl_X0_31_X0 rfl hT dX0_write_2_98 ?_
      replace h := bd_of h; obtain ⟨a9, ea9, h⟩ := h
      obtain ⟨ea9, ka9⟩ := isK_of ea9
      replace h := bd2_of h; obtain ⟨v10, m11, em11, h⟩ := h
      have C := ct_X1_most hΓ ka9 em11
      refine g_callVi hΓ.k vl_X0_65 ka9 C rfl (by rw [ea9]; rfl) (Nat.le_of_ble_eq_true rfl) (Nat.le_of_ble_eq_true rfl) (Nat.le_of_ble_eq_true rfl) dX0_write_2_101 ?_
      replace hT := (C.1).kd hT
      refine g_iload dX0_write_2_104 rfl ?_
      replace h := bd2_of h; obtain ⟨v12, m13, em13, h⟩ := h
      have C := ct_X0_meaning hΓ hT em13
      refine g_callVi hΓ.k vl_X0_139 hT C rfl rfl (Nat.le_of_ble_eq_true rfl) (Nat.le_of_ble_eq_true rfl) (Nat.le_of_ble_eq_true rfl) dX0_write_2_106 ?_
      replace hT := (C.1).kd hT
      refine g_this dX0_write_2_109 rfl ?_
      refine g_this dX0_write_2_110 rfl ?_
      refine g_getR hΓ.k fl_X0_129_X0 rfl hT dX0_write_2_111 ?_
      refine g_iload dX0_write_2_114 rfl ?_
      replace h := bd_of h; obtain ⟨v14, ev14, h⟩ := h
      refine g_iald ev14 dX0_write_2_116 ?_
      refine g_aload_n 1 dX0_write_2_117 rfl rfl ?_
      refine g_iload_n 2 dX0_write_2_118 rfl rfl ?_
      refine g_iload dX0_write_2_119 rfl ?_
      replace h := bd2_of h; obtain ⟨v15, m16, em16, h⟩ := h
      have C := ct_X0_meaningOf hΓ hT em16
      refine g_callVi hΓ.k vl_X0_143 hT C rfl rfl (Nat.le_of_ble_eq_true rfl) (Nat.le_of_ble_eq_true rfl) (Nat.le_of_ble_eq_true rfl) dX0_write_2_121 ?_
      replace hT := (C.1).kd hT
      replace h := ite_of h; rcases h with ⟨hc, h⟩ | ⟨hc, h⟩
      · refine g_icltT dX0_write_2_124 rfl hc ?_
        refine g_iinc (l4 + (-1 : Int32)) dX0_write_2_141 rfl rfl (Nat.le_of_ble_eq_true rfl) (lvC_rf rfl) ?_
        dsimp only [List.set]
        refine g_goto dX0_write_2_144 rfl ?_
        cases h
        refine G.weak [true, true, true, true, true, false, false] rfl ?_
        exact Hl _ rfl hT
      · refine g_icltF dX0_write_2_124 rfl hc ?_
        refine G.weak [true, true, true, true, true, true, false] rfl ?_
        exact w_X0_write_2_127 hΓ hT h Hl Hr
set_option maxHeartbeats 4000000 in
theorem w_X0_write_2_3 {Γ : GG} (hΓ : GF Γ) {m0 mF m : MM} {x : Nat} {l1 : Option Nat} {l2 : Int32} {l3 : Option Nat} {l4 : Int32} (hT : (m.K x).1 = 1) {r : Int32} {q : ((Int32 × MM) ⊕ (Int32 × MM)) ⊕ (Int32 × MM)} (h : b_X0_write_2_3 x l1 l2 l3 l4 m = some q) (Hl : ∀ z, q = .inl z → p_X0_write_2 Γ m0 mF x l1 l2 l3 r z) (Hr : ∀ z, q = .inr z → z = (r, mF)) : G Γ kX0_write_2 cX0_write_2 m0 mF (.inl (some (.int r))) m 3 [some (.ref x), some (va_rf l1), some (.int l2), some (va_rf l3), some (.int l4), none, none] [] := by
  unfold b_X0_write_2_3 at h
  refine g_iload dX0_write_2_3 rfl ?_
  refine g_this dX0_write_2_5 rfl ?_
  refine g_getI hΓ.k fl_X0_91_X0 rfl hT dX0_write_2_6 ?_
  replace h := ite_of h; rcases h with ⟨hc, h⟩ | ⟨hc, h⟩
  · refine g_icgeT dX0_write_2_9 rfl hc ?_
    refine g_this dX0_write_2_40 rfl ?_
    refine g_getI hΓ.k fl_X0_91_X0 rfl hT dX0_write_2_41 ?_
    refine g_ic 1 dX0_write_2_44 rfl ?_
    refine g_isub dX0_write_2_45 ?_
    refine g_istore dX0_write_2_46 (Nat.le_of_ble_eq_true rfl) (lvC_rf rfl) ?_
    dsimp only [List.set]
    cases h
    refine G.weak [true, true, true, true, true, false, false] rfl ?_
    exact Hl _ rfl hT
  · refine g_icgeF dX0_write_2_9 rfl hc ?_
    refine g_this dX0_write_2_12 rfl ?_
    refine g_getR hΓ.k fl_X0_129_X0 rfl hT dX0_write_2_13 ?_
    refine g_iload dX0_write_2_16 rfl ?_
    refine g_this dX0_write_2_18 rfl ?_
    refine g_iload dX0_write_2_19 rfl ?_
    replace h := bd2_of h; obtain ⟨v1, m2, em2, h⟩ := h
    have C := ct_X0_isWhole hΓ hT em2
    refine g_callVi hΓ.k vl_X0_132 hT C rfl rfl (Nat.le_of_ble_eq_true rfl) (Nat.le_of_ble_eq_true rfl) (Nat.le_of_ble_eq_true rfl) dX0_write_2_21 ?_
    replace hT := (C.1).kd hT
    replace h := ite_of h; rcases h with ⟨hc, h⟩ | ⟨hc, h⟩
    · refine g_ifeqT dX0_write_2_24 rfl hc ?_
      refine g_ic (-1) dX0_write_2_32 rfl ?_
      replace h := bd_of h; obtain ⟨m3, em3, h⟩ := h
      refine g_iast em3 dX0_write_2_33 ?_
      replace hT := (sI_ext em3).kd hT
      refine g_iinc (l4 + (1 : Int32)) dX0_write_2_34 rfl rfl (Nat.le_of_ble_eq_true rfl) (lvC_rf rfl) ?_
      dsimp only [List.set]
      refine g_goto dX0_write_2_37 rfl ?_
      cases h
      refine G.weak [true, true, true, true, true, false, false] rfl ?_
      exact Hl _ rfl hT
    · refine g_ifeqF dX0_write_2_24 rfl hc ?_
      refine g_iload dX0_write_2_27 rfl ?_
      refine g_goto dX0_write_2_29 rfl ?_
      replace h := bd_of h; obtain ⟨m4, em4, h⟩ := h
      refine g_iast em4 dX0_write_2_33 ?_
      replace hT := (sI_ext em4).kd hT
      refine g_iinc (l4 + (1 : Int32)) dX0_write_2_34 rfl rfl (Nat.le_of_ble_eq_true rfl) (lvC_rf rfl) ?_
      dsimp only [List.set]
      refine g_goto dX0_write_2_37 rfl ?_
      cases h
      refine G.weak [true, true, true, true, true, false, false] rfl ?_
      exact Hl _ rfl hT
set_option maxHeartbeats 4000000 in
theorem w_X0_write_2_0 {Γ : GG} (hΓ : GF Γ) {m0 mF m : MM} {x : Nat} {l1 : Option Nat} {l2 : Int32} {l3 : Option Nat} (hT : (m.K x).1 = 1) {r : Int32} {q : ((Int32 × MM) ⊕ (Int32 × MM)) ⊕ (Int32 × MM)} (h : b_X0_write_2_0 x l1 l2 l3 m = some q) (Hl : ∀ z, q = .inl z → p_X0_write_2 Γ m0 mF x l1 l2 l3 r z) (Hr : ∀ z, q = .inr z → z = (r, mF)) : G Γ kX0_write_2 cX0_write_2 m0 mF (.inl (some (.int r))) m 0 [some (.ref x), some (va_rf l1), some (.int l2), some (va_rf l3), none, none, none] [] := by
  unfold b_X0_write_2_0 at h
  refine g_ic 0 dX0_write_2_0 rfl ?_
  refine g_istore dX0_write_2_1 (Nat.le_of_ble_eq_true rfl) (lvC_rf rfl) ?_
  dsimp only [List.set]
  cases h
  refine G.weak [true, true, true, true, true, false, false] rfl ?_
  exact Hl _ rfl hT
theorem ct_X0_write_2 {Γ : GG} (hΓ : GF Γ) {m mF : MM} {x : Nat} {l1 : Option Nat} {l2 : Int32} {l3 : Option Nat} (hT : (m.K x).1 = 1) {r : Int32} (h : f_X0_write_2 x l1 l2 l3 m = some (r, mF)) : Ct Γ kX0_write_2 cX0_write_2 [.ref x, va_rf l1, .int l2, va_rf l3] m (.inl (some (.int r))) mF := by
  unfold f_X0_write_2 at h
  replace h := bd_of h; obtain ⟨q, e, h⟩ := h
  have H := rx_go_ind (P := p_X0_write_2 Γ m mF x l1 l2 l3 r) (fun z o hs Hl Hr => by
    match z with
    | (.inl (l4, m)) => exact fun hT => w_X0_write_2_3 hΓ hT hs Hl Hr
    | (.inr (l4, m)) => exact fun hT => w_X0_write_2_48 hΓ hT hs Hl Hr) h
  exact Ct.of (κ := kX0_write_2) (by decide) rfl (by cases l1 <;> cases l3 <;> exact Nat.le_of_ble_eq_true rfl) rfl (by have w9 := w_X0_write_2_0 (m0 := m) hΓ hT e H.1 H.2; cases l1 <;> cases l3 <;> exact w9)
set_option maxHeartbeats 4000000 in
theorem w_X0_written_0 {Γ : GG} (hΓ : GF Γ) {m0 mF m : MM} {x : Nat} {l1 : Int32} (hT : (m.K x).1 = 1) {r : Int32} (h : b_X0_written_0 x l1 m = some (r, mF)) : G Γ kX0_written cX0_written m0 mF (.inl (some (.int r))) m 0 [some (.ref x), some (.int l1), none] [] := by
  unfold b_X0_written_0 at h
  refine g_this dX0_written_0 rfl ?_
  refine g_ic 0 dX0_written_1 rfl ?_
  replace h := bd_of h; obtain ⟨m1, em1, h⟩ := h
  refine g_pI hΓ.k fl_X0_218_X0 (fun h9 => by cases h9) rfl (Or.inl ⟨rfl, rfl⟩) em1 dX0_written_2 ?_
  replace hT := (pI_ext em1).kd hT
  refine g_iload_n 1 dX0_written_5 rfl rfl ?_
  replace h := bd2_of h; obtain ⟨v2, m3, em3, h⟩ := h
  have C := ct_X0_isGuild hΓ em3
  refine g_callSi sl_X0_242 C rfl rfl (Nat.le_of_ble_eq_true rfl) (Nat.le_of_ble_eq_true rfl) (Nat.le_of_ble_eq_true rfl) dX0_written_6 ?_
  replace hT := (C.1).kd hT
  replace h := ite_of h; rcases h with ⟨hc, h⟩ | ⟨hc, h⟩
  · refine g_ifeqT dX0_written_9 rfl hc ?_
    refine g_ldc (v := -1000000) q931 dX0_written_38 ?_
    cases h
    exact g_iret rfl dX0_written_40
  · refine g_ifeqF dX0_written_9 rfl hc ?_
    refine g_this dX0_written_12 rfl ?_
    refine g_this dX0_written_13 rfl ?_
    refine g_getR hΓ.k fl_X0_164_X0 rfl hT dX0_written_14 ?_
    refine g_this dX0_written_17 rfl ?_
    refine g_getR hΓ.k fl_X0_164_X0 rfl hT dX0_written_18 ?_
    refine g_bi (12) dX0_written_21 rfl ?_
    replace h := bd_of h; obtain ⟨v4, ev4, h⟩ := h
    refine g_iald ev4 dX0_written_23 ?_
    refine g_null dX0_written_24 ?_
    replace h := bd2_of h; obtain ⟨v5, m6, em6, h⟩ := h
    have C := ct_X0_layTree hΓ hT em6
    refine g_callVi hΓ.k vl_X0_269 hT C rfl rfl (Nat.le_of_ble_eq_true rfl) (Nat.le_of_ble_eq_true rfl) (Nat.le_of_ble_eq_true rfl) dX0_written_25 ?_
    replace hT := (C.1).kd hT
    replace h := ite_of h; rcases h with ⟨hc, h⟩ | ⟨hc, h⟩
    · refine g_ifeqT dX0_written_28 rfl hc ?_
      refine g_ldc (v := -1000000) q931 dX0_written_38 ?_
      cases h
      exact g_iret rfl dX0_written_40
    · refine g_ifeqF dX0_written_28 rfl hc ?_
      refine g_this dX0_written_31 rfl ?_
      refine g_getI hΓ.k fl_X0_83_X0 rfl hT dX0_written_32 ?_
      replace h := ite_of h; rcases h with ⟨hc, h⟩ | ⟨hc, h⟩
      · refine g_ifeqT dX0_written_35 rfl hc ?_
        refine g_this dX0_written_41 rfl ?_
        refine g_getR hΓ.k fl_X0_164_X0 rfl hT dX0_written_42 ?_
        refine g_bi (6) dX0_written_45 rfl ?_
        refine g_this dX0_written_47 rfl ?_
        refine g_getR hΓ.k fl_X0_172_X0 rfl hT dX0_written_48 ?_
        refine g_ic 0 dX0_written_51 rfl ?_
        refine g_bi (6) dX0_written_52 rfl ?_
        replace h := bd_of h; obtain ⟨m7, em7, h⟩ := h
        refine g_copy50 hΓ q972 (Nat.le_of_ble_eq_true rfl) (Nat.le_of_ble_eq_true rfl) (Nat.le_of_ble_eq_true rfl) em7 dX0_written_54 ?_
        replace hT := (cI_ext em7).kd hT
        refine g_this dX0_written_57 rfl ?_
        refine g_this dX0_written_58 rfl ?_
        refine g_getR hΓ.k fl_X0_164_X0 rfl hT dX0_written_59 ?_
        refine g_this dX0_written_62 rfl ?_
        refine g_getR hΓ.k fl_X0_164_X0 rfl hT dX0_written_63 ?_
        refine g_bi (12) dX0_written_66 rfl ?_
        replace h := bd_of h; obtain ⟨v8, ev8, h⟩ := h
        refine g_iald ev8 dX0_written_68 ?_
        refine g_this dX0_written_69 rfl ?_
        refine g_getR hΓ.k fl_X0_172_X0 rfl hT dX0_written_70 ?_
        replace h := bd2_of h; obtain ⟨v9, m10, em10, h⟩ := h
        have C := ct_X0_write_2 hΓ hT em10
        refine g_callVi hΓ.k vl_X0_273 hT C rfl rfl (Nat.le_of_ble_eq_true rfl) (Nat.le_of_ble_eq_true rfl) (Nat.le_of_ble_eq_true rfl) dX0_written_73 ?_
        replace hT := (C.1).kd hT
        refine g_istore_n 2 dX0_written_76 rfl (Nat.le_of_ble_eq_true rfl) rfl ?_
        dsimp only [List.set]
        refine g_this dX0_written_77 rfl ?_
        refine g_iload_n 2 dX0_written_78 rfl rfl ?_
        refine g_this dX0_written_79 rfl ?_
        refine g_getR hΓ.k fl_X0_164_X0 rfl hT dX0_written_80 ?_
        refine g_this dX0_written_83 rfl ?_
        refine g_getR hΓ.k fl_X0_164_X0 rfl hT dX0_written_84 ?_
        refine g_bi (12) dX0_written_87 rfl ?_
        replace h := bd_of h; obtain ⟨v11, ev11, h⟩ := h
        refine g_iald ev11 dX0_written_89 ?_
        replace h := bd2_of h; obtain ⟨_, m12, em12, h⟩ := h
        have C := ct_X0_layDown hΓ hT em12
        refine g_callVv hΓ.k vl_X0_277 hT C rfl rfl (Nat.le_of_ble_eq_true rfl) (Nat.le_of_ble_eq_true rfl) (Nat.le_of_ble_eq_true rfl) dX0_written_90 ?_
        replace hT := (C.1).kd hT
        refine g_this dX0_written_93 rfl ?_
        refine g_iload_n 2 dX0_written_94 rfl rfl ?_
        refine g_this dX0_written_95 rfl ?_
        refine g_getR hΓ.k fl_X0_164_X0 rfl hT dX0_written_96 ?_
        refine g_this dX0_written_99 rfl ?_
        refine g_getR hΓ.k fl_X0_164_X0 rfl hT dX0_written_100 ?_
        refine g_bi (12) dX0_written_103 rfl ?_
        replace h := bd_of h; obtain ⟨v13, ev13, h⟩ := h
        refine g_iald ev13 dX0_written_105 ?_
        refine g_iload_n 1 dX0_written_106 rfl rfl ?_
        replace h := bd2_of h; obtain ⟨v14, m15, em15, h⟩ := h
        have C := ct_X0_meaningOf hΓ hT em15
        refine g_callVi hΓ.k vl_X0_143 hT C rfl rfl (Nat.le_of_ble_eq_true rfl) (Nat.le_of_ble_eq_true rfl) (Nat.le_of_ble_eq_true rfl) dX0_written_107 ?_
        replace hT := (C.1).kd hT
        cases h
        exact g_iret rfl dX0_written_110
      · refine g_ifeqF dX0_written_35 rfl hc ?_
        refine g_ldc (v := -1000000) q931 dX0_written_38 ?_
        cases h
        exact g_iret rfl dX0_written_40
theorem ct_X0_written {Γ : GG} (hΓ : GF Γ) {m mF : MM} {x : Nat} {l1 : Int32} (hT : (m.K x).1 = 1) {r : Int32} (h : f_X0_written x l1 m = some (r, mF)) : Ct Γ kX0_written cX0_written [.ref x, .int l1] m (.inl (some (.int r))) mF := by
  unfold f_X0_written at h
  exact Ct.of (κ := kX0_written) (by decide) rfl (Nat.le_of_ble_eq_true rfl) rfl (w_X0_written_0 hΓ hT h)
set_option maxHeartbeats 4000000 in
theorem w_X0_hasTree_0 {Γ : GG} (hΓ : GF Γ) {m0 mF m : MM} {x : Nat} (hT : (m.K x).1 = 1) {r : Int32} (h : b_X0_hasTree_0 x m = some (r, mF)) : G Γ kX0_hasTree cX0_hasTree m0 mF (.inl (some (.int r))) m 0 [some (.ref x)] [] := by
  unfold b_X0_hasTree_0 at h
  refine g_this dX0_hasTree_0 rfl ?_
  refine g_this dX0_hasTree_1 rfl ?_
  refine g_getR hΓ.k fl_X0_164_X0 rfl hT dX0_hasTree_2 ?_
  refine g_this dX0_hasTree_5 rfl ?_
  refine g_getR hΓ.k fl_X0_164_X0 rfl hT dX0_hasTree_6 ?_
  refine g_bi (12) dX0_hasTree_9 rfl ?_
  replace h := bd_of h; obtain ⟨v1, ev1, h⟩ := h
  refine g_iald ev1 dX0_hasTree_11 ?_
  refine g_null dX0_hasTree_12 ?_
  replace h := bd2_of h; obtain ⟨v2, m3, em3, h⟩ := h
  have C := ct_X0_layTree hΓ hT em3
  refine g_callVi hΓ.k vl_X0_269 hT C rfl rfl (Nat.le_of_ble_eq_true rfl) (Nat.le_of_ble_eq_true rfl) (Nat.le_of_ble_eq_true rfl) dX0_hasTree_13 ?_
  replace hT := (C.1).kd hT
  replace h := ite_of h; rcases h with ⟨hc, h⟩ | ⟨hc, h⟩
  · refine g_ifeqT dX0_hasTree_16 rfl hc ?_
    refine g_ic 0 dX0_hasTree_30 rfl ?_
    cases h
    exact g_zret rfl (by decide) dX0_hasTree_31
  · refine g_ifeqF dX0_hasTree_16 rfl hc ?_
    refine g_this dX0_hasTree_19 rfl ?_
    refine g_getI hΓ.k fl_X0_83_X0 rfl hT dX0_hasTree_20 ?_
    replace h := ite_of h; rcases h with ⟨hc, h⟩ | ⟨hc, h⟩
    · refine g_ifneF dX0_hasTree_23 rfl hc ?_
      refine g_ic 1 dX0_hasTree_26 rfl ?_
      refine g_goto dX0_hasTree_27 rfl ?_
      cases h
      exact g_zret rfl (by decide) dX0_hasTree_31
    · refine g_ifneT dX0_hasTree_23 rfl hc ?_
      refine g_ic 0 dX0_hasTree_30 rfl ?_
      cases h
      exact g_zret rfl (by decide) dX0_hasTree_31
theorem ct_X0_hasTree {Γ : GG} (hΓ : GF Γ) {m mF : MM} {x : Nat} (hT : (m.K x).1 = 1) {r : Int32} (h : f_X0_hasTree x m = some (r, mF)) : Ct Γ kX0_hasTree cX0_hasTree [.ref x] m (.inl (some (.int r))) mF := by
  unfold f_X0_hasTree at h
  exact Ct.of (κ := kX0_hasTree) (by decide) rfl (Nat.le_of_ble_eq_true rfl) rfl (w_X0_hasTree_0 hΓ hT h)
def p_X0_sumOf (Γ : GG) (m0 mF : MM) (x : Nat) (l1 : Int32) (l2 : Int32) (r : Int32) : ((Int32 × Int32 × MM)) → Prop := fun z => match z with
  | (l3, l4, m) => (m.K x).1 = 1 → G Γ kX0_sumOf cX0_sumOf m0 mF (.inl (some (.int r))) m 5 [some (.ref x), some (.int l1), some (.int l2), some (.int l3), some (.int l4)] []
set_option maxHeartbeats 4000000 in
theorem w_X0_sumOf_5 {Γ : GG} (hΓ : GF Γ) {m0 mF m : MM} {x : Nat} {l1 : Int32} {l2 : Int32} {l3 : Int32} {l4 : Int32} (hT : (m.K x).1 = 1) {r : Int32} {q : ((Int32 × Int32 × MM)) ⊕ (Int32 × MM)} (h : b_X0_sumOf_5 x l1 l2 l3 l4 m = some q) (Hl : ∀ z, q = .inl z → p_X0_sumOf Γ m0 mF x l1 l2 r z) (Hr : ∀ z, q = .inr z → z = (r, mF)) : G Γ kX0_sumOf cX0_sumOf m0 mF (.inl (some (.int r))) m 5 [some (.ref x), some (.int l1), some (.int l2), some (.int l3), some (.int l4)] [] := by
  unfold b_X0_sumOf_5 at h
  refine g_iload dX0_sumOf_5 rfl ?_
  refine g_ic 3 dX0_sumOf_7 rfl ?_
  replace h := ite_of h; rcases h with ⟨hc, h⟩ | ⟨hc, h⟩
  · refine g_icgeT dX0_sumOf_8 rfl hc ?_
    refine g_iload_n 3 dX0_sumOf_51 rfl rfl ?_
    cases h
    cases Hr _ rfl
    exact g_iret rfl dX0_sumOf_52
  · refine g_icgeF dX0_sumOf_8 rfl hc ?_
    refine g_iload_n 3 dX0_sumOf_11 rfl rfl ?_
    refine g_iload_n 2 dX0_sumOf_12 rfl rfl ?_
    refine g_iload dX0_sumOf_13 rfl ?_
    refine g_ishr dX0_sumOf_15 ?_
    refine g_ic 1 dX0_sumOf_16 rfl ?_
    refine g_iand dX0_sumOf_17 ?_
    replace h := ite_of h; rcases h with ⟨hc, h⟩ | ⟨hc, h⟩
    · refine g_ifneF dX0_sumOf_18 rfl hc ?_
      refine g_ic 0 dX0_sumOf_21 rfl ?_
      refine g_goto dX0_sumOf_22 rfl ?_
      refine g_iadd dX0_sumOf_43 ?_
      refine g_istore_n 3 dX0_sumOf_44 rfl (Nat.le_of_ble_eq_true rfl) rfl ?_
      dsimp only [List.set]
      refine g_iinc (l4 + (1 : Int32)) dX0_sumOf_45 rfl rfl (Nat.le_of_ble_eq_true rfl) rfl ?_
      dsimp only [List.set]
      refine g_goto dX0_sumOf_48 rfl ?_
      cases h
      refine G.weak [true, true, true, true, true] rfl ?_
      exact Hl _ rfl hT
    · refine g_ifneT dX0_sumOf_18 rfl hc ?_
      refine g_this dX0_sumOf_25 rfl ?_
      refine g_iload_n 1 dX0_sumOf_26 rfl rfl ?_
      refine g_this dX0_sumOf_27 rfl ?_
      refine g_getR hΓ.k fl_X0_164_X0 rfl hT dX0_sumOf_28 ?_
      refine g_this dX0_sumOf_31 rfl ?_
      refine g_getR hΓ.k fl_X0_164_X0 rfl hT dX0_sumOf_32 ?_
      refine g_bi (12) dX0_sumOf_35 rfl ?_
      replace h := bd_of h; obtain ⟨v1, ev1, h⟩ := h
      refine g_iald ev1 dX0_sumOf_37 ?_
      refine g_iload dX0_sumOf_38 rfl ?_
      replace h := bd2_of h; obtain ⟨v2, m3, em3, h⟩ := h
      have C := ct_X0_meaningOf hΓ hT em3
      refine g_callVi hΓ.k vl_X0_143 hT C rfl rfl (Nat.le_of_ble_eq_true rfl) (Nat.le_of_ble_eq_true rfl) (Nat.le_of_ble_eq_true rfl) dX0_sumOf_40 ?_
      replace hT := (C.1).kd hT
      refine g_iadd dX0_sumOf_43 ?_
      refine g_istore_n 3 dX0_sumOf_44 rfl (Nat.le_of_ble_eq_true rfl) rfl ?_
      dsimp only [List.set]
      refine g_iinc (l4 + (1 : Int32)) dX0_sumOf_45 rfl rfl (Nat.le_of_ble_eq_true rfl) rfl ?_
      dsimp only [List.set]
      refine g_goto dX0_sumOf_48 rfl ?_
      cases h
      refine G.weak [true, true, true, true, true] rfl ?_
      exact Hl _ rfl hT
set_option maxHeartbeats 4000000 in
theorem w_X0_sumOf_0 {Γ : GG} (hΓ : GF Γ) {m0 mF m : MM} {x : Nat} {l1 : Int32} {l2 : Int32} (hT : (m.K x).1 = 1) {r : Int32} {q : ((Int32 × Int32 × MM)) ⊕ (Int32 × MM)} (h : b_X0_sumOf_0 x l1 l2 m = some q) (Hl : ∀ z, q = .inl z → p_X0_sumOf Γ m0 mF x l1 l2 r z) (Hr : ∀ z, q = .inr z → z = (r, mF)) : G Γ kX0_sumOf cX0_sumOf m0 mF (.inl (some (.int r))) m 0 [some (.ref x), some (.int l1), some (.int l2), none, none] [] := by
  unfold b_X0_sumOf_0 at h
  refine g_ic 0 dX0_sumOf_0 rfl ?_
  refine g_istore_n 3 dX0_sumOf_1 rfl (Nat.le_of_ble_eq_true rfl) rfl ?_
  dsimp only [List.set]
  refine g_ic 0 dX0_sumOf_2 rfl ?_
  refine g_istore dX0_sumOf_3 (Nat.le_of_ble_eq_true rfl) rfl ?_
  dsimp only [List.set]
  cases h
  refine G.weak [true, true, true, true, true] rfl ?_
  exact Hl _ rfl hT
theorem ct_X0_sumOf {Γ : GG} (hΓ : GF Γ) {m mF : MM} {x : Nat} {l1 : Int32} {l2 : Int32} (hT : (m.K x).1 = 1) {r : Int32} (h : f_X0_sumOf x l1 l2 m = some (r, mF)) : Ct Γ kX0_sumOf cX0_sumOf [.ref x, .int l1, .int l2] m (.inl (some (.int r))) mF := by
  unfold f_X0_sumOf at h
  replace h := bd_of h; obtain ⟨q, e, h⟩ := h
  have H := rx_go_ind (P := p_X0_sumOf Γ m mF x l1 l2 r) (fun z o hs Hl Hr => by
    match z with
    | (l3, l4, m) => exact fun hT => w_X0_sumOf_5 hΓ hT hs Hl Hr) h
  exact Ct.of (κ := kX0_sumOf) (by decide) rfl (Nat.le_of_ble_eq_true rfl) rfl (w_X0_sumOf_0 hΓ hT e H.1 H.2)
def p_X0_hold (Γ : GG) (m0 mF : MM) (x : Nat) (l1 : Int32) (r : Int32) : ((Int32 × MM) ⊕ (Int32 × MM)) → Prop := fun z => match z with
  | (.inl (l2, m)) => (m.K x).1 = 1 → G Γ kX0_hold cX0_hold m0 mF (.inl (some (.int r))) m 2 [some (.ref x), some (.int l1), some (.int l2), none, none] []
  | (.inr (l2, m)) => (m.K x).1 = 1 → G Γ kX0_hold cX0_hold m0 mF (.inl (some (.int r))) m 66 [some (.ref x), some (.int l1), some (.int l2), none, none] []
set_option maxHeartbeats 4000000 in
theorem w_X0_hold_165 {Γ : GG} (hΓ : GF Γ) {m0 mF m : MM} {x : Nat} {l1 : Int32} {l2 : Int32} {l3 : Int32} (hT : (m.K x).1 = 1) {r : Int32} {q : ((Int32 × MM) ⊕ (Int32 × MM)) ⊕ (Int32 × MM)} (h : b_X0_hold_165 x l1 l2 l3 m = some q) (Hl : ∀ z, q = .inl z → p_X0_hold Γ m0 mF x l1 r z) (Hr : ∀ z, q = .inr z → z = (r, mF)) : G Γ kX0_hold cX0_hold m0 mF (.inl (some (.int r))) m 165 [some (.ref x), some (.int l1), some (.int l2), some (.int l3), none] [] := by
  unfold b_X0_hold_165 at h
  refine g_this dX0_hold_165 rfl ?_
  refine g_getR hΓ.k fl_X0_129_X0 rfl hT dX0_hold_166 ?_
  refine g_iload_n 3 dX0_hold_169 rfl rfl ?_
  refine g_ic 1 dX0_hold_170 rfl ?_
  replace h := bd_of h; obtain ⟨m1, em1, h⟩ := h
  refine g_iast em1 dX0_hold_171 ?_
  replace hT := (sI_ext em1).kd hT
  refine g_iinc (l2 + (-1 : Int32)) dX0_hold_172 rfl rfl (Nat.le_of_ble_eq_true rfl) rfl ?_
  dsimp only [List.set]
  refine g_goto dX0_hold_175 rfl ?_
  cases h
  refine G.weak [true, true, true, false, false] rfl ?_
  exact Hl _ rfl hT
set_option maxHeartbeats 4000000 in
theorem w_X0_hold_153 {Γ : GG} (hΓ : GF Γ) {m0 mF m : MM} {x : Nat} {l1 : Int32} {l2 : Int32} {l3 : Int32} (hT : (m.K x).1 = 1) {r : Int32} {q : ((Int32 × MM) ⊕ (Int32 × MM)) ⊕ (Int32 × MM)} (h : b_X0_hold_153 x l1 l2 l3 m = some q) (Hl : ∀ z, q = .inl z → p_X0_hold Γ m0 mF x l1 r z) (Hr : ∀ z, q = .inr z → z = (r, mF)) : G Γ kX0_hold cX0_hold m0 mF (.inl (some (.int r))) m 153 [some (.ref x), some (.int l1), some (.int l2), some (.int l3), none] [] := by
  unfold b_X0_hold_153 at h
  refine g_this dX0_hold_153 rfl ?_
  refine g_getR hΓ.k fl_X0_153_X0 rfl hT dX0_hold_154 ?_
  refine g_iload_n 3 dX0_hold_157 rfl rfl ?_
  refine g_this dX0_hold_158 rfl ?_
  refine g_getR hΓ.k fl_X0_153_X0 rfl hT dX0_hold_159 ?_
  refine g_iload_n 2 dX0_hold_162 rfl rfl ?_
  replace h := bd_of h; obtain ⟨v1, ev1, h⟩ := h
  refine g_iald ev1 dX0_hold_163 ?_
  replace h := bd_of h; obtain ⟨m2, em2, h⟩ := h
  refine g_iast em2 dX0_hold_164 ?_
  replace hT := (sI_ext em2).kd hT
  refine G.weak [true, true, true, true, false] rfl ?_
  exact w_X0_hold_165 hΓ hT h Hl Hr
set_option maxHeartbeats 4000000 in
theorem w_X0_hold_104 {Γ : GG} (hΓ : GF Γ) {m0 mF m : MM} {x : Nat} {l1 : Int32} {l2 : Int32} {l3 : Int32} {s0 : Int32} (hT : (m.K x).1 = 1) {r : Int32} {q : ((Int32 × MM) ⊕ (Int32 × MM)) ⊕ (Int32 × MM)} (h : b_X0_hold_104 x l1 l2 l3 s0 m = some q) (Hl : ∀ z, q = .inl z → p_X0_hold Γ m0 mF x l1 r z) (Hr : ∀ z, q = .inr z → z = (r, mF)) : G Γ kX0_hold cX0_hold m0 mF (.inl (some (.int r))) m 104 [some (.ref x), some (.int l1), some (.int l2), some (.int l3), none] [.int s0] := by
  unfold b_X0_hold_104 at h
  refine g_istore dX0_hold_104 (Nat.le_of_ble_eq_true rfl) rfl ?_
  dsimp only [List.set]
  refine g_this dX0_hold_106 rfl ?_
  refine g_getR hΓ.k fl_X0_129_X0 rfl hT dX0_hold_107 ?_
  refine g_iload_n 3 dX0_hold_110 rfl rfl ?_
  replace h := bd_of h; obtain ⟨v1, ev1, h⟩ := h
  refine g_iald ev1 dX0_hold_111 ?_
  replace h := ite_of h; rcases h with ⟨hc, h⟩ | ⟨hc, h⟩
  · refine g_ifeqT dX0_hold_112 rfl hc ?_
    refine G.weak [true, true, true, true, false] rfl ?_
    exact w_X0_hold_153 hΓ hT h Hl Hr
  · refine g_ifeqF dX0_hold_112 rfl hc ?_
    refine g_iload dX0_hold_115 rfl ?_
    replace h := ite_of h; rcases h with ⟨hc, h⟩ | ⟨hc, h⟩
    · refine g_ifeqT dX0_hold_117 rfl hc ?_
      refine g_this dX0_hold_138 rfl ?_
      refine g_getR hΓ.k fl_X0_153_X0 rfl hT dX0_hold_139 ?_
      refine g_iload_n 2 dX0_hold_142 rfl rfl ?_
      replace h := bd_of h; obtain ⟨v2, ev2, h⟩ := h
      refine g_iald ev2 dX0_hold_143 ?_
      refine g_this dX0_hold_144 rfl ?_
      refine g_getR hΓ.k fl_X0_153_X0 rfl hT dX0_hold_145 ?_
      refine g_iload_n 3 dX0_hold_148 rfl rfl ?_
      replace h := bd_of h; obtain ⟨v3, ev3, h⟩ := h
      refine g_iald ev3 dX0_hold_149 ?_
      replace h := ite_of h; rcases h with ⟨hc, h⟩ | ⟨hc, h⟩
      · refine g_icgeT dX0_hold_150 rfl hc ?_
        refine G.weak [true, true, true, true, false] rfl ?_
        exact w_X0_hold_165 hΓ hT h Hl Hr
      · refine g_icgeF dX0_hold_150 rfl hc ?_
        refine G.weak [true, true, true, true, false] rfl ?_
        exact w_X0_hold_153 hΓ hT h Hl Hr
    · refine g_ifeqF dX0_hold_117 rfl hc ?_
      refine g_this dX0_hold_120 rfl ?_
      refine g_getR hΓ.k fl_X0_153_X0 rfl hT dX0_hold_121 ?_
      refine g_iload_n 2 dX0_hold_124 rfl rfl ?_
      replace h := bd_of h; obtain ⟨v4, ev4, h⟩ := h
      refine g_iald ev4 dX0_hold_125 ?_
      refine g_this dX0_hold_126 rfl ?_
      refine g_getR hΓ.k fl_X0_153_X0 rfl hT dX0_hold_127 ?_
      refine g_iload_n 3 dX0_hold_130 rfl rfl ?_
      replace h := bd_of h; obtain ⟨v5, ev5, h⟩ := h
      refine g_iald ev5 dX0_hold_131 ?_
      replace h := ite_of h; rcases h with ⟨hc, h⟩ | ⟨hc, h⟩
      · refine g_icleT dX0_hold_132 rfl hc ?_
        refine G.weak [true, true, true, true, false] rfl ?_
        exact w_X0_hold_165 hΓ hT h Hl Hr
      · refine g_icleF dX0_hold_132 rfl hc ?_
        refine g_goto dX0_hold_135 rfl ?_
        refine G.weak [true, true, true, true, false] rfl ?_
        exact w_X0_hold_153 hΓ hT h Hl Hr
set_option maxHeartbeats 4000000 in
theorem w_X0_hold_66 {Γ : GG} (hΓ : GF Γ) {m0 mF m : MM} {x : Nat} {l1 : Int32} {l2 : Int32} (hT : (m.K x).1 = 1) {r : Int32} {q : ((Int32 × MM) ⊕ (Int32 × MM)) ⊕ (Int32 × MM)} (h : b_X0_hold_66 x l1 l2 m = some q) (Hl : ∀ z, q = .inl z → p_X0_hold Γ m0 mF x l1 r z) (Hr : ∀ z, q = .inr z → z = (r, mF)) : G Γ kX0_hold cX0_hold m0 mF (.inl (some (.int r))) m 66 [some (.ref x), some (.int l1), some (.int l2), none, none] [] := by
  unfold b_X0_hold_66 at h
  refine g_iload_n 2 dX0_hold_66 rfl rfl ?_
  replace h := ite_of h; rcases h with ⟨hc, h⟩ | ⟨hc, h⟩
  · refine g_ifleT dX0_hold_67 rfl hc ?_
    refine g_this dX0_hold_178 rfl ?_
    refine g_getR hΓ.k fl_X0_153_X0 rfl hT dX0_hold_179 ?_
    refine g_ic 0 dX0_hold_182 rfl ?_
    replace h := bd_of h; obtain ⟨v1, ev1, h⟩ := h
    refine g_iald ev1 dX0_hold_183 ?_
    cases h
    cases Hr _ rfl
    exact g_iret rfl dX0_hold_184
  · refine g_ifleF dX0_hold_67 rfl hc ?_
    refine g_this dX0_hold_70 rfl ?_
    refine g_getR hΓ.k fl_X0_95_X0 rfl hT dX0_hold_71 ?_
    refine g_iload_n 2 dX0_hold_74 rfl rfl ?_
    replace h := bd_of h; obtain ⟨v2, ev2, h⟩ := h
    refine g_iald ev2 dX0_hold_75 ?_
    refine g_istore_n 3 dX0_hold_76 rfl (Nat.le_of_ble_eq_true rfl) rfl ?_
    dsimp only [List.set]
    refine g_iload_n 1 dX0_hold_77 rfl rfl ?_
    refine g_this dX0_hold_78 rfl ?_
    refine g_getR hΓ.k fl_X0_164_X0 rfl hT dX0_hold_79 ?_
    refine g_bi (6) dX0_hold_82 rfl ?_
    refine g_this dX0_hold_84 rfl ?_
    refine g_getR hΓ.k fl_X0_78_X0 rfl hT dX0_hold_85 ?_
    refine g_iload_n 3 dX0_hold_88 rfl rfl ?_
    replace h := bd_of h; obtain ⟨v3, ev3, h⟩ := h
    refine g_iald ev3 dX0_hold_89 ?_
    refine g_iadd dX0_hold_90 ?_
    replace h := bd_of h; obtain ⟨v4, ev4, h⟩ := h
    refine g_iald ev4 dX0_hold_91 ?_
    refine g_ishr dX0_hold_92 ?_
    refine g_ic 1 dX0_hold_93 rfl ?_
    refine g_iand dX0_hold_94 ?_
    refine g_ic 1 dX0_hold_95 rfl ?_
    replace h := ite_of h; rcases h with ⟨hc, h⟩ | ⟨hc, h⟩
    · refine g_icneF dX0_hold_96 rfl hc ?_
      refine g_ic 1 dX0_hold_99 rfl ?_
      refine g_goto dX0_hold_100 rfl ?_
      refine G.weak [true, true, true, true, false] rfl ?_
      exact w_X0_hold_104 hΓ hT h Hl Hr
    · refine g_icneT dX0_hold_96 rfl hc ?_
      refine g_ic 0 dX0_hold_103 rfl ?_
      refine G.weak [true, true, true, true, false] rfl ?_
      exact w_X0_hold_104 hΓ hT h Hl Hr
set_option maxHeartbeats 4000000 in
theorem w_X0_hold_28 {Γ : GG} (hΓ : GF Γ) {m0 mF m : MM} {x : Nat} {l1 : Int32} {l2 : Int32} {s0 : Option Nat} {s1 : Int32} {s2 : Int32} (hT : (m.K x).1 = 1) {r : Int32} {q : ((Int32 × MM) ⊕ (Int32 × MM)) ⊕ (Int32 × MM)} (h : b_X0_hold_28 x l1 l2 s0 s1 s2 m = some q) (Hl : ∀ z, q = .inl z → p_X0_hold Γ m0 mF x l1 r z) (Hr : ∀ z, q = .inr z → z = (r, mF)) : G Γ kX0_hold cX0_hold m0 mF (.inl (some (.int r))) m 28 [some (.ref x), some (.int l1), some (.int l2), none, none] [.int s2, .int s1, va_rf s0] := by
  unfold b_X0_hold_28 at h
  replace h := bd_of h; obtain ⟨m1, em1, h⟩ := h
  refine g_iast em1 dX0_hold_28 ?_
  replace hT := (sI_ext em1).kd hT
  refine g_this dX0_hold_29 rfl ?_
  refine g_getR hΓ.k fl_X0_153_X0 rfl hT dX0_hold_30 ?_
  refine g_iload_n 2 dX0_hold_33 rfl rfl ?_
  refine g_this dX0_hold_34 rfl ?_
  refine g_iload_n 2 dX0_hold_35 rfl rfl ?_
  replace h := bd2_of h; obtain ⟨v2, m3, em3, h⟩ := h
  have C := ct_X0_isWhole hΓ hT em3
  refine g_callVi hΓ.k vl_X0_132 hT C rfl rfl (Nat.le_of_ble_eq_true rfl) (Nat.le_of_ble_eq_true rfl) (Nat.le_of_ble_eq_true rfl) dX0_hold_36 ?_
  replace hT := (C.1).kd hT
  replace h := ite_of h; rcases h with ⟨hc, h⟩ | ⟨hc, h⟩
  · refine g_ifeqT dX0_hold_39 rfl hc ?_
    refine g_ic 0 dX0_hold_51 rfl ?_
    replace h := bd_of h; obtain ⟨m4, em4, h⟩ := h
    refine g_iast em4 dX0_hold_52 ?_
    replace hT := (sI_ext em4).kd hT
    refine g_iinc (l2 + (1 : Int32)) dX0_hold_53 rfl rfl (Nat.le_of_ble_eq_true rfl) rfl ?_
    dsimp only [List.set]
    refine g_goto dX0_hold_56 rfl ?_
    cases h
    refine G.weak [true, true, true, false, false] rfl ?_
    exact Hl _ rfl hT
  · refine g_ifeqF dX0_hold_39 rfl hc ?_
    refine g_this dX0_hold_42 rfl ?_
    refine g_iload_n 2 dX0_hold_43 rfl rfl ?_
    refine g_iload_n 1 dX0_hold_44 rfl rfl ?_
    replace h := bd2_of h; obtain ⟨v5, m6, em6, h⟩ := h
    have C := ct_X0_sumOf hΓ hT em6
    refine g_callVi hΓ.k vl_X0_281 hT C rfl rfl (Nat.le_of_ble_eq_true rfl) (Nat.le_of_ble_eq_true rfl) (Nat.le_of_ble_eq_true rfl) dX0_hold_45 ?_
    replace hT := (C.1).kd hT
    refine g_goto dX0_hold_48 rfl ?_
    replace h := bd_of h; obtain ⟨m7, em7, h⟩ := h
    refine g_iast em7 dX0_hold_52 ?_
    replace hT := (sI_ext em7).kd hT
    refine g_iinc (l2 + (1 : Int32)) dX0_hold_53 rfl rfl (Nat.le_of_ble_eq_true rfl) rfl ?_
    dsimp only [List.set]
    refine g_goto dX0_hold_56 rfl ?_
    cases h
    refine G.weak [true, true, true, false, false] rfl ?_
    exact Hl _ rfl hT
set_option maxHeartbeats 4000000 in
theorem w_X0_hold_2 {Γ : GG} (hΓ : GF Γ) {m0 mF m : MM} {x : Nat} {l1 : Int32} {l2 : Int32} (hT : (m.K x).1 = 1) {r : Int32} {q : ((Int32 × MM) ⊕ (Int32 × MM)) ⊕ (Int32 × MM)} (h : b_X0_hold_2 x l1 l2 m = some q) (Hl : ∀ z, q = .inl z → p_X0_hold Γ m0 mF x l1 r z) (Hr : ∀ z, q = .inr z → z = (r, mF)) : G Γ kX0_hold cX0_hold m0 mF (.inl (some (.int r))) m 2 [some (.ref x), some (.int l1), some (.int l2), none, none] [] := by
  unfold b_X0_hold_2 at h
  refine g_iload_n 2 dX0_hold_2 rfl rfl ?_
  refine g_this dX0_hold_3 rfl ?_
  refine g_getI hΓ.k fl_X0_91_X0 rfl hT dX0_hold_4 ?_
  replace h := ite_of h; rcases h with ⟨hc, h⟩ | ⟨hc, h⟩
  · refine g_icgeT dX0_hold_7 rfl hc ?_
    refine g_this dX0_hold_59 rfl ?_
    refine g_getI hΓ.k fl_X0_91_X0 rfl hT dX0_hold_60 ?_
    refine g_ic 1 dX0_hold_63 rfl ?_
    refine g_isub dX0_hold_64 ?_
    refine g_istore_n 2 dX0_hold_65 rfl (Nat.le_of_ble_eq_true rfl) rfl ?_
    dsimp only [List.set]
    cases h
    refine G.weak [true, true, true, false, false] rfl ?_
    exact Hl _ rfl hT
  · refine g_icgeF dX0_hold_7 rfl hc ?_
    refine g_this dX0_hold_10 rfl ?_
    refine g_getR hΓ.k fl_X0_129_X0 rfl hT dX0_hold_11 ?_
    refine g_iload_n 2 dX0_hold_14 rfl rfl ?_
    refine g_this dX0_hold_15 rfl ?_
    refine g_iload_n 2 dX0_hold_16 rfl rfl ?_
    replace h := bd2_of h; obtain ⟨v1, m2, em2, h⟩ := h
    have C := ct_X0_isWhole hΓ hT em2
    refine g_callVi hΓ.k vl_X0_132 hT C rfl rfl (Nat.le_of_ble_eq_true rfl) (Nat.le_of_ble_eq_true rfl) (Nat.le_of_ble_eq_true rfl) dX0_hold_17 ?_
    replace hT := (C.1).kd hT
    replace h := ite_of h; rcases h with ⟨hc, h⟩ | ⟨hc, h⟩
    · refine g_ifeqT dX0_hold_20 rfl hc ?_
      refine g_ic 0 dX0_hold_27 rfl ?_
      refine G.weak [true, true, true, false, false] rfl ?_
      exact w_X0_hold_28 hΓ hT h Hl Hr
    · refine g_ifeqF dX0_hold_20 rfl hc ?_
      refine g_ic 1 dX0_hold_23 rfl ?_
      refine g_goto dX0_hold_24 rfl ?_
      refine G.weak [true, true, true, false, false] rfl ?_
      exact w_X0_hold_28 hΓ hT h Hl Hr
set_option maxHeartbeats 4000000 in
theorem w_X0_hold_0 {Γ : GG} (hΓ : GF Γ) {m0 mF m : MM} {x : Nat} {l1 : Int32} (hT : (m.K x).1 = 1) {r : Int32} {q : ((Int32 × MM) ⊕ (Int32 × MM)) ⊕ (Int32 × MM)} (h : b_X0_hold_0 x l1 m = some q) (Hl : ∀ z, q = .inl z → p_X0_hold Γ m0 mF x l1 r z) (Hr : ∀ z, q = .inr z → z = (r, mF)) : G Γ kX0_hold cX0_hold m0 mF (.inl (some (.int r))) m 0 [some (.ref x), some (.int l1), none, none, none] [] := by
  unfold b_X0_hold_0 at h
  refine g_ic 0 dX0_hold_0 rfl ?_
  refine g_istore_n 2 dX0_hold_1 rfl (Nat.le_of_ble_eq_true rfl) rfl ?_
  dsimp only [List.set]
  cases h
  refine G.weak [true, true, true, false, false] rfl ?_
  exact Hl _ rfl hT
theorem ct_X0_hold {Γ : GG} (hΓ : GF Γ) {m mF : MM} {x : Nat} {l1 : Int32} (hT : (m.K x).1 = 1) {r : Int32} (h : f_X0_hold x l1 m = some (r, mF)) : Ct Γ kX0_hold cX0_hold [.ref x, .int l1] m (.inl (some (.int r))) mF := by
  unfold f_X0_hold at h
  replace h := bd_of h; obtain ⟨q, e, h⟩ := h
  have H := rx_go_ind (P := p_X0_hold Γ m mF x l1 r) (fun z o hs Hl Hr => by
    match z with
    | (.inl (l2, m)) => exact fun hT => w_X0_hold_2 hΓ hT hs Hl Hr
    | (.inr (l2, m)) => exact fun hT => w_X0_hold_66 hΓ hT hs Hl Hr) h
  exact Ct.of (κ := kX0_hold) (by decide) rfl (Nat.le_of_ble_eq_true rfl) rfl (w_X0_hold_0 hΓ hT e H.1 H.2)
set_option maxHeartbeats 4000000 in
theorem w_X0_held_0 {Γ : GG} (hΓ : GF Γ) {m0 mF m : MM} {x : Nat} {l1 : Int32} (hT : (m.K x).1 = 1) {r : Int32} (h : b_X0_held_0 x l1 m = some (r, mF)) : G Γ kX0_held cX0_held m0 mF (.inl (some (.int r))) m 0 [some (.ref x), some (.int l1)] [] := by
  unfold b_X0_held_0 at h
  refine g_iload_n 1 dX0_held_0 rfl rfl ?_
  refine g_ic 1 dX0_held_1 rfl ?_
  refine g_bi (7) dX0_held_2 rfl ?_
  replace h := bd2_of h; obtain ⟨v1, m2, em2, h⟩ := h
  have C := ct_X0_isIn hΓ em2
  refine g_callSi sl_X0_235 C rfl rfl (Nat.le_of_ble_eq_true rfl) (Nat.le_of_ble_eq_true rfl) (Nat.le_of_ble_eq_true rfl) dX0_held_4 ?_
  replace hT := (C.1).kd hT
  replace h := ite_of h; rcases h with ⟨hc, h⟩ | ⟨hc, h⟩
  · refine g_ifeqT dX0_held_7 rfl hc ?_
    refine g_ldc (v := -1000000) q931 dX0_held_25 ?_
    cases h
    exact g_iret rfl dX0_held_27
  · refine g_ifeqF dX0_held_7 rfl hc ?_
    refine g_this dX0_held_10 rfl ?_
    replace h := bd2_of h; obtain ⟨v3, m4, em4, h⟩ := h
    have C := ct_X0_hasTree hΓ hT em4
    refine g_callVi hΓ.k vl_X0_285 hT C rfl rfl (Nat.le_of_ble_eq_true rfl) (Nat.le_of_ble_eq_true rfl) (Nat.le_of_ble_eq_true rfl) dX0_held_11 ?_
    replace hT := (C.1).kd hT
    replace h := ite_of h; rcases h with ⟨hc, h⟩ | ⟨hc, h⟩
    · refine g_ifeqT dX0_held_14 rfl hc ?_
      refine g_ldc (v := -1000000) q931 dX0_held_25 ?_
      cases h
      exact g_iret rfl dX0_held_27
    · refine g_ifeqF dX0_held_14 rfl hc ?_
      refine g_this dX0_held_17 rfl ?_
      refine g_iload_n 1 dX0_held_18 rfl rfl ?_
      replace h := bd2_of h; obtain ⟨v5, m6, em6, h⟩ := h
      have C := ct_X0_hold hΓ hT em6
      refine g_callVi hΓ.k vl_X0_288 hT C rfl rfl (Nat.le_of_ble_eq_true rfl) (Nat.le_of_ble_eq_true rfl) (Nat.le_of_ble_eq_true rfl) dX0_held_19 ?_
      replace hT := (C.1).kd hT
      refine g_goto dX0_held_22 rfl ?_
      cases h
      exact g_iret rfl dX0_held_27
theorem ct_X0_held {Γ : GG} (hΓ : GF Γ) {m mF : MM} {x : Nat} {l1 : Int32} (hT : (m.K x).1 = 1) {r : Int32} (h : f_X0_held x l1 m = some (r, mF)) : Ct Γ kX0_held cX0_held [.ref x, .int l1] m (.inl (some (.int r))) mF := by
  unfold f_X0_held at h
  exact Ct.of (κ := kX0_held) (by decide) rfl (Nat.le_of_ble_eq_true rfl) rfl (w_X0_held_0 hΓ hT h)
set_option maxHeartbeats 4000000 in
theorem w_X0_byOrder_32 {Γ : GG} (hΓ : GF Γ) {m0 mF m : MM} {l0 : Int32} {l1 : Int32} {l2 : Int32} {s0 : Int32} {r : Int32} (h : b_X0_byOrder_32 l0 l1 l2 s0 m = some (r, mF)) : G Γ kX0_byOrder cX0_byOrder m0 mF (.inl (some (.int r))) m 32 [some (.int l0), some (.int l1), some (.int l2), none, none] [.int s0] := by
  unfold b_X0_byOrder_32 at h
  refine g_istore_n 3 dX0_byOrder_32 rfl (Nat.le_of_ble_eq_true rfl) rfl ?_
  dsimp only [List.set]
  refine g_iload_n 1 dX0_byOrder_33 rfl rfl ?_
  refine g_ic 3 dX0_byOrder_34 rfl ?_
  refine g_irem dX0_byOrder_35 (by decide) ?_
  refine g_istore dX0_byOrder_36 (Nat.le_of_ble_eq_true rfl) rfl ?_
  dsimp only [List.set]
  refine g_iload dX0_byOrder_38 rfl ?_
  replace h := ite_of h; rcases h with ⟨hc, h⟩ | ⟨hc, h⟩
  · refine g_ifneF dX0_byOrder_40 rfl hc ?_
    refine g_iload_n 2 dX0_byOrder_43 rfl rfl ?_
    refine g_goto dX0_byOrder_44 rfl ?_
    cases h
    exact g_iret rfl dX0_byOrder_62
  · refine g_ifneT dX0_byOrder_40 rfl hc ?_
    refine g_iload dX0_byOrder_47 rfl ?_
    refine g_ic 1 dX0_byOrder_49 rfl ?_
    replace h := ite_of h; rcases h with ⟨hc, h⟩ | ⟨hc, h⟩
    · refine g_icneF dX0_byOrder_50 rfl hc ?_
      refine g_iload_n 3 dX0_byOrder_53 rfl rfl ?_
      refine g_goto dX0_byOrder_54 rfl ?_
      cases h
      exact g_iret rfl dX0_byOrder_62
    · refine g_icneT dX0_byOrder_50 rfl hc ?_
      refine g_ic 3 dX0_byOrder_57 rfl ?_
      refine g_iload_n 2 dX0_byOrder_58 rfl rfl ?_
      refine g_isub dX0_byOrder_59 ?_
      refine g_iload_n 3 dX0_byOrder_60 rfl rfl ?_
      refine g_isub dX0_byOrder_61 ?_
      cases h
      exact g_iret rfl dX0_byOrder_62
set_option maxHeartbeats 4000000 in
theorem w_X0_byOrder_0 {Γ : GG} (hΓ : GF Γ) {m0 mF m : MM} {l0 : Int32} {l1 : Int32} {r : Int32} (h : b_X0_byOrder_0 l0 l1 m = some (r, mF)) : G Γ kX0_byOrder cX0_byOrder m0 mF (.inl (some (.int r))) m 0 [some (.int l0), some (.int l1), none, none, none] [] := by
  unfold b_X0_byOrder_0 at h
  refine g_iload_n 0 dX0_byOrder_0 rfl rfl ?_
  refine g_ic 2 dX0_byOrder_1 rfl ?_
  refine g_idiv dX0_byOrder_2 (by decide) ?_
  refine g_istore_n 2 dX0_byOrder_3 rfl (Nat.le_of_ble_eq_true rfl) rfl ?_
  dsimp only [List.set]
  refine g_iload_n 0 dX0_byOrder_4 rfl rfl ?_
  refine g_ic 2 dX0_byOrder_5 rfl ?_
  refine g_irem dX0_byOrder_6 (by decide) ?_
  replace h := ite_of h; rcases h with ⟨hc, h⟩ | ⟨hc, h⟩
  · refine g_ifneF dX0_byOrder_7 rfl hc ?_
    refine g_iload_n 2 dX0_byOrder_10 rfl rfl ?_
    replace h := ite_of h; rcases h with ⟨hc, h⟩ | ⟨hc, h⟩
    · refine g_ifneF dX0_byOrder_11 rfl hc ?_
      refine g_ic 1 dX0_byOrder_14 rfl ?_
      refine g_goto dX0_byOrder_15 rfl ?_
      refine G.weak [true, true, true, false, false] rfl ?_
      exact w_X0_byOrder_32 hΓ h
    · refine g_ifneT dX0_byOrder_11 rfl hc ?_
      refine g_ic 0 dX0_byOrder_18 rfl ?_
      refine g_goto dX0_byOrder_19 rfl ?_
      refine G.weak [true, true, true, false, false] rfl ?_
      exact w_X0_byOrder_32 hΓ h
  · refine g_ifneT dX0_byOrder_7 rfl hc ?_
    refine g_iload_n 2 dX0_byOrder_22 rfl rfl ?_
    refine g_ic 2 dX0_byOrder_23 rfl ?_
    replace h := ite_of h; rcases h with ⟨hc, h⟩ | ⟨hc, h⟩
    · refine g_icneF dX0_byOrder_24 rfl hc ?_
      refine g_ic 1 dX0_byOrder_27 rfl ?_
      refine g_goto dX0_byOrder_28 rfl ?_
      refine G.weak [true, true, true, false, false] rfl ?_
      exact w_X0_byOrder_32 hΓ h
    · refine g_icneT dX0_byOrder_24 rfl hc ?_
      refine g_ic 2 dX0_byOrder_31 rfl ?_
      refine G.weak [true, true, true, false, false] rfl ?_
      exact w_X0_byOrder_32 hΓ h
theorem ct_X0_byOrder {Γ : GG} (hΓ : GF Γ) {m mF : MM} {l0 : Int32} {l1 : Int32} {r : Int32} (h : f_X0_byOrder l0 l1 m = some (r, mF)) : Ct Γ kX0_byOrder cX0_byOrder [.int l0, .int l1] m (.inl (some (.int r))) mF := by
  unfold f_X0_byOrder at h
  exact Ct.of (κ := kX0_byOrder) (by decide) rfl (Nat.le_of_ble_eq_true rfl) rfl (w_X0_byOrder_0 hΓ h)
set_option maxHeartbeats 4000000 in
theorem w_X0_common_0 {Γ : GG} (hΓ : GF Γ) {m0 mF m : MM} {rf : Int32 → Int32 → MM → Option (Int32 × MM)} {l0 : Int32} {l1 : Int32} {dd : Nat} (IH : ∀ {l0 : Int32} {l1 : Int32} {m mF : MM} {r : Int32}, rf l0 l1 m = some (r, mF) → Ct Γ (kdX0_common dd) cX0_common [.int l0, .int l1] m (.inl (some (.int r))) mF) {r : Int32} (h : b_X0_common_0 rf l0 l1 m = some (r, mF)) : G Γ (kdX0_common (dd + 1)) cX0_common m0 mF (.inl (some (.int r))) m 0 [some (.int l0), some (.int l1)] [] := by
  unfold b_X0_common_0 at h
  refine g_iload_n 1 dX0_common_0 rfl rfl ?_
  replace h := ite_of h; rcases h with ⟨hc, h⟩ | ⟨hc, h⟩
  · refine g_ifneF dX0_common_1 rfl hc ?_
    refine g_iload_n 0 dX0_common_4 rfl rfl ?_
    refine g_mabs q1091 q1092 q127 q1093 (by show 1 ≤ 1 + (dd + 1); omega) (by show 60 ≤ 60 + (dd + 1) * 21; omega) (Nat.le_of_ble_eq_true rfl) dX0_common_5 ?_
    refine g_goto dX0_common_8 rfl ?_
    cases h
    exact g_iret rfl dX0_common_18
  · refine g_ifneT dX0_common_1 rfl hc ?_
    refine g_iload_n 1 dX0_common_11 rfl rfl ?_
    refine g_iload_n 0 dX0_common_12 rfl rfl ?_
    refine g_iload_n 1 dX0_common_13 rfl rfl ?_
    replace h := ite_of h; rcases h with ⟨hc, h⟩ | ⟨hc, h⟩
    · cases h
    refine g_irem dX0_common_14 hc ?_
    replace h := bd2_of h; obtain ⟨v1, m2, em2, h⟩ := h
    have C := IH em2
    refine g_callSi (sl_X0_294 dd) C rfl rfl (by show 1 + dd + 1 ≤ 1 + (dd + 1); omega) (by show 8 + (2 + 11) + (60 + dd * 21) ≤ 60 + (dd + 1) * 21; omega) (Nat.le_of_ble_eq_true rfl) dX0_common_15 ?_
    cases h
    exact g_iret rfl dX0_common_18
theorem ct_X0_common {Γ : GG} (hΓ : GF Γ) : ∀ {dd : Nat} {l0 : Int32} {l1 : Int32} {m mF : MM} {r : Int32}, f_X0_common dd l0 l1 m = some (r, mF) → Ct Γ (kdX0_common dd) cX0_common [.int l0, .int l1] m (.inl (some (.int r))) mF := by
  intro dd
  induction dd with
  | zero =>
    intro l0 l1 m mF r h
    cases h
  | succ dd IH =>
    intro l0 l1 m mF r h
    have h : b_X0_common_0 (f_X0_common dd) l0 l1 m = some (r, mF) := h
    exact Ct.of (κ := kdX0_common (dd + 1)) (by show plainName RX0 = true; decide) rfl (Nat.le_of_ble_eq_true rfl) rfl (w_X0_common_0 hΓ IH h)
def p_X0_share (Γ : GG) (m0 mF : MM) (x : Nat) (l1 : Int32) (l2 : Int32) (r : Int32) : ((Int32 × Int32 × MM) ⊕ (Int32 × Int32 × Int32 × Int32 × MM)) → Prop := fun z => match z with
  | (.inl (l3, l4, m)) => (m.K x).1 = 1 → G Γ kX0_share cX0_share m0 mF (.inl (some (.int r))) m 31 [some (.ref x), some (.int l1), some (.int l2), some (.int l3), some (.int l4), none, none] []
  | (.inr (l3, l4, l5, l6, m)) => (m.K x).1 = 1 → G Γ kX0_share cX0_share m0 mF (.inl (some (.int r))) m 44 [some (.ref x), some (.int l1), some (.int l2), some (.int l3), some (.int l4), some (.int l5), some (.int l6)] []
set_option maxHeartbeats 4000000 in
theorem w_X0_share_44 {Γ : GG} (hΓ : GF Γ) {m0 mF m : MM} {x : Nat} {l1 : Int32} {l2 : Int32} {l3 : Int32} {l4 : Int32} {l5 : Int32} {l6 : Int32} (hT : (m.K x).1 = 1) {r : Int32} {q : ((Int32 × Int32 × MM) ⊕ (Int32 × Int32 × Int32 × Int32 × MM)) ⊕ (Int32 × MM)} (h : b_X0_share_44 x l1 l2 l3 l4 l5 l6 m = some q) (Hl : ∀ z, q = .inl z → p_X0_share Γ m0 mF x l1 l2 r z) (Hr : ∀ z, q = .inr z → z = (r, mF)) : G Γ kX0_share cX0_share m0 mF (.inl (some (.int r))) m 44 [some (.ref x), some (.int l1), some (.int l2), some (.int l3), some (.int l4), some (.int l5), some (.int l6)] [] := by
  unfold b_X0_share_44 at h
  refine g_iload dX0_share_44 rfl ?_
  refine g_iload dX0_share_46 rfl ?_
  replace h := bd2_of h; obtain ⟨v1, m2, em2, h⟩ := h
  have C := ct_X0_byOrder hΓ em2
  refine g_callSi sl_X0_297 C rfl rfl (Nat.le_of_ble_eq_true rfl) (Nat.le_of_ble_eq_true rfl) (Nat.le_of_ble_eq_true rfl) dX0_share_48 ?_
  replace hT := (C.1).kd hT
  refine g_iload_n 1 dX0_share_51 rfl rfl ?_
  replace h := ite_of h; rcases h with ⟨hc, h⟩ | ⟨hc, h⟩
  · refine g_iceqT dX0_share_52 rfl hc ?_
    refine g_iload_n 3 dX0_share_75 rfl rfl ?_
    refine g_this dX0_share_76 rfl ?_
    refine g_iload dX0_share_77 rfl ?_
    refine g_ic 1 dX0_share_79 rfl ?_
    refine g_iload_n 1 dX0_share_80 rfl rfl ?_
    refine g_ishl dX0_share_81 ?_
    refine g_ior dX0_share_82 ?_
    replace h := bd2_of h; obtain ⟨v3, m4, em4, h⟩ := h
    have C := ct_X0_hold hΓ hT em4
    refine g_callVi hΓ.k vl_X0_288 hT C rfl rfl (Nat.le_of_ble_eq_true rfl) (Nat.le_of_ble_eq_true rfl) (Nat.le_of_ble_eq_true rfl) dX0_share_83 ?_
    replace hT := (C.1).kd hT
    refine g_iload dX0_share_86 rfl ?_
    replace h := ite_of h; rcases h with ⟨hc, h⟩ | ⟨hc, h⟩
    · refine g_ifneF dX0_share_88 rfl hc ?_
      refine g_ic 0 dX0_share_91 rfl ?_
      refine g_goto dX0_share_92 rfl ?_
      refine g_isub dX0_share_101 ?_
      refine g_iadd dX0_share_102 ?_
      refine g_istore_n 3 dX0_share_103 rfl (Nat.le_of_ble_eq_true rfl) rfl ?_
      dsimp only [List.set]
      refine g_iinc (l4 + (1 : Int32)) dX0_share_104 rfl rfl (Nat.le_of_ble_eq_true rfl) rfl ?_
      dsimp only [List.set]
      refine g_goto dX0_share_107 rfl ?_
      cases h
      refine G.weak [true, true, true, true, true, false, false] rfl ?_
      exact Hl _ rfl hT
    · refine g_ifneT dX0_share_88 rfl hc ?_
      refine g_this dX0_share_95 rfl ?_
      refine g_iload dX0_share_96 rfl ?_
      replace h := bd2_of h; obtain ⟨v5, m6, em6, h⟩ := h
      have C := ct_X0_hold hΓ hT em6
      refine g_callVi hΓ.k vl_X0_288 hT C rfl rfl (Nat.le_of_ble_eq_true rfl) (Nat.le_of_ble_eq_true rfl) (Nat.le_of_ble_eq_true rfl) dX0_share_98 ?_
      replace hT := (C.1).kd hT
      refine g_isub dX0_share_101 ?_
      refine g_iadd dX0_share_102 ?_
      refine g_istore_n 3 dX0_share_103 rfl (Nat.le_of_ble_eq_true rfl) rfl ?_
      dsimp only [List.set]
      refine g_iinc (l4 + (1 : Int32)) dX0_share_104 rfl rfl (Nat.le_of_ble_eq_true rfl) rfl ?_
      dsimp only [List.set]
      refine g_goto dX0_share_107 rfl ?_
      cases h
      refine G.weak [true, true, true, true, true, false, false] rfl ?_
      exact Hl _ rfl hT
  · refine g_iceqF dX0_share_52 rfl hc ?_
    refine g_iload dX0_share_55 rfl ?_
    refine g_ic 1 dX0_share_57 rfl ?_
    refine g_iload dX0_share_58 rfl ?_
    refine g_iload dX0_share_60 rfl ?_
    replace h := bd2_of h; obtain ⟨v7, m8, em8, h⟩ := h
    have C := ct_X0_byOrder hΓ em8
    refine g_callSi sl_X0_297 C rfl rfl (Nat.le_of_ble_eq_true rfl) (Nat.le_of_ble_eq_true rfl) (Nat.le_of_ble_eq_true rfl) dX0_share_62 ?_
    replace hT := (C.1).kd hT
    refine g_ishl dX0_share_65 ?_
    refine g_ior dX0_share_66 ?_
    refine g_istore dX0_share_67 (Nat.le_of_ble_eq_true rfl) rfl ?_
    dsimp only [List.set]
    refine g_iinc (l6 + (1 : Int32)) dX0_share_69 rfl rfl (Nat.le_of_ble_eq_true rfl) rfl ?_
    dsimp only [List.set]
    refine g_goto dX0_share_72 rfl ?_
    cases h
    refine G.weak [true, true, true, true, true, true, true] rfl ?_
    exact Hl _ rfl hT
set_option maxHeartbeats 4000000 in
theorem w_X0_share_31 {Γ : GG} (hΓ : GF Γ) {m0 mF m : MM} {x : Nat} {l1 : Int32} {l2 : Int32} {l3 : Int32} {l4 : Int32} (hT : (m.K x).1 = 1) {r : Int32} {q : ((Int32 × Int32 × MM) ⊕ (Int32 × Int32 × Int32 × Int32 × MM)) ⊕ (Int32 × MM)} (h : b_X0_share_31 x l1 l2 l3 l4 m = some q) (Hl : ∀ z, q = .inl z → p_X0_share Γ m0 mF x l1 l2 r z) (Hr : ∀ z, q = .inr z → z = (r, mF)) : G Γ kX0_share cX0_share m0 mF (.inl (some (.int r))) m 31 [some (.ref x), some (.int l1), some (.int l2), some (.int l3), some (.int l4), none, none] [] := by
  unfold b_X0_share_31 at h
  refine g_iload dX0_share_31 rfl ?_
  refine g_bi (6) dX0_share_33 rfl ?_
  replace h := ite_of h; rcases h with ⟨hc, h⟩ | ⟨hc, h⟩
  · refine g_icgeT dX0_share_35 rfl hc ?_
    refine g_iload_n 3 dX0_share_110 rfl rfl ?_
    refine g_bi (6) dX0_share_111 rfl ?_
    replace h := bd2_of h; obtain ⟨v1, m2, em2, h⟩ := h
    have C := ct_X0_common hΓ em2
    refine g_callSi (sl_X0_294 9) C rfl rfl (Nat.le_of_ble_eq_true rfl) (Nat.le_of_ble_eq_true rfl) (Nat.le_of_ble_eq_true rfl) dX0_share_113 ?_
    replace hT := (C.1).kd hT
    refine g_istore dX0_share_116 (Nat.le_of_ble_eq_true rfl) rfl ?_
    dsimp only [List.set]
    refine g_iload_n 2 dX0_share_118 rfl rfl ?_
    replace h := ite_of h; rcases h with ⟨hc, h⟩ | ⟨hc, h⟩
    · refine g_ifneF dX0_share_119 rfl hc ?_
      refine g_iload_n 3 dX0_share_122 rfl rfl ?_
      refine g_iload dX0_share_123 rfl ?_
      replace h := ite_of h; rcases h with ⟨hc, h⟩ | ⟨hc, h⟩
      · cases h
      refine g_idiv dX0_share_125 hc ?_
      refine g_goto dX0_share_126 rfl ?_
      cases h
      cases Hr _ rfl
      exact g_iret rfl dX0_share_134
    · refine g_ifneT dX0_share_119 rfl hc ?_
      refine g_bi (6) dX0_share_129 rfl ?_
      refine g_iload dX0_share_131 rfl ?_
      replace h := ite_of h; rcases h with ⟨hc, h⟩ | ⟨hc, h⟩
      · cases h
      refine g_idiv dX0_share_133 hc ?_
      cases h
      cases Hr _ rfl
      exact g_iret rfl dX0_share_134
  · refine g_icgeF dX0_share_35 rfl hc ?_
    refine g_ic 0 dX0_share_38 rfl ?_
    refine g_istore dX0_share_39 (Nat.le_of_ble_eq_true rfl) rfl ?_
    dsimp only [List.set]
    refine g_ic 0 dX0_share_41 rfl ?_
    refine g_istore dX0_share_42 (Nat.le_of_ble_eq_true rfl) rfl ?_
    dsimp only [List.set]
    cases h
    refine G.weak [true, true, true, true, true, true, true] rfl ?_
    exact Hl _ rfl hT
set_option maxHeartbeats 4000000 in
theorem w_X0_share_0 {Γ : GG} (hΓ : GF Γ) {m0 mF m : MM} {x : Nat} {l1 : Int32} {l2 : Int32} (hT : (m.K x).1 = 1) {r : Int32} {q : ((Int32 × Int32 × MM) ⊕ (Int32 × Int32 × Int32 × Int32 × MM)) ⊕ (Int32 × MM)} (h : b_X0_share_0 x l1 l2 m = some q) (Hl : ∀ z, q = .inl z → p_X0_share Γ m0 mF x l1 l2 r z) (Hr : ∀ z, q = .inr z → z = (r, mF)) : G Γ kX0_share cX0_share m0 mF (.inl (some (.int r))) m 0 [some (.ref x), some (.int l1), some (.int l2), none, none, none, none] [] := by
  unfold b_X0_share_0 at h
  refine g_iload_n 1 dX0_share_0 rfl rfl ?_
  replace h := bd2_of h; obtain ⟨v1, m2, em2, h⟩ := h
  have C := ct_X0_isGuild hΓ em2
  refine g_callSi sl_X0_242 C rfl rfl (Nat.le_of_ble_eq_true rfl) (Nat.le_of_ble_eq_true rfl) (Nat.le_of_ble_eq_true rfl) dX0_share_1 ?_
  replace hT := (C.1).kd hT
  replace h := ite_of h; rcases h with ⟨hc, h⟩ | ⟨hc, h⟩
  · refine g_ifeqT dX0_share_4 rfl hc ?_
    refine g_ldc (v := -1000000) q931 dX0_share_23 ?_
    cases h
    cases Hr _ rfl
    exact g_iret rfl dX0_share_25
  · refine g_ifeqF dX0_share_4 rfl hc ?_
    refine g_iload_n 2 dX0_share_7 rfl rfl ?_
    refine g_ic 0 dX0_share_8 rfl ?_
    refine g_ic 1 dX0_share_9 rfl ?_
    replace h := bd2_of h; obtain ⟨v3, m4, em4, h⟩ := h
    have C := ct_X0_isIn hΓ em4
    refine g_callSi sl_X0_235 C rfl rfl (Nat.le_of_ble_eq_true rfl) (Nat.le_of_ble_eq_true rfl) (Nat.le_of_ble_eq_true rfl) dX0_share_10 ?_
    replace hT := (C.1).kd hT
    replace h := ite_of h; rcases h with ⟨hc, h⟩ | ⟨hc, h⟩
    · refine g_ifeqT dX0_share_13 rfl hc ?_
      refine g_ldc (v := -1000000) q931 dX0_share_23 ?_
      cases h
      cases Hr _ rfl
      exact g_iret rfl dX0_share_25
    · refine g_ifeqF dX0_share_13 rfl hc ?_
      refine g_this dX0_share_16 rfl ?_
      replace h := bd2_of h; obtain ⟨v5, m6, em6, h⟩ := h
      have C := ct_X0_hasTree hΓ hT em6
      refine g_callVi hΓ.k vl_X0_285 hT C rfl rfl (Nat.le_of_ble_eq_true rfl) (Nat.le_of_ble_eq_true rfl) (Nat.le_of_ble_eq_true rfl) dX0_share_17 ?_
      replace hT := (C.1).kd hT
      replace h := ite_of h; rcases h with ⟨hc, h⟩ | ⟨hc, h⟩
      · refine g_ifneF dX0_share_20 rfl hc ?_
        refine g_ldc (v := -1000000) q931 dX0_share_23 ?_
        cases h
        cases Hr _ rfl
        exact g_iret rfl dX0_share_25
      · refine g_ifneT dX0_share_20 rfl hc ?_
        refine g_ic 0 dX0_share_26 rfl ?_
        refine g_istore_n 3 dX0_share_27 rfl (Nat.le_of_ble_eq_true rfl) rfl ?_
        dsimp only [List.set]
        refine g_ic 0 dX0_share_28 rfl ?_
        refine g_istore dX0_share_29 (Nat.le_of_ble_eq_true rfl) rfl ?_
        dsimp only [List.set]
        cases h
        refine G.weak [true, true, true, true, true, false, false] rfl ?_
        exact Hl _ rfl hT
theorem ct_X0_share {Γ : GG} (hΓ : GF Γ) {m mF : MM} {x : Nat} {l1 : Int32} {l2 : Int32} (hT : (m.K x).1 = 1) {r : Int32} (h : f_X0_share x l1 l2 m = some (r, mF)) : Ct Γ kX0_share cX0_share [.ref x, .int l1, .int l2] m (.inl (some (.int r))) mF := by
  unfold f_X0_share at h
  replace h := bd_of h; obtain ⟨q, e, h⟩ := h
  have H := rx_go_ind (P := p_X0_share Γ m mF x l1 l2 r) (fun z o hs Hl Hr => by
    match z with
    | (.inl (l3, l4, m)) => exact fun hT => w_X0_share_31 hΓ hT hs Hl Hr
    | (.inr (l3, l4, l5, l6, m)) => exact fun hT => w_X0_share_44 hΓ hT hs Hl Hr) h
  exact Ct.of (κ := kX0_share) (by decide) rfl (Nat.le_of_ble_eq_true rfl) rfl (w_X0_share_0 hΓ hT e H.1 H.2)
set_option maxHeartbeats 4000000 in
theorem w_X0_writtenNow_0 {Γ : GG} (hΓ : GF Γ) {m0 mF m : MM} {x : Nat} (hT : (m.K x).1 = 1) {r : Int32} (h : b_X0_writtenNow_0 x m = some (r, mF)) : G Γ kX0_writtenNow cX0_writtenNow m0 mF (.inl (some (.int r))) m 0 [some (.ref x)] [] := by
  unfold b_X0_writtenNow_0 at h
  refine g_this dX0_writtenNow_0 rfl ?_
  refine g_getR hΓ.k fl_X0_164_X0 rfl hT dX0_writtenNow_1 ?_
  refine g_bi (6) dX0_writtenNow_4 rfl ?_
  refine g_this dX0_writtenNow_6 rfl ?_
  refine g_getR hΓ.k fl_X0_172_X0 rfl hT dX0_writtenNow_7 ?_
  refine g_ic 0 dX0_writtenNow_10 rfl ?_
  refine g_bi (6) dX0_writtenNow_11 rfl ?_
  replace h := bd_of h; obtain ⟨m1, em1, h⟩ := h
  refine g_copy50 hΓ q972 (Nat.le_of_ble_eq_true rfl) (Nat.le_of_ble_eq_true rfl) (Nat.le_of_ble_eq_true rfl) em1 dX0_writtenNow_13 ?_
  replace hT := (cI_ext em1).kd hT
  refine g_this dX0_writtenNow_16 rfl ?_
  refine g_this dX0_writtenNow_17 rfl ?_
  refine g_getR hΓ.k fl_X0_164_X0 rfl hT dX0_writtenNow_18 ?_
  refine g_this dX0_writtenNow_21 rfl ?_
  refine g_getR hΓ.k fl_X0_164_X0 rfl hT dX0_writtenNow_22 ?_
  refine g_bi (12) dX0_writtenNow_25 rfl ?_
  replace h := bd_of h; obtain ⟨v2, ev2, h⟩ := h
  refine g_iald ev2 dX0_writtenNow_27 ?_
  refine g_this dX0_writtenNow_28 rfl ?_
  refine g_getR hΓ.k fl_X0_172_X0 rfl hT dX0_writtenNow_29 ?_
  replace h := bd2_of h; obtain ⟨v3, m4, em4, h⟩ := h
  have C := ct_X0_write_2 hΓ hT em4
  refine g_callVi hΓ.k vl_X0_273 hT C rfl rfl (Nat.le_of_ble_eq_true rfl) (Nat.le_of_ble_eq_true rfl) (Nat.le_of_ble_eq_true rfl) dX0_writtenNow_32 ?_
  replace hT := (C.1).kd hT
  cases h
  exact g_iret rfl dX0_writtenNow_35
theorem ct_X0_writtenNow {Γ : GG} (hΓ : GF Γ) {m mF : MM} {x : Nat} (hT : (m.K x).1 = 1) {r : Int32} (h : f_X0_writtenNow x m = some (r, mF)) : Ct Γ kX0_writtenNow cX0_writtenNow [.ref x] m (.inl (some (.int r))) mF := by
  unfold f_X0_writtenNow at h
  exact Ct.of (κ := kX0_writtenNow) (by decide) rfl (Nat.le_of_ble_eq_true rfl) rfl (w_X0_writtenNow_0 hΓ hT h)
set_option maxHeartbeats 4000000 in
theorem w_X0_doSwap_0 {Γ : GG} (hΓ : GF Γ) {m0 mF m : MM} {x : Nat} {l1 : Int32} {l2 : Int32} (hT : (m.K x).1 = 1) {r : Int32} (h : b_X0_doSwap_0 x l1 l2 m = some (r, mF)) : G Γ kX0_doSwap cX0_doSwap m0 mF (.inl (some (.int r))) m 0 [some (.ref x), some (.int l1), some (.int l2), none, none, none, none, none, none, none] [] := by
  unfold b_X0_doSwap_0 at h
  refine g_this dX0_doSwap_0 rfl ?_
  refine g_getR hΓ.k fl_X0_164_X0 rfl hT dX0_doSwap_1 ?_
  refine g_bi (12) dX0_doSwap_4 rfl ?_
  replace h := bd_of h; obtain ⟨v1, ev1, h⟩ := h
  refine g_iald ev1 dX0_doSwap_6 ?_
  refine g_istore_n 3 dX0_doSwap_7 rfl (Nat.le_of_ble_eq_true rfl) rfl ?_
  dsimp only [List.set]
  refine g_this dX0_doSwap_8 rfl ?_
  refine g_getR hΓ.k fl_X0_164_X0 rfl hT dX0_doSwap_9 ?_
  refine g_bi (6) dX0_doSwap_12 rfl ?_
  refine g_iload_n 1 dX0_doSwap_14 rfl rfl ?_
  refine g_iadd dX0_doSwap_15 ?_
  replace h := bd_of h; obtain ⟨v2, ev2, h⟩ := h
  refine g_iald ev2 dX0_doSwap_16 ?_
  refine g_istore dX0_doSwap_17 (Nat.le_of_ble_eq_true rfl) rfl ?_
  dsimp only [List.set]
  refine g_this dX0_doSwap_19 rfl ?_
  refine g_getR hΓ.k fl_X0_164_X0 rfl hT dX0_doSwap_20 ?_
  refine g_bi (6) dX0_doSwap_23 rfl ?_
  refine g_iload_n 2 dX0_doSwap_25 rfl rfl ?_
  refine g_iadd dX0_doSwap_26 ?_
  replace h := bd_of h; obtain ⟨v3, ev3, h⟩ := h
  refine g_iald ev3 dX0_doSwap_27 ?_
  refine g_istore dX0_doSwap_28 (Nat.le_of_ble_eq_true rfl) rfl ?_
  dsimp only [List.set]
  refine g_this dX0_doSwap_30 rfl ?_
  replace h := bd2_of h; obtain ⟨v4, m5, em5, h⟩ := h
  have C := ct_X0_writtenNow hΓ hT em5
  refine g_callVi hΓ.k vl_X0_300 hT C rfl rfl (Nat.le_of_ble_eq_true rfl) (Nat.le_of_ble_eq_true rfl) (Nat.le_of_ble_eq_true rfl) dX0_doSwap_31 ?_
  replace hT := (C.1).kd hT
  refine g_istore dX0_doSwap_34 (Nat.le_of_ble_eq_true rfl) rfl ?_
  dsimp only [List.set]
  refine g_this dX0_doSwap_36 rfl ?_
  refine g_iload dX0_doSwap_37 rfl ?_
  refine g_this dX0_doSwap_39 rfl ?_
  refine g_getR hΓ.k fl_X0_164_X0 rfl hT dX0_doSwap_40 ?_
  refine g_iload_n 3 dX0_doSwap_43 rfl rfl ?_
  refine g_iload dX0_doSwap_44 rfl ?_
  replace h := bd2_of h; obtain ⟨v6, m7, em7, h⟩ := h
  have C := ct_X0_meaningOf hΓ hT em7
  refine g_callVi hΓ.k vl_X0_143 hT C rfl rfl (Nat.le_of_ble_eq_true rfl) (Nat.le_of_ble_eq_true rfl) (Nat.le_of_ble_eq_true rfl) dX0_doSwap_46 ?_
  replace hT := (C.1).kd hT
  refine g_istore dX0_doSwap_49 (Nat.le_of_ble_eq_true rfl) rfl ?_
  dsimp only [List.set]
  refine g_this dX0_doSwap_51 rfl ?_
  refine g_iload dX0_doSwap_52 rfl ?_
  refine g_this dX0_doSwap_54 rfl ?_
  refine g_getR hΓ.k fl_X0_164_X0 rfl hT dX0_doSwap_55 ?_
  refine g_iload_n 3 dX0_doSwap_58 rfl rfl ?_
  refine g_iload dX0_doSwap_59 rfl ?_
  replace h := bd2_of h; obtain ⟨v8, m9, em9, h⟩ := h
  have C := ct_X0_meaningOf hΓ hT em9
  refine g_callVi hΓ.k vl_X0_143 hT C rfl rfl (Nat.le_of_ble_eq_true rfl) (Nat.le_of_ble_eq_true rfl) (Nat.le_of_ble_eq_true rfl) dX0_doSwap_61 ?_
  replace hT := (C.1).kd hT
  refine g_istore dX0_doSwap_64 (Nat.le_of_ble_eq_true rfl) rfl ?_
  dsimp only [List.set]
  refine g_this dX0_doSwap_66 rfl ?_
  refine g_getR hΓ.k fl_X0_172_X0 rfl hT dX0_doSwap_67 ?_
  refine g_iload_n 1 dX0_doSwap_70 rfl rfl ?_
  refine g_iload dX0_doSwap_71 rfl ?_
  replace h := bd_of h; obtain ⟨m10, em10, h⟩ := h
  refine g_iast em10 dX0_doSwap_73 ?_
  replace hT := (sI_ext em10).kd hT
  refine g_this dX0_doSwap_74 rfl ?_
  refine g_getR hΓ.k fl_X0_172_X0 rfl hT dX0_doSwap_75 ?_
  refine g_iload_n 2 dX0_doSwap_78 rfl rfl ?_
  refine g_iload dX0_doSwap_79 rfl ?_
  replace h := bd_of h; obtain ⟨m11, em11, h⟩ := h
  refine g_iast em11 dX0_doSwap_81 ?_
  replace hT := (sI_ext em11).kd hT
  refine g_this dX0_doSwap_82 rfl ?_
  refine g_this dX0_doSwap_83 rfl ?_
  refine g_getR hΓ.k fl_X0_164_X0 rfl hT dX0_doSwap_84 ?_
  refine g_iload_n 3 dX0_doSwap_87 rfl rfl ?_
  refine g_this dX0_doSwap_88 rfl ?_
  refine g_getR hΓ.k fl_X0_172_X0 rfl hT dX0_doSwap_89 ?_
  replace h := bd2_of h; obtain ⟨v12, m13, em13, h⟩ := h
  have C := ct_X0_write_2 hΓ hT em13
  refine g_callVi hΓ.k vl_X0_273 hT C rfl rfl (Nat.le_of_ble_eq_true rfl) (Nat.le_of_ble_eq_true rfl) (Nat.le_of_ble_eq_true rfl) dX0_doSwap_92 ?_
  replace hT := (C.1).kd hT
  refine g_istore dX0_doSwap_95 (Nat.le_of_ble_eq_true rfl) rfl ?_
  dsimp only [List.set]
  refine g_this dX0_doSwap_97 rfl ?_
  refine g_iload dX0_doSwap_98 rfl ?_
  refine g_this dX0_doSwap_100 rfl ?_
  refine g_getR hΓ.k fl_X0_164_X0 rfl hT dX0_doSwap_101 ?_
  refine g_iload_n 3 dX0_doSwap_104 rfl rfl ?_
  refine g_iload dX0_doSwap_105 rfl ?_
  replace h := bd2_of h; obtain ⟨v14, m15, em15, h⟩ := h
  have C := ct_X0_meaningOf hΓ hT em15
  refine g_callVi hΓ.k vl_X0_143 hT C rfl rfl (Nat.le_of_ble_eq_true rfl) (Nat.le_of_ble_eq_true rfl) (Nat.le_of_ble_eq_true rfl) dX0_doSwap_107 ?_
  replace hT := (C.1).kd hT
  refine g_iload dX0_doSwap_110 rfl ?_
  replace h := ite_of h; rcases h with ⟨hc, h⟩ | ⟨hc, h⟩
  · refine g_icleT dX0_doSwap_112 rfl hc ?_
    refine g_ic 0 dX0_doSwap_137 rfl ?_
    cases h
    exact g_zret rfl (by decide) dX0_doSwap_138
  · refine g_icleF dX0_doSwap_112 rfl hc ?_
    refine g_this dX0_doSwap_115 rfl ?_
    refine g_iload dX0_doSwap_116 rfl ?_
    refine g_this dX0_doSwap_118 rfl ?_
    refine g_getR hΓ.k fl_X0_164_X0 rfl hT dX0_doSwap_119 ?_
    refine g_iload_n 3 dX0_doSwap_122 rfl rfl ?_
    refine g_iload dX0_doSwap_123 rfl ?_
    replace h := bd2_of h; obtain ⟨v16, m17, em17, h⟩ := h
    have C := ct_X0_meaningOf hΓ hT em17
    refine g_callVi hΓ.k vl_X0_143 hT C rfl rfl (Nat.le_of_ble_eq_true rfl) (Nat.le_of_ble_eq_true rfl) (Nat.le_of_ble_eq_true rfl) dX0_doSwap_125 ?_
    replace hT := (C.1).kd hT
    refine g_iload dX0_doSwap_128 rfl ?_
    replace h := ite_of h; rcases h with ⟨hc, h⟩ | ⟨hc, h⟩
    · refine g_icleT dX0_doSwap_130 rfl hc ?_
      refine g_ic 0 dX0_doSwap_137 rfl ?_
      cases h
      exact g_zret rfl (by decide) dX0_doSwap_138
    · refine g_icleF dX0_doSwap_130 rfl hc ?_
      refine g_ic 1 dX0_doSwap_133 rfl ?_
      refine g_goto dX0_doSwap_134 rfl ?_
      cases h
      exact g_zret rfl (by decide) dX0_doSwap_138
theorem ct_X0_doSwap {Γ : GG} (hΓ : GF Γ) {m mF : MM} {x : Nat} {l1 : Int32} {l2 : Int32} (hT : (m.K x).1 = 1) {r : Int32} (h : f_X0_doSwap x l1 l2 m = some (r, mF)) : Ct Γ kX0_doSwap cX0_doSwap [.ref x, .int l1, .int l2] m (.inl (some (.int r))) mF := by
  unfold f_X0_doSwap at h
  exact Ct.of (κ := kX0_doSwap) (by decide) rfl (Nat.le_of_ble_eq_true rfl) rfl (w_X0_doSwap_0 hΓ hT h)
def p_X0_swap (Γ : GG) (m0 mF : MM) (x : Nat) (r : Int32) : ((Int32 × MM) ⊕ (Int32 × Int32 × MM)) → Prop := fun z => match z with
  | (.inl (l1, m)) => (m.K x).1 = 1 → G Γ kX0_swap cX0_swap m0 mF (.inl (some (.int r))) m 17 [some (.ref x), some (.int l1), none] []
  | (.inr (l1, l2, m)) => (m.K x).1 = 1 → G Γ kX0_swap cX0_swap m0 mF (.inl (some (.int r))) m 32 [some (.ref x), some (.int l1), some (.int l2)] []
set_option maxHeartbeats 4000000 in
theorem w_X0_swap_32 {Γ : GG} (hΓ : GF Γ) {m0 mF m : MM} {x : Nat} {l1 : Int32} {l2 : Int32} (hT : (m.K x).1 = 1) {r : Int32} {q : ((Int32 × MM) ⊕ (Int32 × Int32 × MM)) ⊕ (Int32 × MM)} (h : b_X0_swap_32 x l1 l2 m = some q) (Hl : ∀ z, q = .inl z → p_X0_swap Γ m0 mF x r z) (Hr : ∀ z, q = .inr z → z = (r, mF)) : G Γ kX0_swap cX0_swap m0 mF (.inl (some (.int r))) m 32 [some (.ref x), some (.int l1), some (.int l2)] [] := by
  unfold b_X0_swap_32 at h
  refine g_iload_n 2 dX0_swap_32 rfl rfl ?_
  refine g_this dX0_swap_33 rfl ?_
  refine g_getR hΓ.k fl_X0_31_X0 rfl hT dX0_swap_34 ?_
  replace h := bd_of h; obtain ⟨a1, ea1, h⟩ := h
  obtain ⟨ea1, ka1⟩ := isK_of ea1
  replace h := bd2_of h; obtain ⟨v2, m3, em3, h⟩ := h
  have C := ct_X1_most hΓ ka1 em3
  refine g_callVi hΓ.k vl_X0_65 ka1 C rfl (by rw [ea1]; rfl) (Nat.le_of_ble_eq_true rfl) (Nat.le_of_ble_eq_true rfl) (Nat.le_of_ble_eq_true rfl) dX0_swap_37 ?_
  replace hT := (C.1).kd hT
  replace h := ite_of h; rcases h with ⟨hc, h⟩ | ⟨hc, h⟩
  · refine g_icgeT dX0_swap_40 rfl hc ?_
    refine g_iinc (l1 + (1 : Int32)) dX0_swap_86 rfl rfl (Nat.le_of_ble_eq_true rfl) rfl ?_
    dsimp only [List.set]
    refine g_goto dX0_swap_89 rfl ?_
    cases h
    refine G.weak [true, true, false] rfl ?_
    exact Hl _ rfl hT
  · refine g_icgeF dX0_swap_40 rfl hc ?_
    refine g_this dX0_swap_43 rfl ?_
    refine g_getR hΓ.k fl_X0_164_X0 rfl hT dX0_swap_44 ?_
    refine g_bi (6) dX0_swap_47 rfl ?_
    refine g_iload_n 1 dX0_swap_49 rfl rfl ?_
    refine g_iadd dX0_swap_50 ?_
    replace h := bd_of h; obtain ⟨v4, ev4, h⟩ := h
    refine g_iald ev4 dX0_swap_51 ?_
    refine g_this dX0_swap_52 rfl ?_
    refine g_getR hΓ.k fl_X0_164_X0 rfl hT dX0_swap_53 ?_
    refine g_bi (6) dX0_swap_56 rfl ?_
    refine g_iload_n 2 dX0_swap_58 rfl rfl ?_
    refine g_iadd dX0_swap_59 ?_
    replace h := bd_of h; obtain ⟨v5, ev5, h⟩ := h
    refine g_iald ev5 dX0_swap_60 ?_
    replace h := ite_of h; rcases h with ⟨hc, h⟩ | ⟨hc, h⟩
    · refine g_iceqT dX0_swap_61 rfl hc ?_
      refine g_iinc (l2 + (1 : Int32)) dX0_swap_80 rfl rfl (Nat.le_of_ble_eq_true rfl) rfl ?_
      dsimp only [List.set]
      refine g_goto dX0_swap_83 rfl ?_
      cases h
      refine G.weak [true, true, true] rfl ?_
      exact Hl _ rfl hT
    · refine g_iceqF dX0_swap_61 rfl hc ?_
      refine g_this dX0_swap_64 rfl ?_
      refine g_iload_n 1 dX0_swap_65 rfl rfl ?_
      refine g_iload_n 2 dX0_swap_66 rfl rfl ?_
      replace h := bd2_of h; obtain ⟨v6, m7, em7, h⟩ := h
      have C := ct_X0_doSwap hΓ hT em7
      refine g_callVi hΓ.k vl_X0_303 hT C rfl rfl (Nat.le_of_ble_eq_true rfl) (Nat.le_of_ble_eq_true rfl) (Nat.le_of_ble_eq_true rfl) dX0_swap_67 ?_
      replace hT := (C.1).kd hT
      replace h := ite_of h; rcases h with ⟨hc, h⟩ | ⟨hc, h⟩
      · refine g_ifeqT dX0_swap_70 rfl hc ?_
        refine g_iinc (l2 + (1 : Int32)) dX0_swap_80 rfl rfl (Nat.le_of_ble_eq_true rfl) rfl ?_
        dsimp only [List.set]
        refine g_goto dX0_swap_83 rfl ?_
        cases h
        refine G.weak [true, true, true] rfl ?_
        exact Hl _ rfl hT
      · refine g_ifeqF dX0_swap_70 rfl hc ?_
        refine g_bi (10) dX0_swap_73 rfl ?_
        refine g_iload_n 1 dX0_swap_75 rfl rfl ?_
        refine g_imul dX0_swap_76 ?_
        refine g_iload_n 2 dX0_swap_77 rfl rfl ?_
        refine g_iadd dX0_swap_78 ?_
        cases h
        cases Hr _ rfl
        exact g_iret rfl dX0_swap_79
set_option maxHeartbeats 4000000 in
theorem w_X0_swap_17 {Γ : GG} (hΓ : GF Γ) {m0 mF m : MM} {x : Nat} {l1 : Int32} (hT : (m.K x).1 = 1) {r : Int32} {q : ((Int32 × MM) ⊕ (Int32 × Int32 × MM)) ⊕ (Int32 × MM)} (h : b_X0_swap_17 x l1 m = some q) (Hl : ∀ z, q = .inl z → p_X0_swap Γ m0 mF x r z) (Hr : ∀ z, q = .inr z → z = (r, mF)) : G Γ kX0_swap cX0_swap m0 mF (.inl (some (.int r))) m 17 [some (.ref x), some (.int l1), none] [] := by
  unfold b_X0_swap_17 at h
  refine g_iload_n 1 dX0_swap_17 rfl rfl ?_
  refine g_this dX0_swap_18 rfl ?_
  refine g_getR hΓ.k fl_X0_31_X0 rfl hT dX0_swap_19 ?_
  replace h := bd_of h; obtain ⟨a1, ea1, h⟩ := h
  obtain ⟨ea1, ka1⟩ := isK_of ea1
  replace h := bd2_of h; obtain ⟨v2, m3, em3, h⟩ := h
  have C := ct_X1_most hΓ ka1 em3
  refine g_callVi hΓ.k vl_X0_65 ka1 C rfl (by rw [ea1]; rfl) (Nat.le_of_ble_eq_true rfl) (Nat.le_of_ble_eq_true rfl) (Nat.le_of_ble_eq_true rfl) dX0_swap_22 ?_
  replace hT := (C.1).kd hT
  replace h := ite_of h; rcases h with ⟨hc, h⟩ | ⟨hc, h⟩
  · refine g_icgeT dX0_swap_25 rfl hc ?_
    refine g_ic (-1) dX0_swap_92 rfl ?_
    cases h
    cases Hr _ rfl
    exact g_iret rfl dX0_swap_93
  · refine g_icgeF dX0_swap_25 rfl hc ?_
    refine g_iload_n 1 dX0_swap_28 rfl rfl ?_
    refine g_ic 1 dX0_swap_29 rfl ?_
    refine g_iadd dX0_swap_30 ?_
    refine g_istore_n 2 dX0_swap_31 rfl (Nat.le_of_ble_eq_true rfl) rfl ?_
    dsimp only [List.set]
    cases h
    refine G.weak [true, true, true] rfl ?_
    exact Hl _ rfl hT
set_option maxHeartbeats 4000000 in
theorem w_X0_swap_0 {Γ : GG} (hΓ : GF Γ) {m0 mF m : MM} {x : Nat} (hT : (m.K x).1 = 1) {r : Int32} {q : ((Int32 × MM) ⊕ (Int32 × Int32 × MM)) ⊕ (Int32 × MM)} (h : b_X0_swap_0 x m = some q) (Hl : ∀ z, q = .inl z → p_X0_swap Γ m0 mF x r z) (Hr : ∀ z, q = .inr z → z = (r, mF)) : G Γ kX0_swap cX0_swap m0 mF (.inl (some (.int r))) m 0 [some (.ref x), none, none] [] := by
  unfold b_X0_swap_0 at h
  refine g_this dX0_swap_0 rfl ?_
  replace h := bd2_of h; obtain ⟨v1, m2, em2, h⟩ := h
  have C := ct_X0_hasTree hΓ hT em2
  refine g_callVi hΓ.k vl_X0_285 hT C rfl rfl (Nat.le_of_ble_eq_true rfl) (Nat.le_of_ble_eq_true rfl) (Nat.le_of_ble_eq_true rfl) dX0_swap_1 ?_
  replace hT := (C.1).kd hT
  replace h := ite_of h; rcases h with ⟨hc, h⟩ | ⟨hc, h⟩
  · refine g_ifneF dX0_swap_4 rfl hc ?_
    refine g_ic (-1) dX0_swap_7 rfl ?_
    cases h
    cases Hr _ rfl
    exact g_iret rfl dX0_swap_8
  · refine g_ifneT dX0_swap_4 rfl hc ?_
    refine g_this dX0_swap_9 rfl ?_
    refine g_getR hΓ.k fl_X0_164_X0 rfl hT dX0_swap_10 ?_
    refine g_bi (12) dX0_swap_13 rfl ?_
    replace h := bd_of h; obtain ⟨v3, ev3, h⟩ := h
    refine g_iald ev3 dX0_swap_15 ?_
    refine g_istore_n 1 dX0_swap_16 rfl (Nat.le_of_ble_eq_true rfl) rfl ?_
    dsimp only [List.set]
    cases h
    refine G.weak [true, true, false] rfl ?_
    exact Hl _ rfl hT
theorem ct_X0_swap {Γ : GG} (hΓ : GF Γ) {m mF : MM} {x : Nat} (hT : (m.K x).1 = 1) {r : Int32} (h : f_X0_swap x m = some (r, mF)) : Ct Γ kX0_swap cX0_swap [.ref x] m (.inl (some (.int r))) mF := by
  unfold f_X0_swap at h
  replace h := bd_of h; obtain ⟨q, e, h⟩ := h
  have H := rx_go_ind (P := p_X0_swap Γ m mF x r) (fun z o hs Hl Hr => by
    match z with
    | (.inl (l1, m)) => exact fun hT => w_X0_swap_17 hΓ hT hs Hl Hr
    | (.inr (l1, l2, m)) => exact fun hT => w_X0_swap_32 hΓ hT hs Hl Hr) h
  exact Ct.of (κ := kX0_swap) (by decide) rfl (Nat.le_of_ble_eq_true rfl) rfl (w_X0_swap_0 hΓ hT e H.1 H.2)
set_option maxHeartbeats 4000000 in
theorem w_X0_comesBy_0 {Γ : GG} (hΓ : GF Γ) {m0 mF m : MM} {x : Nat} {l1 : Int32} {l2 : Int32} {l3 : Int32} (hT : (m.K x).1 = 1) {r : Int32} (h : b_X0_comesBy_0 x l1 l2 l3 m = some (r, mF)) : G Γ kX0_comesBy cX0_comesBy m0 mF (.inl (some (.int r))) m 0 [some (.ref x), some (.int l1), some (.int l2), some (.int l3), none] [] := by
  unfold b_X0_comesBy_0 at h
  refine g_this dX0_comesBy_0 rfl ?_
  refine g_this dX0_comesBy_1 rfl ?_
  refine g_getR hΓ.k fl_X0_164_X0 rfl hT dX0_comesBy_2 ?_
  refine g_bi (6) dX0_comesBy_5 rfl ?_
  refine g_iload_n 2 dX0_comesBy_7 rfl rfl ?_
  refine g_iadd dX0_comesBy_8 ?_
  replace h := bd_of h; obtain ⟨v1, ev1, h⟩ := h
  refine g_iald ev1 dX0_comesBy_9 ?_
  replace h := bd_of h; obtain ⟨m2, em2, h⟩ := h
  refine g_pI hΓ.k fl_X0_117_X0 (fun h9 => by cases h9) rfl (Or.inl ⟨rfl, rfl⟩) em2 dX0_comesBy_10 ?_
  replace hT := (pI_ext em2).kd hT
  refine g_this dX0_comesBy_13 rfl ?_
  refine g_iload_n 2 dX0_comesBy_14 rfl rfl ?_
  replace h := bd_of h; obtain ⟨m3, em3, h⟩ := h
  refine g_pI hΓ.k fl_X0_120_X0 (fun h9 => by cases h9) rfl (Or.inl ⟨rfl, rfl⟩) em3 dX0_comesBy_15 ?_
  replace hT := (pI_ext em3).kd hT
  refine g_this dX0_comesBy_18 rfl ?_
  refine g_iload_n 3 dX0_comesBy_19 rfl rfl ?_
  replace h := bd_of h; obtain ⟨m4, em4, h⟩ := h
  refine g_pI hΓ.k fl_X0_123_X0 (fun h9 => by cases h9) rfl (Or.inl ⟨rfl, rfl⟩) em4 dX0_comesBy_20 ?_
  replace hT := (pI_ext em4).kd hT
  refine g_this dX0_comesBy_23 rfl ?_
  refine g_iload_n 1 dX0_comesBy_24 rfl rfl ?_
  replace h := bd_of h; obtain ⟨m5, em5, h⟩ := h
  refine g_pI hΓ.k fl_X0_126_X0 (fun h9 => by cases h9) rfl (Or.inl ⟨rfl, rfl⟩) em5 dX0_comesBy_25 ?_
  replace hT := (pI_ext em5).kd hT
  refine g_this dX0_comesBy_28 rfl ?_
  refine g_this dX0_comesBy_29 rfl ?_
  replace h := bd2_of h; obtain ⟨v6, m7, em7, h⟩ := h
  have C := ct_X0_writtenNow hΓ hT em7
  refine g_callVi hΓ.k vl_X0_300 hT C rfl rfl (Nat.le_of_ble_eq_true rfl) (Nat.le_of_ble_eq_true rfl) (Nat.le_of_ble_eq_true rfl) dX0_comesBy_30 ?_
  replace hT := (C.1).kd hT
  refine g_this dX0_comesBy_33 rfl ?_
  refine g_getR hΓ.k fl_X0_164_X0 rfl hT dX0_comesBy_34 ?_
  refine g_this dX0_comesBy_37 rfl ?_
  refine g_getR hΓ.k fl_X0_164_X0 rfl hT dX0_comesBy_38 ?_
  refine g_bi (12) dX0_comesBy_41 rfl ?_
  replace h := bd_of h; obtain ⟨v8, ev8, h⟩ := h
  refine g_iald ev8 dX0_comesBy_43 ?_
  replace h := bd2_of h; obtain ⟨v9, m10, em10, h⟩ := h
  have C := ct_X0_pathOf hΓ hT em10
  refine g_callVr hΓ.k vl_X0_135 hT C rfl rfl (Nat.le_of_ble_eq_true rfl) (Nat.le_of_ble_eq_true rfl) (Nat.le_of_ble_eq_true rfl) dX0_comesBy_44 ?_
  replace hT := (C.1).kd hT
  refine g_iload_n 2 dX0_comesBy_47 rfl rfl ?_
  replace h := bd_of h; obtain ⟨v11, ev11, h⟩ := h
  refine g_iald ev11 dX0_comesBy_48 ?_
  refine g_iload_n 3 dX0_comesBy_49 rfl rfl ?_
  replace h := ite_of h; rcases h with ⟨hc, h⟩ | ⟨hc, h⟩
  · refine g_icneF dX0_comesBy_50 rfl hc ?_
    refine g_ic 1 dX0_comesBy_53 rfl ?_
    refine g_goto dX0_comesBy_54 rfl ?_
    refine g_istore dX0_comesBy_58 (Nat.le_of_ble_eq_true rfl) rfl ?_
    dsimp only [List.set]
    refine g_this dX0_comesBy_60 rfl ?_
    refine g_ic (-1) dX0_comesBy_61 rfl ?_
    replace h := bd_of h; obtain ⟨m13, em13, h⟩ := h
    refine g_pI hΓ.k fl_X0_117_X0 (fun h9 => by cases h9) rfl (Or.inl ⟨rfl, rfl⟩) em13 dX0_comesBy_62 ?_
    replace hT := (pI_ext em13).kd hT
    refine g_iload dX0_comesBy_65 rfl ?_
    cases h
    exact g_zret rfl (by decide) dX0_comesBy_67
  · refine g_icneT dX0_comesBy_50 rfl hc ?_
    refine g_ic 0 dX0_comesBy_57 rfl ?_
    refine g_istore dX0_comesBy_58 (Nat.le_of_ble_eq_true rfl) rfl ?_
    dsimp only [List.set]
    refine g_this dX0_comesBy_60 rfl ?_
    refine g_ic (-1) dX0_comesBy_61 rfl ?_
    replace h := bd_of h; obtain ⟨m12, em12, h⟩ := h
    refine g_pI hΓ.k fl_X0_117_X0 (fun h9 => by cases h9) rfl (Or.inl ⟨rfl, rfl⟩) em12 dX0_comesBy_62 ?_
    replace hT := (pI_ext em12).kd hT
    refine g_iload dX0_comesBy_65 rfl ?_
    cases h
    exact g_zret rfl (by decide) dX0_comesBy_67
theorem ct_X0_comesBy {Γ : GG} (hΓ : GF Γ) {m mF : MM} {x : Nat} {l1 : Int32} {l2 : Int32} {l3 : Int32} (hT : (m.K x).1 = 1) {r : Int32} (h : f_X0_comesBy x l1 l2 l3 m = some (r, mF)) : Ct Γ kX0_comesBy cX0_comesBy [.ref x, .int l1, .int l2, .int l3] m (.inl (some (.int r))) mF := by
  unfold f_X0_comesBy at h
  exact Ct.of (κ := kX0_comesBy) (by decide) rfl (Nat.le_of_ble_eq_true rfl) rfl (w_X0_comesBy_0 hΓ hT h)
def p_X0_bribe (Γ : GG) (m0 mF : MM) (x : Nat) (l1 : Int32) (l2 : Int32) (r : Int32) : ((Int32 × MM)) → Prop := fun z => match z with
  | (l3, m) => (m.K x).1 = 1 → G Γ kX0_bribe cX0_bribe m0 mF (.inl (some (.int r))) m 41 [some (.ref x), some (.int l1), some (.int l2), some (.int l3)] []
set_option maxHeartbeats 4000000 in
theorem w_X0_bribe_41 {Γ : GG} (hΓ : GF Γ) {m0 mF m : MM} {x : Nat} {l1 : Int32} {l2 : Int32} {l3 : Int32} (hT : (m.K x).1 = 1) {r : Int32} {q : ((Int32 × MM)) ⊕ (Int32 × MM)} (h : b_X0_bribe_41 x l1 l2 l3 m = some q) (Hl : ∀ z, q = .inl z → p_X0_bribe Γ m0 mF x l1 l2 r z) (Hr : ∀ z, q = .inr z → z = (r, mF)) : G Γ kX0_bribe cX0_bribe m0 mF (.inl (some (.int r))) m 41 [some (.ref x), some (.int l1), some (.int l2), some (.int l3)] [] := by
  unfold b_X0_bribe_41 at h
  refine g_iload_n 3 dX0_bribe_41 rfl rfl ?_
  refine g_bi (100) dX0_bribe_42 rfl ?_
  replace h := ite_of h; rcases h with ⟨hc, h⟩ | ⟨hc, h⟩
  · refine g_icgeT dX0_bribe_44 rfl hc ?_
    refine g_ic (-1) dX0_bribe_65 rfl ?_
    cases h
    cases Hr _ rfl
    exact g_iret rfl dX0_bribe_66
  · refine g_icgeF dX0_bribe_44 rfl hc ?_
    refine g_this dX0_bribe_47 rfl ?_
    refine g_iload_n 3 dX0_bribe_48 rfl rfl ?_
    refine g_iload_n 1 dX0_bribe_49 rfl rfl ?_
    refine g_iload_n 2 dX0_bribe_50 rfl rfl ?_
    replace h := bd2_of h; obtain ⟨v1, m2, em2, h⟩ := h
    have C := ct_X0_comesBy hΓ hT em2
    refine g_callVi hΓ.k vl_X0_307 hT C rfl rfl (Nat.le_of_ble_eq_true rfl) (Nat.le_of_ble_eq_true rfl) (Nat.le_of_ble_eq_true rfl) dX0_bribe_51 ?_
    replace hT := (C.1).kd hT
    replace h := ite_of h; rcases h with ⟨hc, h⟩ | ⟨hc, h⟩
    · refine g_ifeqT dX0_bribe_54 rfl hc ?_
      refine g_iinc (l3 + (1 : Int32)) dX0_bribe_59 rfl rfl (Nat.le_of_ble_eq_true rfl) rfl ?_
      dsimp only [List.set]
      refine g_goto dX0_bribe_62 rfl ?_
      cases h
      refine G.weak [true, true, true, true] rfl ?_
      exact Hl _ rfl hT
    · refine g_ifeqF dX0_bribe_54 rfl hc ?_
      refine g_iload_n 3 dX0_bribe_57 rfl rfl ?_
      cases h
      cases Hr _ rfl
      exact g_iret rfl dX0_bribe_58
set_option maxHeartbeats 4000000 in
theorem w_X0_bribe_0 {Γ : GG} (hΓ : GF Γ) {m0 mF m : MM} {x : Nat} {l1 : Int32} {l2 : Int32} (hT : (m.K x).1 = 1) {r : Int32} {q : ((Int32 × MM)) ⊕ (Int32 × MM)} (h : b_X0_bribe_0 x l1 l2 m = some q) (Hl : ∀ z, q = .inl z → p_X0_bribe Γ m0 mF x l1 l2 r z) (Hr : ∀ z, q = .inr z → z = (r, mF)) : G Γ kX0_bribe cX0_bribe m0 mF (.inl (some (.int r))) m 0 [some (.ref x), some (.int l1), some (.int l2), none] [] := by
  unfold b_X0_bribe_0 at h
  refine g_this dX0_bribe_0 rfl ?_
  refine g_iload_n 1 dX0_bribe_1 rfl rfl ?_
  replace h := bd2_of h; obtain ⟨v1, m2, em2, h⟩ := h
  have C := ct_X0_isPlace hΓ hT em2
  refine g_callVi hΓ.k vl_X0_260 hT C rfl rfl (Nat.le_of_ble_eq_true rfl) (Nat.le_of_ble_eq_true rfl) (Nat.le_of_ble_eq_true rfl) dX0_bribe_2 ?_
  replace hT := (C.1).kd hT
  replace h := ite_of h; rcases h with ⟨hc, h⟩ | ⟨hc, h⟩
  · refine g_ifeqT dX0_bribe_5 rfl hc ?_
    refine g_bi (-2) dX0_bribe_27 rfl ?_
    cases h
    cases Hr _ rfl
    exact g_iret rfl dX0_bribe_29
  · refine g_ifeqF dX0_bribe_5 rfl hc ?_
    refine g_iload_n 1 dX0_bribe_8 rfl rfl ?_
    refine g_this dX0_bribe_9 rfl ?_
    refine g_getR hΓ.k fl_X0_164_X0 rfl hT dX0_bribe_10 ?_
    refine g_bi (12) dX0_bribe_13 rfl ?_
    replace h := bd_of h; obtain ⟨v3, ev3, h⟩ := h
    refine g_iald ev3 dX0_bribe_15 ?_
    replace h := ite_of h; rcases h with ⟨hc, h⟩ | ⟨hc, h⟩
    · refine g_icltT dX0_bribe_16 rfl hc ?_
      refine g_bi (-2) dX0_bribe_27 rfl ?_
      cases h
      cases Hr _ rfl
      exact g_iret rfl dX0_bribe_29
    · refine g_icltF dX0_bribe_16 rfl hc ?_
      refine g_this dX0_bribe_19 rfl ?_
      refine g_iload_n 2 dX0_bribe_20 rfl rfl ?_
      replace h := bd2_of h; obtain ⟨v4, m5, em5, h⟩ := h
      have C := ct_X0_isWord hΓ hT em5
      refine g_callVi hΓ.k vl_X0_239 hT C rfl rfl (Nat.le_of_ble_eq_true rfl) (Nat.le_of_ble_eq_true rfl) (Nat.le_of_ble_eq_true rfl) dX0_bribe_21 ?_
      replace hT := (C.1).kd hT
      replace h := ite_of h; rcases h with ⟨hc, h⟩ | ⟨hc, h⟩
      · refine g_ifneF dX0_bribe_24 rfl hc ?_
        refine g_bi (-2) dX0_bribe_27 rfl ?_
        cases h
        cases Hr _ rfl
        exact g_iret rfl dX0_bribe_29
      · refine g_ifneT dX0_bribe_24 rfl hc ?_
        refine g_this dX0_bribe_30 rfl ?_
        replace h := bd2_of h; obtain ⟨v6, m7, em7, h⟩ := h
        have C := ct_X0_hasTree hΓ hT em7
        refine g_callVi hΓ.k vl_X0_285 hT C rfl rfl (Nat.le_of_ble_eq_true rfl) (Nat.le_of_ble_eq_true rfl) (Nat.le_of_ble_eq_true rfl) dX0_bribe_31 ?_
        replace hT := (C.1).kd hT
        replace h := ite_of h; rcases h with ⟨hc, h⟩ | ⟨hc, h⟩
        · refine g_ifneF dX0_bribe_34 rfl hc ?_
          refine g_ic (-1) dX0_bribe_37 rfl ?_
          cases h
          cases Hr _ rfl
          exact g_iret rfl dX0_bribe_38
        · refine g_ifneT dX0_bribe_34 rfl hc ?_
          refine g_ic 0 dX0_bribe_39 rfl ?_
          refine g_istore_n 3 dX0_bribe_40 rfl (Nat.le_of_ble_eq_true rfl) rfl ?_
          dsimp only [List.set]
          cases h
          refine G.weak [true, true, true, true] rfl ?_
          exact Hl _ rfl hT
theorem ct_X0_bribe {Γ : GG} (hΓ : GF Γ) {m mF : MM} {x : Nat} {l1 : Int32} {l2 : Int32} (hT : (m.K x).1 = 1) {r : Int32} (h : f_X0_bribe x l1 l2 m = some (r, mF)) : Ct Γ kX0_bribe cX0_bribe [.ref x, .int l1, .int l2] m (.inl (some (.int r))) mF := by
  unfold f_X0_bribe at h
  replace h := bd_of h; obtain ⟨q, e, h⟩ := h
  have H := rx_go_ind (P := p_X0_bribe Γ m mF x l1 l2 r) (fun z o hs Hl Hr => by
    match z with
    | (l3, m) => exact fun hT => w_X0_bribe_41 hΓ hT hs Hl Hr) h
  exact Ct.of (κ := kX0_bribe) (by decide) rfl (Nat.le_of_ble_eq_true rfl) rfl (w_X0_bribe_0 hΓ hT e H.1 H.2)
def p_X0_fewestOf (Γ : GG) (m0 mF : MM) (x : Nat) (l1 : Option Nat) (r : Int32) : ((Int32 × Int32 × MM)) → Prop := fun z => match z with
  | (l2, l3, m) => (m.K x).1 = 1 → G Γ kX0_fewestOf cX0_fewestOf m0 mF (.inl (some (.int r))) m 4 [some (.ref x), some (va_rf l1), some (.int l2), some (.int l3), none] []
set_option maxHeartbeats 4000000 in
theorem w_X0_fewestOf_42 {Γ : GG} (hΓ : GF Γ) {m0 mF m : MM} {x : Nat} {l1 : Option Nat} {l2 : Int32} {l3 : Int32} {s0 : Int32} (hT : (m.K x).1 = 1) {r : Int32} {q : ((Int32 × Int32 × MM)) ⊕ (Int32 × MM)} (h : b_X0_fewestOf_42 x l1 l2 l3 s0 m = some q) (Hl : ∀ z, q = .inl z → p_X0_fewestOf Γ m0 mF x l1 r z) (Hr : ∀ z, q = .inr z → z = (r, mF)) : G Γ kX0_fewestOf cX0_fewestOf m0 mF (.inl (some (.int r))) m 42 [some (.ref x), some (va_rf l1), some (.int l2), some (.int l3), none] [.int s0] := by
  unfold b_X0_fewestOf_42 at h
  refine g_istore dX0_fewestOf_42 (Nat.le_of_ble_eq_true rfl) rfl ?_
  dsimp only [List.set]
  refine g_iload dX0_fewestOf_44 rfl ?_
  replace h := ite_of h; rcases h with ⟨hc, h⟩ | ⟨hc, h⟩
  · refine g_ifneF dX0_fewestOf_46 rfl hc ?_
    refine g_ic 0 dX0_fewestOf_49 rfl ?_
    cases h
    cases Hr _ rfl
    exact g_iret rfl dX0_fewestOf_50
  · refine g_ifneT dX0_fewestOf_46 rfl hc ?_
    refine g_iload_n 2 dX0_fewestOf_51 rfl rfl ?_
    refine g_iload dX0_fewestOf_52 rfl ?_
    refine g_iadd dX0_fewestOf_54 ?_
    refine g_istore_n 2 dX0_fewestOf_55 rfl (Nat.le_of_ble_eq_true rfl) (lvC_rf rfl) ?_
    dsimp only [List.set]
    refine g_iinc (l3 + (1 : Int32)) dX0_fewestOf_56 rfl rfl (Nat.le_of_ble_eq_true rfl) rfl ?_
    dsimp only [List.set]
    refine g_goto dX0_fewestOf_59 rfl ?_
    cases h
    refine G.weak [true, true, true, true, false] rfl ?_
    exact Hl _ rfl hT
set_option maxHeartbeats 4000000 in
theorem w_X0_fewestOf_4 {Γ : GG} (hΓ : GF Γ) {m0 mF m : MM} {x : Nat} {l1 : Option Nat} {l2 : Int32} {l3 : Int32} (hT : (m.K x).1 = 1) {r : Int32} {q : ((Int32 × Int32 × MM)) ⊕ (Int32 × MM)} (h : b_X0_fewestOf_4 x l1 l2 l3 m = some q) (Hl : ∀ z, q = .inl z → p_X0_fewestOf Γ m0 mF x l1 r z) (Hr : ∀ z, q = .inr z → z = (r, mF)) : G Γ kX0_fewestOf cX0_fewestOf m0 mF (.inl (some (.int r))) m 4 [some (.ref x), some (va_rf l1), some (.int l2), some (.int l3), none] [] := by
  unfold b_X0_fewestOf_4 at h
  refine g_iload_n 3 dX0_fewestOf_4 rfl rfl ?_
  refine g_aload_n 1 dX0_fewestOf_5 rfl rfl ?_
  replace h := bd_of h; obtain ⟨v1, ev1, h⟩ := h
  refine g_fR hΓ.k fl_X0_62_X6 rfl ev1 dX0_fewestOf_6 ?_
  replace h := bd_of h; obtain ⟨v2, ev2, h⟩ := h
  refine g_alen (Nat.le_of_ble_eq_true rfl) ev2 dX0_fewestOf_9 ?_
  replace h := ite_of h; rcases h with ⟨hc, h⟩ | ⟨hc, h⟩
  · refine g_icgeT dX0_fewestOf_10 rfl hc ?_
    refine g_iload_n 2 dX0_fewestOf_62 rfl rfl ?_
    cases h
    cases Hr _ rfl
    exact g_iret rfl dX0_fewestOf_63
  · refine g_icgeF dX0_fewestOf_10 rfl hc ?_
    refine g_aload_n 1 dX0_fewestOf_13 rfl rfl ?_
    replace h := bd_of h; obtain ⟨v3, ev3, h⟩ := h
    refine g_fR hΓ.k fl_X0_62_X6 rfl ev3 dX0_fewestOf_14 ?_
    refine g_iload_n 3 dX0_fewestOf_17 rfl rfl ?_
    replace h := bd_of h; obtain ⟨v4, ev4, h⟩ := h
    refine g_iald ev4 dX0_fewestOf_18 ?_
    refine g_bi (8) dX0_fewestOf_19 rfl ?_
    replace h := ite_of h; rcases h with ⟨hc, h⟩ | ⟨hc, h⟩
    · refine g_icgeT dX0_fewestOf_21 rfl hc ?_
      refine g_this dX0_fewestOf_28 rfl ?_
      refine g_getR hΓ.k fl_X0_181_X0 rfl hT dX0_fewestOf_29 ?_
      refine g_aload_n 1 dX0_fewestOf_32 rfl rfl ?_
      replace h := bd_of h; obtain ⟨v5, ev5, h⟩ := h
      refine g_fR hΓ.k fl_X0_62_X6 rfl ev5 dX0_fewestOf_33 ?_
      refine g_iload_n 3 dX0_fewestOf_36 rfl rfl ?_
      replace h := bd_of h; obtain ⟨v6, ev6, h⟩ := h
      refine g_iald ev6 dX0_fewestOf_37 ?_
      refine g_bi (8) dX0_fewestOf_38 rfl ?_
      refine g_isub dX0_fewestOf_40 ?_
      replace h := bd_of h; obtain ⟨v7, ev7, h⟩ := h
      refine g_iald ev7 dX0_fewestOf_41 ?_
      refine G.weak [true, true, true, true, false] rfl ?_
      exact w_X0_fewestOf_42 hΓ hT h Hl Hr
    · refine g_icgeF dX0_fewestOf_21 rfl hc ?_
      refine g_ic 1 dX0_fewestOf_24 rfl ?_
      refine g_goto dX0_fewestOf_25 rfl ?_
      refine G.weak [true, true, true, true, false] rfl ?_
      exact w_X0_fewestOf_42 hΓ hT h Hl Hr
set_option maxHeartbeats 4000000 in
theorem w_X0_fewestOf_0 {Γ : GG} (hΓ : GF Γ) {m0 mF m : MM} {x : Nat} {l1 : Option Nat} (hT : (m.K x).1 = 1) {r : Int32} {q : ((Int32 × Int32 × MM)) ⊕ (Int32 × MM)} (h : b_X0_fewestOf_0 x l1 m = some q) (Hl : ∀ z, q = .inl z → p_X0_fewestOf Γ m0 mF x l1 r z) (Hr : ∀ z, q = .inr z → z = (r, mF)) : G Γ kX0_fewestOf cX0_fewestOf m0 mF (.inl (some (.int r))) m 0 [some (.ref x), some (va_rf l1), none, none, none] [] := by
  unfold b_X0_fewestOf_0 at h
  refine g_ic 0 dX0_fewestOf_0 rfl ?_
  refine g_istore_n 2 dX0_fewestOf_1 rfl (Nat.le_of_ble_eq_true rfl) (lvC_rf rfl) ?_
  dsimp only [List.set]
  refine g_ic 0 dX0_fewestOf_2 rfl ?_
  refine g_istore_n 3 dX0_fewestOf_3 rfl (Nat.le_of_ble_eq_true rfl) rfl ?_
  dsimp only [List.set]
  cases h
  refine G.weak [true, true, true, true, false] rfl ?_
  exact Hl _ rfl hT
theorem ct_X0_fewestOf {Γ : GG} (hΓ : GF Γ) {m mF : MM} {x : Nat} {l1 : Option Nat} (hT : (m.K x).1 = 1) {r : Int32} (h : f_X0_fewestOf x l1 m = some (r, mF)) : Ct Γ kX0_fewestOf cX0_fewestOf [.ref x, va_rf l1] m (.inl (some (.int r))) mF := by
  unfold f_X0_fewestOf at h
  replace h := bd_of h; obtain ⟨q, e, h⟩ := h
  have H := rx_go_ind (P := p_X0_fewestOf Γ m mF x l1 r) (fun z o hs Hl Hr => by
    match z with
    | (l2, l3, m) => exact fun hT => w_X0_fewestOf_4 hΓ hT hs Hl Hr) h
  exact Ct.of (κ := kX0_fewestOf) (by decide) rfl (by cases l1 <;> exact Nat.le_of_ble_eq_true rfl) rfl (by have w9 := w_X0_fewestOf_0 (m0 := m) hΓ hT e H.1 H.2; cases l1 <;> exact w9)
def p_X0_layFewest (Γ : GG) (m0 mF : MM) (x : Nat) (r : Unit) : ((Int32 × MM) ⊕ (Int32 × MM) ⊕ (Int32 × Int32 × MM) ⊕ (Int32 × Int32 × Int32 × MM)) → Prop := fun z => match z with
  | (.inl (l1, m)) => (m.K x).1 = 1 → G Γ kX0_layFewest cX0_layFewest m0 mF (.inl none) m 2 [some (.ref x), some (.int l1), none, none, none] []
  | (.inr (.inl (l1, m))) => (m.K x).1 = 1 → G Γ kX0_layFewest cX0_layFewest m0 mF (.inl none) m 23 [some (.ref x), some (.int l1), none, none, none] []
  | (.inr (.inr (.inl (l1, l2, m)))) => (m.K x).1 = 1 → G Γ kX0_layFewest cX0_layFewest m0 mF (.inl none) m 31 [some (.ref x), some (.int l1), some (.int l2), none, none] []
  | (.inr (.inr (.inr (l1, l2, l3, m)))) => (m.K x).1 = 1 → G Γ kX0_layFewest cX0_layFewest m0 mF (.inl none) m 47 [some (.ref x), some (.int l1), some (.int l2), some (.int l3), none] []
set_option maxHeartbeats 4000000 in
theorem w_X0_layFewest_129 {Γ : GG} (hΓ : GF Γ) {m0 mF m : MM} {x : Nat} {l2 : Int32} {l3 : Int32} {l4 : Int32} (hT : (m.K x).1 = 1) {r : Unit} {q : ((Int32 × MM) ⊕ (Int32 × MM) ⊕ (Int32 × Int32 × MM) ⊕ (Int32 × Int32 × Int32 × MM)) ⊕ (Unit × MM)} (h : b_X0_layFewest_129 x l2 l3 l4 m = some q) (Hl : ∀ z, q = .inl z → p_X0_layFewest Γ m0 mF x r z) (Hr : ∀ z, q = .inr z → z = (r, mF)) : G Γ kX0_layFewest cX0_layFewest m0 mF (.inl none) m 129 [some (.ref x), none, some (.int l2), some (.int l3), some (.int l4)] [] := by
  unfold b_X0_layFewest_129 at h
  refine g_this dX0_layFewest_129 rfl ?_
  refine g_getR hΓ.k fl_X0_181_X0 rfl hT dX0_layFewest_130 ?_
  refine g_iload_n 2 dX0_layFewest_133 rfl rfl ?_
  refine g_iload dX0_layFewest_134 rfl ?_
  replace h := bd_of h; obtain ⟨m1, em1, h⟩ := h
  refine g_iast em1 dX0_layFewest_136 ?_
  replace hT := (sI_ext em1).kd hT
  refine g_ic 1 dX0_layFewest_137 rfl ?_
  refine g_istore_n 1 dX0_layFewest_138 rfl (Nat.le_of_ble_eq_true rfl) rfl ?_
  dsimp only [List.set]
  refine g_iinc (l3 + (1 : Int32)) dX0_layFewest_139 rfl rfl (Nat.le_of_ble_eq_true rfl) rfl ?_
  dsimp only [List.set]
  refine g_goto dX0_layFewest_142 rfl ?_
  cases h
  refine G.weak [true, true, true, true, false] rfl ?_
  exact Hl _ rfl hT
set_option maxHeartbeats 4000000 in
theorem w_X0_layFewest_47 {Γ : GG} (hΓ : GF Γ) {m0 mF m : MM} {x : Nat} {l1 : Int32} {l2 : Int32} {l3 : Int32} (hT : (m.K x).1 = 1) {r : Unit} {q : ((Int32 × MM) ⊕ (Int32 × MM) ⊕ (Int32 × Int32 × MM) ⊕ (Int32 × Int32 × Int32 × MM)) ⊕ (Unit × MM)} (h : b_X0_layFewest_47 x l1 l2 l3 m = some q) (Hl : ∀ z, q = .inl z → p_X0_layFewest Γ m0 mF x r z) (Hr : ∀ z, q = .inr z → z = (r, mF)) : G Γ kX0_layFewest cX0_layFewest m0 mF (.inl none) m 47 [some (.ref x), some (.int l1), some (.int l2), some (.int l3), none] [] := by
  unfold b_X0_layFewest_47 at h
  refine g_iload_n 3 dX0_layFewest_47 rfl rfl ?_
  refine g_this dX0_layFewest_48 rfl ?_
  refine g_getR hΓ.k fl_X0_31_X0 rfl hT dX0_layFewest_49 ?_
  replace h := bd_of h; obtain ⟨v1, ev1, h⟩ := h
  refine g_fR hΓ.k fl_X0_35_X1 rfl ev1 dX0_layFewest_52 ?_
  refine g_iload_n 2 dX0_layFewest_55 rfl rfl ?_
  replace h := bd_of h; obtain ⟨a2, ea2, h⟩ := h
  obtain ⟨ea2, ka2⟩ := isK_of ea2
  cases ea2
  replace h := bd2_of h; obtain ⟨v3, m4, em4, h⟩ := h
  have C := ct_J2_get hΓ ka2 em4
  refine g_callVr hΓ.k vl_X0_51 ka2 C rfl rfl (Nat.le_of_ble_eq_true rfl) (Nat.le_of_ble_eq_true rfl) (Nat.le_of_ble_eq_true rfl) dX0_layFewest_56 ?_
  replace hT := (C.1).kd hT
  replace h := ite_of h; rcases h with ⟨hc, h⟩ | ⟨hc, h⟩
  · refine g_cast hΓ q986 ⟨rfl, by decide, _, _, rfl⟩ hc dX0_layFewest_59 ?_
    replace h := bd_of h; obtain ⟨v5, ev5, h⟩ := h
    refine g_fR hΓ.k fl_X0_57_X5 rfl ev5 dX0_layFewest_62 ?_
    replace h := bd_of h; obtain ⟨a6, ea6, h⟩ := h
    obtain ⟨ea6, ka6⟩ := isK_of ea6
    cases ea6
    replace h := bd2_of h; obtain ⟨v7, m8, em8, h⟩ := h
    have C := ct_J2_size hΓ ka6 em8
    refine g_callVi hΓ.k vl_X0_47 ka6 C rfl rfl (Nat.le_of_ble_eq_true rfl) (Nat.le_of_ble_eq_true rfl) (Nat.le_of_ble_eq_true rfl) dX0_layFewest_65 ?_
    replace hT := (C.1).kd hT
    replace h := ite_of h; rcases h with ⟨hc, h⟩ | ⟨hc, h⟩
    · refine g_icgeT dX0_layFewest_68 rfl hc ?_
      refine g_iinc (l2 + (1 : Int32)) dX0_layFewest_145 rfl rfl (Nat.le_of_ble_eq_true rfl) rfl ?_
      dsimp only [List.set]
      refine g_goto dX0_layFewest_148 rfl ?_
      cases h
      refine G.weak [true, true, true, false, false] rfl ?_
      exact Hl _ rfl hT
    · refine g_icgeF dX0_layFewest_68 rfl hc ?_
      refine g_this dX0_layFewest_71 rfl ?_
      refine g_this dX0_layFewest_72 rfl ?_
      refine g_getR hΓ.k fl_X0_31_X0 rfl hT dX0_layFewest_73 ?_
      replace h := bd_of h; obtain ⟨v9, ev9, h⟩ := h
      refine g_fR hΓ.k fl_X0_35_X1 rfl ev9 dX0_layFewest_76 ?_
      refine g_iload_n 2 dX0_layFewest_79 rfl rfl ?_
      replace h := bd_of h; obtain ⟨a10, ea10, h⟩ := h
      obtain ⟨ea10, ka10⟩ := isK_of ea10
      cases ea10
      replace h := bd2_of h; obtain ⟨v11, m12, em12, h⟩ := h
      have C := ct_J2_get hΓ ka10 em12
      refine g_callVr hΓ.k vl_X0_51 ka10 C rfl rfl (Nat.le_of_ble_eq_true rfl) (Nat.le_of_ble_eq_true rfl) (Nat.le_of_ble_eq_true rfl) dX0_layFewest_80 ?_
      replace hT := (C.1).kd hT
      replace h := ite_of h; rcases h with ⟨hc, h⟩ | ⟨hc, h⟩
      · refine g_cast hΓ q986 ⟨rfl, by decide, _, _, rfl⟩ hc dX0_layFewest_83 ?_
        replace h := bd_of h; obtain ⟨v13, ev13, h⟩ := h
        refine g_fR hΓ.k fl_X0_57_X5 rfl ev13 dX0_layFewest_86 ?_
        refine g_iload_n 3 dX0_layFewest_89 rfl rfl ?_
        replace h := bd_of h; obtain ⟨a14, ea14, h⟩ := h
        obtain ⟨ea14, ka14⟩ := isK_of ea14
        cases ea14
        replace h := bd2_of h; obtain ⟨v15, m16, em16, h⟩ := h
        have C := ct_J2_get hΓ ka14 em16
        refine g_callVr hΓ.k vl_X0_51 ka14 C rfl rfl (Nat.le_of_ble_eq_true rfl) (Nat.le_of_ble_eq_true rfl) (Nat.le_of_ble_eq_true rfl) dX0_layFewest_90 ?_
        replace hT := (C.1).kd hT
        replace h := ite_of h; rcases h with ⟨hc, h⟩ | ⟨hc, h⟩
        · refine g_cast hΓ q987 ⟨rfl, by decide, _, _, rfl⟩ hc dX0_layFewest_93 ?_
          replace h := bd2_of h; obtain ⟨v17, m18, em18, h⟩ := h
          have C := ct_X0_fewestOf hΓ hT em18
          refine g_callVi hΓ.k vl_X0_310 hT C rfl rfl (Nat.le_of_ble_eq_true rfl) (Nat.le_of_ble_eq_true rfl) (Nat.le_of_ble_eq_true rfl) dX0_layFewest_96 ?_
          replace hT := (C.1).kd hT
          refine g_istore dX0_layFewest_99 (Nat.le_of_ble_eq_true rfl) rfl ?_
          dsimp only [List.set]
          refine g_iload dX0_layFewest_101 rfl ?_
          replace h := ite_of h; rcases h with ⟨hc, h⟩ | ⟨hc, h⟩
          · refine g_ifeqT dX0_layFewest_103 rfl hc ?_
            refine g_iinc (l3 + (1 : Int32)) dX0_layFewest_139 rfl rfl (Nat.le_of_ble_eq_true rfl) rfl ?_
            dsimp only [List.set]
            refine g_goto dX0_layFewest_142 rfl ?_
            cases h
            refine G.weak [true, true, true, true, false] rfl ?_
            exact Hl _ rfl hT
          · refine g_ifeqF dX0_layFewest_103 rfl hc ?_
            refine g_this dX0_layFewest_106 rfl ?_
            refine g_getR hΓ.k fl_X0_181_X0 rfl hT dX0_layFewest_107 ?_
            refine g_iload_n 2 dX0_layFewest_110 rfl rfl ?_
            replace h := bd_of h; obtain ⟨v19, ev19, h⟩ := h
            refine g_iald ev19 dX0_layFewest_111 ?_
            replace h := ite_of h; rcases h with ⟨hc, h⟩ | ⟨hc, h⟩
            · refine g_ifleT dX0_layFewest_112 rfl hc ?_
              refine G.weak [true, false, true, true, true] rfl ?_
              exact w_X0_layFewest_129 hΓ hT h Hl Hr
            · refine g_ifleF dX0_layFewest_112 rfl hc ?_
              refine g_iload dX0_layFewest_115 rfl ?_
              refine g_this dX0_layFewest_117 rfl ?_
              refine g_getR hΓ.k fl_X0_181_X0 rfl hT dX0_layFewest_118 ?_
              refine g_iload_n 2 dX0_layFewest_121 rfl rfl ?_
              replace h := bd_of h; obtain ⟨v20, ev20, h⟩ := h
              refine g_iald ev20 dX0_layFewest_122 ?_
              replace h := ite_of h; rcases h with ⟨hc, h⟩ | ⟨hc, h⟩
              · refine g_icltT dX0_layFewest_123 rfl hc ?_
                refine G.weak [true, false, true, true, true] rfl ?_
                exact w_X0_layFewest_129 hΓ hT h Hl Hr
              · refine g_icltF dX0_layFewest_123 rfl hc ?_
                refine g_goto dX0_layFewest_126 rfl ?_
                refine g_iinc (l3 + (1 : Int32)) dX0_layFewest_139 rfl rfl (Nat.le_of_ble_eq_true rfl) rfl ?_
                dsimp only [List.set]
                refine g_goto dX0_layFewest_142 rfl ?_
                cases h
                refine G.weak [true, true, true, true, false] rfl ?_
                exact Hl _ rfl hT
        · cases h
      · cases h
  · cases h
set_option maxHeartbeats 4000000 in
theorem w_X0_layFewest_31 {Γ : GG} (hΓ : GF Γ) {m0 mF m : MM} {x : Nat} {l1 : Int32} {l2 : Int32} (hT : (m.K x).1 = 1) {r : Unit} {q : ((Int32 × MM) ⊕ (Int32 × MM) ⊕ (Int32 × Int32 × MM) ⊕ (Int32 × Int32 × Int32 × MM)) ⊕ (Unit × MM)} (h : b_X0_layFewest_31 x l1 l2 m = some q) (Hl : ∀ z, q = .inl z → p_X0_layFewest Γ m0 mF x r z) (Hr : ∀ z, q = .inr z → z = (r, mF)) : G Γ kX0_layFewest cX0_layFewest m0 mF (.inl none) m 31 [some (.ref x), some (.int l1), some (.int l2), none, none] [] := by
  unfold b_X0_layFewest_31 at h
  refine g_iload_n 2 dX0_layFewest_31 rfl rfl ?_
  refine g_this dX0_layFewest_32 rfl ?_
  refine g_getR hΓ.k fl_X0_31_X0 rfl hT dX0_layFewest_33 ?_
  replace h := bd_of h; obtain ⟨v1, ev1, h⟩ := h
  refine g_fR hΓ.k fl_X0_35_X1 rfl ev1 dX0_layFewest_36 ?_
  replace h := bd_of h; obtain ⟨a2, ea2, h⟩ := h
  obtain ⟨ea2, ka2⟩ := isK_of ea2
  cases ea2
  replace h := bd2_of h; obtain ⟨v3, m4, em4, h⟩ := h
  have C := ct_J2_size hΓ ka2 em4
  refine g_callVi hΓ.k vl_X0_47 ka2 C rfl rfl (Nat.le_of_ble_eq_true rfl) (Nat.le_of_ble_eq_true rfl) (Nat.le_of_ble_eq_true rfl) dX0_layFewest_39 ?_
  replace hT := (C.1).kd hT
  replace h := ite_of h; rcases h with ⟨hc, h⟩ | ⟨hc, h⟩
  · refine g_icgeT dX0_layFewest_42 rfl hc ?_
    refine g_goto dX0_layFewest_151 rfl ?_
    cases h
    refine G.weak [true, true, false, false, false] rfl ?_
    exact Hl _ rfl hT
  · refine g_icgeF dX0_layFewest_42 rfl hc ?_
    refine g_ic 0 dX0_layFewest_45 rfl ?_
    refine g_istore_n 3 dX0_layFewest_46 rfl (Nat.le_of_ble_eq_true rfl) rfl ?_
    dsimp only [List.set]
    cases h
    refine G.weak [true, true, true, true, false] rfl ?_
    exact Hl _ rfl hT
set_option maxHeartbeats 4000000 in
theorem w_X0_layFewest_23 {Γ : GG} (hΓ : GF Γ) {m0 mF m : MM} {x : Nat} {l1 : Int32} (hT : (m.K x).1 = 1) {r : Unit} {q : ((Int32 × MM) ⊕ (Int32 × MM) ⊕ (Int32 × Int32 × MM) ⊕ (Int32 × Int32 × Int32 × MM)) ⊕ (Unit × MM)} (h : b_X0_layFewest_23 x l1 m = some q) (Hl : ∀ z, q = .inl z → p_X0_layFewest Γ m0 mF x r z) (Hr : ∀ z, q = .inr z → z = (r, mF)) : G Γ kX0_layFewest cX0_layFewest m0 mF (.inl none) m 23 [some (.ref x), some (.int l1), none, none, none] [] := by
  unfold b_X0_layFewest_23 at h
  refine g_iload_n 1 dX0_layFewest_23 rfl rfl ?_
  replace h := ite_of h; rcases h with ⟨hc, h⟩ | ⟨hc, h⟩
  · refine g_ifeqT dX0_layFewest_24 rfl hc ?_
    cases h
    cases Hr _ rfl
    exact g_vret rfl dX0_layFewest_154
  · refine g_ifeqF dX0_layFewest_24 rfl hc ?_
    refine g_ic 0 dX0_layFewest_27 rfl ?_
    refine g_istore_n 1 dX0_layFewest_28 rfl (Nat.le_of_ble_eq_true rfl) rfl ?_
    dsimp only [List.set]
    refine g_ic 0 dX0_layFewest_29 rfl ?_
    refine g_istore_n 2 dX0_layFewest_30 rfl (Nat.le_of_ble_eq_true rfl) rfl ?_
    dsimp only [List.set]
    cases h
    refine G.weak [true, true, true, false, false] rfl ?_
    exact Hl _ rfl hT
set_option maxHeartbeats 4000000 in
theorem w_X0_layFewest_2 {Γ : GG} (hΓ : GF Γ) {m0 mF m : MM} {x : Nat} {l1 : Int32} (hT : (m.K x).1 = 1) {r : Unit} {q : ((Int32 × MM) ⊕ (Int32 × MM) ⊕ (Int32 × Int32 × MM) ⊕ (Int32 × Int32 × Int32 × MM)) ⊕ (Unit × MM)} (h : b_X0_layFewest_2 x l1 m = some q) (Hl : ∀ z, q = .inl z → p_X0_layFewest Γ m0 mF x r z) (Hr : ∀ z, q = .inr z → z = (r, mF)) : G Γ kX0_layFewest cX0_layFewest m0 mF (.inl none) m 2 [some (.ref x), some (.int l1), none, none, none] [] := by
  unfold b_X0_layFewest_2 at h
  refine g_iload_n 1 dX0_layFewest_2 rfl rfl ?_
  refine g_bi (8) dX0_layFewest_3 rfl ?_
  replace h := ite_of h; rcases h with ⟨hc, h⟩ | ⟨hc, h⟩
  · refine g_icgeT dX0_layFewest_5 rfl hc ?_
    refine g_ic 1 dX0_layFewest_21 rfl ?_
    refine g_istore_n 1 dX0_layFewest_22 rfl (Nat.le_of_ble_eq_true rfl) rfl ?_
    dsimp only [List.set]
    cases h
    refine G.weak [true, true, false, false, false] rfl ?_
    exact Hl _ rfl hT
  · refine g_icgeF dX0_layFewest_5 rfl hc ?_
    refine g_this dX0_layFewest_8 rfl ?_
    refine g_getR hΓ.k fl_X0_181_X0 rfl hT dX0_layFewest_9 ?_
    refine g_iload_n 1 dX0_layFewest_12 rfl rfl ?_
    refine g_ic 0 dX0_layFewest_13 rfl ?_
    replace h := bd_of h; obtain ⟨m1, em1, h⟩ := h
    refine g_iast em1 dX0_layFewest_14 ?_
    replace hT := (sI_ext em1).kd hT
    refine g_iinc (l1 + (1 : Int32)) dX0_layFewest_15 rfl rfl (Nat.le_of_ble_eq_true rfl) rfl ?_
    dsimp only [List.set]
    refine g_goto dX0_layFewest_18 rfl ?_
    cases h
    refine G.weak [true, true, false, false, false] rfl ?_
    exact Hl _ rfl hT
set_option maxHeartbeats 4000000 in
theorem w_X0_layFewest_0 {Γ : GG} (hΓ : GF Γ) {m0 mF m : MM} {x : Nat} (hT : (m.K x).1 = 1) {r : Unit} {q : ((Int32 × MM) ⊕ (Int32 × MM) ⊕ (Int32 × Int32 × MM) ⊕ (Int32 × Int32 × Int32 × MM)) ⊕ (Unit × MM)} (h : b_X0_layFewest_0 x m = some q) (Hl : ∀ z, q = .inl z → p_X0_layFewest Γ m0 mF x r z) (Hr : ∀ z, q = .inr z → z = (r, mF)) : G Γ kX0_layFewest cX0_layFewest m0 mF (.inl none) m 0 [some (.ref x), none, none, none, none] [] := by
  unfold b_X0_layFewest_0 at h
  refine g_ic 0 dX0_layFewest_0 rfl ?_
  refine g_istore_n 1 dX0_layFewest_1 rfl (Nat.le_of_ble_eq_true rfl) rfl ?_
  dsimp only [List.set]
  cases h
  refine G.weak [true, true, false, false, false] rfl ?_
  exact Hl _ rfl hT
theorem ct_X0_layFewest {Γ : GG} (hΓ : GF Γ) {m mF : MM} {x : Nat} (hT : (m.K x).1 = 1) {r : Unit} (h : f_X0_layFewest x m = some (r, mF)) : Ct Γ kX0_layFewest cX0_layFewest [.ref x] m (.inl none) mF := by
  unfold f_X0_layFewest at h
  replace h := bd_of h; obtain ⟨q, e, h⟩ := h
  have H := rx_go_ind (P := p_X0_layFewest Γ m mF x r) (fun z o hs Hl Hr => by
    match z with
    | (.inl (l1, m)) => exact fun hT => w_X0_layFewest_2 hΓ hT hs Hl Hr
    | (.inr (.inl (l1, m))) => exact fun hT => w_X0_layFewest_23 hΓ hT hs Hl Hr
    | (.inr (.inr (.inl (l1, l2, m)))) => exact fun hT => w_X0_layFewest_31 hΓ hT hs Hl Hr
    | (.inr (.inr (.inr (l1, l2, l3, m)))) => exact fun hT => w_X0_layFewest_47 hΓ hT hs Hl Hr) h
  exact Ct.of (κ := kX0_layFewest) (by decide) rfl (Nat.le_of_ble_eq_true rfl) rfl (w_X0_layFewest_0 hΓ hT e H.1 H.2)
set_option maxHeartbeats 4000000 in
theorem w_X0_shortest_0 {Γ : GG} (hΓ : GF Γ) {m0 mF m : MM} {x : Nat} {l1 : Int32} (hT : (m.K x).1 = 1) {r : Int32} (h : b_X0_shortest_0 x l1 m = some (r, mF)) : G Γ kX0_shortest cX0_shortest m0 mF (.inl (some (.int r))) m 0 [some (.ref x), some (.int l1)] [] := by
  unfold b_X0_shortest_0 at h
  refine g_this dX0_shortest_0 rfl ?_
  replace h := bd2_of h; obtain ⟨_, m1, em1, h⟩ := h
  have C := ct_X0_layFewest hΓ hT em1
  refine g_callVv hΓ.k vl_X0_314 hT C rfl rfl (Nat.le_of_ble_eq_true rfl) (Nat.le_of_ble_eq_true rfl) (Nat.le_of_ble_eq_true rfl) dX0_shortest_1 ?_
  replace hT := (C.1).kd hT
  refine g_iload_n 1 dX0_shortest_4 rfl rfl ?_
  refine g_ic 0 dX0_shortest_5 rfl ?_
  refine g_this dX0_shortest_6 rfl ?_
  refine g_getR hΓ.k fl_X0_31_X0 rfl hT dX0_shortest_7 ?_
  replace h := bd_of h; obtain ⟨v2, ev2, h⟩ := h
  refine g_fR hΓ.k fl_X0_35_X1 rfl ev2 dX0_shortest_10 ?_
  replace h := bd_of h; obtain ⟨a3, ea3, h⟩ := h
  obtain ⟨ea3, ka3⟩ := isK_of ea3
  cases ea3
  replace h := bd2_of h; obtain ⟨v4, m5, em5, h⟩ := h
  have C := ct_J2_size hΓ ka3 em5
  refine g_callVi hΓ.k vl_X0_47 ka3 C rfl rfl (Nat.le_of_ble_eq_true rfl) (Nat.le_of_ble_eq_true rfl) (Nat.le_of_ble_eq_true rfl) dX0_shortest_13 ?_
  replace hT := (C.1).kd hT
  refine g_ic 1 dX0_shortest_16 rfl ?_
  refine g_isub dX0_shortest_17 ?_
  replace h := bd2_of h; obtain ⟨v6, m7, em7, h⟩ := h
  have C := ct_X0_isIn hΓ em7
  refine g_callSi sl_X0_235 C rfl rfl (Nat.le_of_ble_eq_true rfl) (Nat.le_of_ble_eq_true rfl) (Nat.le_of_ble_eq_true rfl) dX0_shortest_18 ?_
  replace hT := (C.1).kd hT
  replace h := ite_of h; rcases h with ⟨hc, h⟩ | ⟨hc, h⟩
  · refine g_ifeqT dX0_shortest_21 rfl hc ?_
    refine g_ic (-1) dX0_shortest_33 rfl ?_
    cases h
    exact g_iret rfl dX0_shortest_34
  · refine g_ifeqF dX0_shortest_21 rfl hc ?_
    refine g_this dX0_shortest_24 rfl ?_
    refine g_getR hΓ.k fl_X0_181_X0 rfl hT dX0_shortest_25 ?_
    refine g_iload_n 1 dX0_shortest_28 rfl rfl ?_
    replace h := bd_of h; obtain ⟨v8, ev8, h⟩ := h
    refine g_iald ev8 dX0_shortest_29 ?_
    refine g_goto dX0_shortest_30 rfl ?_
    cases h
    exact g_iret rfl dX0_shortest_34
theorem ct_X0_shortest {Γ : GG} (hΓ : GF Γ) {m mF : MM} {x : Nat} {l1 : Int32} (hT : (m.K x).1 = 1) {r : Int32} (h : f_X0_shortest x l1 m = some (r, mF)) : Ct Γ kX0_shortest cX0_shortest [.ref x, .int l1] m (.inl (some (.int r))) mF := by
  unfold f_X0_shortest at h
  exact Ct.of (κ := kX0_shortest) (by decide) rfl (Nat.le_of_ble_eq_true rfl) rfl (w_X0_shortest_0 hΓ hT h)
def p_X0_comesTo (Γ : GG) (m0 mF : MM) (x : Nat) (l1 : Int32) (r : Int32) : ((Int32 × Option Nat × Int32 × MM) ⊕ (Int32 × Option Nat × Int32 × Option Nat × Int32 × MM)) → Prop := fun z => match z with
  | (.inl (l2, l3, l4, m)) => (m.K x).1 = 1 → G Γ kX0_comesTo cX0_comesTo m0 mF (.inl (some (.int r))) m 20 [some (.ref x), some (.int l1), some (.int l2), some (va_rf l3), some (.int l4), none, none] []
  | (.inr (l2, l3, l4, l5, l6, m)) => (m.K x).1 = 1 → G Γ kX0_comesTo cX0_comesTo m0 mF (.inl (some (.int r))) m 49 [some (.ref x), some (.int l1), some (.int l2), some (va_rf l3), some (.int l4), some (va_rf l5), some (.int l6)] []
set_option maxHeartbeats 4000000 in
theorem w_X0_comesTo_49 {Γ : GG} (hΓ : GF Γ) {m0 mF m : MM} {x : Nat} {l1 : Int32} {l2 : Int32} {l3 : Option Nat} {l4 : Int32} {l5 : Option Nat} {l6 : Int32} (hT : (m.K x).1 = 1) {r : Int32} {q : ((Int32 × Option Nat × Int32 × MM) ⊕ (Int32 × Option Nat × Int32 × Option Nat × Int32 × MM)) ⊕ (Int32 × MM)} (h : b_X0_comesTo_49 x l1 l2 l3 l4 l5 l6 m = some q) (Hl : ∀ z, q = .inl z → p_X0_comesTo Γ m0 mF x l1 r z) (Hr : ∀ z, q = .inr z → z = (r, mF)) : G Γ kX0_comesTo cX0_comesTo m0 mF (.inl (some (.int r))) m 49 [some (.ref x), some (.int l1), some (.int l2), some (va_rf l3), some (.int l4), some (va_rf l5), some (.int l6)] [] := by
  unfold b_X0_comesTo_49 at h
  refine g_iload dX0_comesTo_49 rfl ?_
  refine g_aload dX0_comesTo_51 rfl ?_
  replace h := bd_of h; obtain ⟨v1, ev1, h⟩ := h
  refine g_fR hΓ.k fl_X0_62_X6 rfl ev1 dX0_comesTo_53 ?_
  replace h := bd_of h; obtain ⟨v2, ev2, h⟩ := h
  refine g_alen (Nat.le_of_ble_eq_true rfl) ev2 dX0_comesTo_56 ?_
  replace h := ite_of h; rcases h with ⟨hc, h⟩ | ⟨hc, h⟩
  · refine g_icgeT dX0_comesTo_57 rfl hc ?_
    refine g_iinc (l4 + (1 : Int32)) dX0_comesTo_108 rfl rfl (Nat.le_of_ble_eq_true rfl) (lvC_rf rfl) ?_
    dsimp only [List.set]
    refine g_goto dX0_comesTo_111 rfl ?_
    cases h
    refine G.weak [true, true, true, true, true, false, false] rfl ?_
    exact Hl _ rfl hT
  · refine g_icgeF dX0_comesTo_57 rfl hc ?_
    refine g_this dX0_comesTo_60 rfl ?_
    refine g_aload dX0_comesTo_61 rfl ?_
    replace h := bd2_of h; obtain ⟨v3, m4, em4, h⟩ := h
    have C := ct_X0_fewestOf hΓ hT em4
    refine g_callVi hΓ.k vl_X0_310 hT C rfl rfl (Nat.le_of_ble_eq_true rfl) (Nat.le_of_ble_eq_true rfl) (Nat.le_of_ble_eq_true rfl) dX0_comesTo_63 ?_
    replace hT := (C.1).kd hT
    replace h := ite_of h; rcases h with ⟨hc, h⟩ | ⟨hc, h⟩
    · refine g_ifleT dX0_comesTo_66 rfl hc ?_
      refine g_iinc (l4 + (1 : Int32)) dX0_comesTo_108 rfl rfl (Nat.le_of_ble_eq_true rfl) (lvC_rf rfl) ?_
      dsimp only [List.set]
      refine g_goto dX0_comesTo_111 rfl ?_
      cases h
      refine G.weak [true, true, true, true, true, false, false] rfl ?_
      exact Hl _ rfl hT
    · refine g_ifleF dX0_comesTo_66 rfl hc ?_
      refine g_iload_n 2 dX0_comesTo_69 rfl rfl ?_
      refine g_aload dX0_comesTo_70 rfl ?_
      replace h := bd_of h; obtain ⟨v5, ev5, h⟩ := h
      refine g_fR hΓ.k fl_X0_62_X6 rfl ev5 dX0_comesTo_72 ?_
      refine g_iload dX0_comesTo_75 rfl ?_
      replace h := bd_of h; obtain ⟨v6, ev6, h⟩ := h
      refine g_iald ev6 dX0_comesTo_77 ?_
      refine g_bi (8) dX0_comesTo_78 rfl ?_
      replace h := ite_of h; rcases h with ⟨hc, h⟩ | ⟨hc, h⟩
      · refine g_icgeT dX0_comesTo_80 rfl hc ?_
        refine g_ic 1 dX0_comesTo_87 rfl ?_
        refine g_aload dX0_comesTo_88 rfl ?_
        replace h := bd_of h; obtain ⟨v7, ev7, h⟩ := h
        refine g_fR hΓ.k fl_X0_62_X6 rfl ev7 dX0_comesTo_90 ?_
        refine g_iload dX0_comesTo_93 rfl ?_
        replace h := bd_of h; obtain ⟨v8, ev8, h⟩ := h
        refine g_iald ev8 dX0_comesTo_95 ?_
        refine g_bi (8) dX0_comesTo_96 rfl ?_
        refine g_isub dX0_comesTo_98 ?_
        refine g_ishl dX0_comesTo_99 ?_
        refine g_ior dX0_comesTo_100 ?_
        refine g_istore_n 2 dX0_comesTo_101 rfl (Nat.le_of_ble_eq_true rfl) rfl ?_
        dsimp only [List.set]
        refine g_iinc (l6 + (1 : Int32)) dX0_comesTo_102 rfl rfl (Nat.le_of_ble_eq_true rfl) (lvC_rf rfl) ?_
        dsimp only [List.set]
        refine g_goto dX0_comesTo_105 rfl ?_
        cases h
        refine G.weak [true, true, true, true, true, true, true] rfl ?_
        exact Hl _ rfl hT
      · refine g_icgeF dX0_comesTo_80 rfl hc ?_
        refine g_ic 0 dX0_comesTo_83 rfl ?_
        refine g_goto dX0_comesTo_84 rfl ?_
        refine g_ior dX0_comesTo_100 ?_
        refine g_istore_n 2 dX0_comesTo_101 rfl (Nat.le_of_ble_eq_true rfl) rfl ?_
        dsimp only [List.set]
        refine g_iinc (l6 + (1 : Int32)) dX0_comesTo_102 rfl rfl (Nat.le_of_ble_eq_true rfl) (lvC_rf rfl) ?_
        dsimp only [List.set]
        refine g_goto dX0_comesTo_105 rfl ?_
        cases h
        refine G.weak [true, true, true, true, true, true, true] rfl ?_
        exact Hl _ rfl hT
set_option maxHeartbeats 4000000 in
theorem w_X0_comesTo_20 {Γ : GG} (hΓ : GF Γ) {m0 mF m : MM} {x : Nat} {l1 : Int32} {l2 : Int32} {l3 : Option Nat} {l4 : Int32} (hT : (m.K x).1 = 1) {r : Int32} {q : ((Int32 × Option Nat × Int32 × MM) ⊕ (Int32 × Option Nat × Int32 × Option Nat × Int32 × MM)) ⊕ (Int32 × MM)} (h : b_X0_comesTo_20 x l1 l2 l3 l4 m = some q) (Hl : ∀ z, q = .inl z → p_X0_comesTo Γ m0 mF x l1 r z) (Hr : ∀ z, q = .inr z → z = (r, mF)) : G Γ kX0_comesTo cX0_comesTo m0 mF (.inl (some (.int r))) m 20 [some (.ref x), some (.int l1), some (.int l2), some (va_rf l3), some (.int l4), none, none] [] := by
  unfold b_X0_comesTo_20 at h
  refine g_iload dX0_comesTo_20 rfl ?_
  refine g_aload_n 3 dX0_comesTo_22 rfl rfl ?_
  replace h := bd_of h; obtain ⟨v1, ev1, h⟩ := h
  refine g_fR hΓ.k fl_X0_57_X5 rfl ev1 dX0_comesTo_23 ?_
  replace h := bd_of h; obtain ⟨a2, ea2, h⟩ := h
  obtain ⟨ea2, ka2⟩ := isK_of ea2
  cases ea2
  replace h := bd2_of h; obtain ⟨v3, m4, em4, h⟩ := h
  have C := ct_J2_size hΓ ka2 em4
  refine g_callVi hΓ.k vl_X0_47 ka2 C rfl rfl (Nat.le_of_ble_eq_true rfl) (Nat.le_of_ble_eq_true rfl) (Nat.le_of_ble_eq_true rfl) dX0_comesTo_26 ?_
  replace hT := (C.1).kd hT
  replace h := ite_of h; rcases h with ⟨hc, h⟩ | ⟨hc, h⟩
  · refine g_icgeT dX0_comesTo_29 rfl hc ?_
    refine g_iload_n 2 dX0_comesTo_114 rfl rfl ?_
    cases h
    cases Hr _ rfl
    exact g_iret rfl dX0_comesTo_115
  · refine g_icgeF dX0_comesTo_29 rfl hc ?_
    refine g_aload_n 3 dX0_comesTo_32 rfl rfl ?_
    replace h := bd_of h; obtain ⟨v5, ev5, h⟩ := h
    refine g_fR hΓ.k fl_X0_57_X5 rfl ev5 dX0_comesTo_33 ?_
    refine g_iload dX0_comesTo_36 rfl ?_
    replace h := bd_of h; obtain ⟨a6, ea6, h⟩ := h
    obtain ⟨ea6, ka6⟩ := isK_of ea6
    cases ea6
    replace h := bd2_of h; obtain ⟨v7, m8, em8, h⟩ := h
    have C := ct_J2_get hΓ ka6 em8
    refine g_callVr hΓ.k vl_X0_51 ka6 C rfl rfl (Nat.le_of_ble_eq_true rfl) (Nat.le_of_ble_eq_true rfl) (Nat.le_of_ble_eq_true rfl) dX0_comesTo_38 ?_
    replace hT := (C.1).kd hT
    replace h := ite_of h; rcases h with ⟨hc, h⟩ | ⟨hc, h⟩
    · refine g_cast hΓ q987 ⟨rfl, by decide, _, _, rfl⟩ hc dX0_comesTo_41 ?_
      refine g_astore dX0_comesTo_44 (Nat.le_of_ble_eq_true rfl) rfl ?_
      dsimp only [List.set]
      refine g_ic 0 dX0_comesTo_46 rfl ?_
      refine g_istore dX0_comesTo_47 (Nat.le_of_ble_eq_true rfl) (lvC_rf rfl) ?_
      dsimp only [List.set]
      cases h
      refine G.weak [true, true, true, true, true, true, true] rfl ?_
      exact Hl _ rfl hT
    · cases h
set_option maxHeartbeats 4000000 in
theorem w_X0_comesTo_0 {Γ : GG} (hΓ : GF Γ) {m0 mF m : MM} {x : Nat} {l1 : Int32} (hT : (m.K x).1 = 1) {r : Int32} {q : ((Int32 × Option Nat × Int32 × MM) ⊕ (Int32 × Option Nat × Int32 × Option Nat × Int32 × MM)) ⊕ (Int32 × MM)} (h : b_X0_comesTo_0 x l1 m = some q) (Hl : ∀ z, q = .inl z → p_X0_comesTo Γ m0 mF x l1 r z) (Hr : ∀ z, q = .inr z → z = (r, mF)) : G Γ kX0_comesTo cX0_comesTo m0 mF (.inl (some (.int r))) m 0 [some (.ref x), some (.int l1), none, none, none, none, none] [] := by
  unfold b_X0_comesTo_0 at h
  refine g_ic 0 dX0_comesTo_0 rfl ?_
  refine g_istore_n 2 dX0_comesTo_1 rfl (Nat.le_of_ble_eq_true rfl) rfl ?_
  dsimp only [List.set]
  refine g_this dX0_comesTo_2 rfl ?_
  refine g_getR hΓ.k fl_X0_31_X0 rfl hT dX0_comesTo_3 ?_
  replace h := bd_of h; obtain ⟨v1, ev1, h⟩ := h
  refine g_fR hΓ.k fl_X0_35_X1 rfl ev1 dX0_comesTo_6 ?_
  refine g_iload_n 1 dX0_comesTo_9 rfl rfl ?_
  replace h := bd_of h; obtain ⟨a2, ea2, h⟩ := h
  obtain ⟨ea2, ka2⟩ := isK_of ea2
  cases ea2
  replace h := bd2_of h; obtain ⟨v3, m4, em4, h⟩ := h
  have C := ct_J2_get hΓ ka2 em4
  refine g_callVr hΓ.k vl_X0_51 ka2 C rfl rfl (Nat.le_of_ble_eq_true rfl) (Nat.le_of_ble_eq_true rfl) (Nat.le_of_ble_eq_true rfl) dX0_comesTo_10 ?_
  replace hT := (C.1).kd hT
  replace h := ite_of h; rcases h with ⟨hc, h⟩ | ⟨hc, h⟩
  · refine g_cast hΓ q986 ⟨rfl, by decide, _, _, rfl⟩ hc dX0_comesTo_13 ?_
    refine g_astore_n 3 dX0_comesTo_16 rfl (Nat.le_of_ble_eq_true rfl) rfl ?_
    dsimp only [List.set]
    refine g_ic 0 dX0_comesTo_17 rfl ?_
    refine g_istore dX0_comesTo_18 (Nat.le_of_ble_eq_true rfl) (lvC_rf rfl) ?_
    dsimp only [List.set]
    cases h
    refine G.weak [true, true, true, true, true, false, false] rfl ?_
    exact Hl _ rfl hT
  · cases h
theorem ct_X0_comesTo {Γ : GG} (hΓ : GF Γ) {m mF : MM} {x : Nat} {l1 : Int32} (hT : (m.K x).1 = 1) {r : Int32} (h : f_X0_comesTo x l1 m = some (r, mF)) : Ct Γ kX0_comesTo cX0_comesTo [.ref x, .int l1] m (.inl (some (.int r))) mF := by
  unfold f_X0_comesTo at h
  replace h := bd_of h; obtain ⟨q, e, h⟩ := h
  have H := rx_go_ind (P := p_X0_comesTo Γ m mF x l1 r) (fun z o hs Hl Hr => by
    match z with
    | (.inl (l2, l3, l4, m)) => exact fun hT => w_X0_comesTo_20 hΓ hT hs Hl Hr
    | (.inr (l2, l3, l4, l5, l6, m)) => exact fun hT => w_X0_comesTo_49 hΓ hT hs Hl Hr) h
  exact Ct.of (κ := kX0_comesTo) (by decide) rfl (Nat.le_of_ble_eq_true rfl) rfl (w_X0_comesTo_0 hΓ hT e H.1 H.2)
def p_X0_used (Γ : GG) (m0 mF : MM) (x : Nat) (r : Int32) : ((Int32 × Int32 × MM) ⊕ (Int32 × Int32 × Int32 × MM)) → Prop := fun z => match z with
  | (.inl (l1, l2, m)) => (m.K x).1 = 1 → G Γ kX0_used cX0_used m0 mF (.inl (some (.int r))) m 32 [some (.ref x), some (.int l1), some (.int l2), none] []
  | (.inr (l1, l2, l3, m)) => (m.K x).1 = 1 → G Γ kX0_used cX0_used m0 mF (.inl (some (.int r))) m 41 [some (.ref x), some (.int l1), some (.int l2), some (.int l3)] []
set_option maxHeartbeats 4000000 in
theorem w_X0_used_41 {Γ : GG} (hΓ : GF Γ) {m0 mF m : MM} {x : Nat} {l1 : Int32} {l2 : Int32} {l3 : Int32} (hT : (m.K x).1 = 1) {r : Int32} {q : ((Int32 × Int32 × MM) ⊕ (Int32 × Int32 × Int32 × MM)) ⊕ (Int32 × MM)} (h : b_X0_used_41 x l1 l2 l3 m = some q) (Hl : ∀ z, q = .inl z → p_X0_used Γ m0 mF x r z) (Hr : ∀ z, q = .inr z → z = (r, mF)) : G Γ kX0_used cX0_used m0 mF (.inl (some (.int r))) m 41 [some (.ref x), some (.int l1), some (.int l2), some (.int l3)] [] := by
  unfold b_X0_used_41 at h
  refine g_iload_n 3 dX0_used_41 rfl rfl ?_
  refine g_this dX0_used_42 rfl ?_
  refine g_getR hΓ.k fl_X0_31_X0 rfl hT dX0_used_43 ?_
  replace h := bd_of h; obtain ⟨v1, ev1, h⟩ := h
  refine g_fR hΓ.k fl_X0_35_X1 rfl ev1 dX0_used_46 ?_
  replace h := bd_of h; obtain ⟨a2, ea2, h⟩ := h
  obtain ⟨ea2, ka2⟩ := isK_of ea2
  cases ea2
  replace h := bd2_of h; obtain ⟨v3, m4, em4, h⟩ := h
  have C := ct_J2_size hΓ ka2 em4
  refine g_callVi hΓ.k vl_X0_47 ka2 C rfl rfl (Nat.le_of_ble_eq_true rfl) (Nat.le_of_ble_eq_true rfl) (Nat.le_of_ble_eq_true rfl) dX0_used_49 ?_
  replace hT := (C.1).kd hT
  replace h := ite_of h; rcases h with ⟨hc, h⟩ | ⟨hc, h⟩
  · refine g_icgeT dX0_used_52 rfl hc ?_
    refine g_goto dX0_used_82 rfl ?_
    cases h
    refine G.weak [true, true, true, false] rfl ?_
    exact Hl _ rfl hT
  · refine g_icgeF dX0_used_52 rfl hc ?_
    refine g_iload_n 1 dX0_used_55 rfl rfl ?_
    refine g_iload_n 2 dX0_used_56 rfl rfl ?_
    refine g_iload_n 3 dX0_used_57 rfl rfl ?_
    refine g_ishr dX0_used_58 ?_
    refine g_ic 1 dX0_used_59 rfl ?_
    refine g_iand dX0_used_60 ?_
    refine g_ic 1 dX0_used_61 rfl ?_
    replace h := ite_of h; rcases h with ⟨hc, h⟩ | ⟨hc, h⟩
    · refine g_icneF dX0_used_62 rfl hc ?_
      refine g_this dX0_used_65 rfl ?_
      refine g_iload_n 3 dX0_used_66 rfl rfl ?_
      replace h := bd2_of h; obtain ⟨v5, m6, em6, h⟩ := h
      have C := ct_X0_comesTo hΓ hT em6
      refine g_callVi hΓ.k vl_X0_317 hT C rfl rfl (Nat.le_of_ble_eq_true rfl) (Nat.le_of_ble_eq_true rfl) (Nat.le_of_ble_eq_true rfl) dX0_used_67 ?_
      replace hT := (C.1).kd hT
      refine g_goto dX0_used_70 rfl ?_
      refine g_ior dX0_used_74 ?_
      refine g_istore_n 1 dX0_used_75 rfl (Nat.le_of_ble_eq_true rfl) rfl ?_
      dsimp only [List.set]
      refine g_iinc (l3 + (1 : Int32)) dX0_used_76 rfl rfl (Nat.le_of_ble_eq_true rfl) rfl ?_
      dsimp only [List.set]
      refine g_goto dX0_used_79 rfl ?_
      cases h
      refine G.weak [true, true, true, true] rfl ?_
      exact Hl _ rfl hT
    · refine g_icneT dX0_used_62 rfl hc ?_
      refine g_ic 0 dX0_used_73 rfl ?_
      refine g_ior dX0_used_74 ?_
      refine g_istore_n 1 dX0_used_75 rfl (Nat.le_of_ble_eq_true rfl) rfl ?_
      dsimp only [List.set]
      refine g_iinc (l3 + (1 : Int32)) dX0_used_76 rfl rfl (Nat.le_of_ble_eq_true rfl) rfl ?_
      dsimp only [List.set]
      refine g_goto dX0_used_79 rfl ?_
      cases h
      refine G.weak [true, true, true, true] rfl ?_
      exact Hl _ rfl hT
set_option maxHeartbeats 4000000 in
theorem w_X0_used_32 {Γ : GG} (hΓ : GF Γ) {m0 mF m : MM} {x : Nat} {l1 : Int32} {l2 : Int32} (hT : (m.K x).1 = 1) {r : Int32} {q : ((Int32 × Int32 × MM) ⊕ (Int32 × Int32 × Int32 × MM)) ⊕ (Int32 × MM)} (h : b_X0_used_32 x l1 l2 m = some q) (Hl : ∀ z, q = .inl z → p_X0_used Γ m0 mF x r z) (Hr : ∀ z, q = .inr z → z = (r, mF)) : G Γ kX0_used cX0_used m0 mF (.inl (some (.int r))) m 32 [some (.ref x), some (.int l1), some (.int l2), none] [] := by
  unfold b_X0_used_32 at h
  refine g_iload_n 1 dX0_used_32 rfl rfl ?_
  refine g_iload_n 2 dX0_used_33 rfl rfl ?_
  replace h := ite_of h; rcases h with ⟨hc, h⟩ | ⟨hc, h⟩
  · refine g_iceqT dX0_used_34 rfl hc ?_
    refine g_iload_n 1 dX0_used_85 rfl rfl ?_
    cases h
    cases Hr _ rfl
    exact g_iret rfl dX0_used_86
  · refine g_iceqF dX0_used_34 rfl hc ?_
    refine g_iload_n 1 dX0_used_37 rfl rfl ?_
    refine g_istore_n 2 dX0_used_38 rfl (Nat.le_of_ble_eq_true rfl) rfl ?_
    dsimp only [List.set]
    refine g_ic 0 dX0_used_39 rfl ?_
    refine g_istore_n 3 dX0_used_40 rfl (Nat.le_of_ble_eq_true rfl) rfl ?_
    dsimp only [List.set]
    cases h
    refine G.weak [true, true, true, true] rfl ?_
    exact Hl _ rfl hT
set_option maxHeartbeats 4000000 in
theorem w_X0_used_0 {Γ : GG} (hΓ : GF Γ) {m0 mF m : MM} {x : Nat} (hT : (m.K x).1 = 1) {r : Int32} {q : ((Int32 × Int32 × MM) ⊕ (Int32 × Int32 × Int32 × MM)) ⊕ (Int32 × MM)} (h : b_X0_used_0 x m = some q) (Hl : ∀ z, q = .inl z → p_X0_used Γ m0 mF x r z) (Hr : ∀ z, q = .inr z → z = (r, mF)) : G Γ kX0_used cX0_used m0 mF (.inl (some (.int r))) m 0 [some (.ref x), none, none, none] [] := by
  unfold b_X0_used_0 at h
  refine g_this dX0_used_0 rfl ?_
  replace h := bd2_of h; obtain ⟨_, m1, em1, h⟩ := h
  have C := ct_X0_layFewest hΓ hT em1
  refine g_callVv hΓ.k vl_X0_314 hT C rfl rfl (Nat.le_of_ble_eq_true rfl) (Nat.le_of_ble_eq_true rfl) (Nat.le_of_ble_eq_true rfl) dX0_used_1 ?_
  replace hT := (C.1).kd hT
  refine g_this dX0_used_4 rfl ?_
  refine g_getR hΓ.k fl_X0_31_X0 rfl hT dX0_used_5 ?_
  replace h := bd_of h; obtain ⟨v2, ev2, h⟩ := h
  refine g_fR hΓ.k fl_X0_35_X1 rfl ev2 dX0_used_8 ?_
  replace h := bd_of h; obtain ⟨a3, ea3, h⟩ := h
  obtain ⟨ea3, ka3⟩ := isK_of ea3
  cases ea3
  replace h := bd2_of h; obtain ⟨v4, m5, em5, h⟩ := h
  have C := ct_J2_isEmpty hΓ ka3 em5
  refine g_callVi hΓ.k vl_X0_41 ka3 C rfl rfl (Nat.le_of_ble_eq_true rfl) (Nat.le_of_ble_eq_true rfl) (Nat.le_of_ble_eq_true rfl) dX0_used_11 ?_
  replace hT := (C.1).kd hT
  replace h := ite_of h; rcases h with ⟨hc, h⟩ | ⟨hc, h⟩
  · refine g_ifneF dX0_used_14 rfl hc ?_
    refine g_this dX0_used_17 rfl ?_
    refine g_getR hΓ.k fl_X0_181_X0 rfl hT dX0_used_18 ?_
    refine g_ic 0 dX0_used_21 rfl ?_
    replace h := bd_of h; obtain ⟨v6, ev6, h⟩ := h
    refine g_iald ev6 dX0_used_22 ?_
    replace h := ite_of h; rcases h with ⟨hc, h⟩ | ⟨hc, h⟩
    · refine g_ifneF dX0_used_23 rfl hc ?_
      refine g_ic 0 dX0_used_26 rfl ?_
      cases h
      cases Hr _ rfl
      exact g_iret rfl dX0_used_27
    · refine g_ifneT dX0_used_23 rfl hc ?_
      refine g_ic 1 dX0_used_28 rfl ?_
      refine g_istore_n 1 dX0_used_29 rfl (Nat.le_of_ble_eq_true rfl) rfl ?_
      dsimp only [List.set]
      refine g_ic 0 dX0_used_30 rfl ?_
      refine g_istore_n 2 dX0_used_31 rfl (Nat.le_of_ble_eq_true rfl) rfl ?_
      dsimp only [List.set]
      cases h
      refine G.weak [true, true, true, false] rfl ?_
      exact Hl _ rfl hT
  · refine g_ifneT dX0_used_14 rfl hc ?_
    refine g_ic 0 dX0_used_26 rfl ?_
    cases h
    cases Hr _ rfl
    exact g_iret rfl dX0_used_27
theorem ct_X0_used {Γ : GG} (hΓ : GF Γ) {m mF : MM} {x : Nat} (hT : (m.K x).1 = 1) {r : Int32} (h : f_X0_used x m = some (r, mF)) : Ct Γ kX0_used cX0_used [.ref x] m (.inl (some (.int r))) mF := by
  unfold f_X0_used at h
  replace h := bd_of h; obtain ⟨q, e, h⟩ := h
  have H := rx_go_ind (P := p_X0_used Γ m mF x r) (fun z o hs Hl Hr => by
    match z with
    | (.inl (l1, l2, m)) => exact fun hT => w_X0_used_32 hΓ hT hs Hl Hr
    | (.inr (l1, l2, l3, m)) => exact fun hT => w_X0_used_41 hΓ hT hs Hl Hr) h
  exact Ct.of (κ := kX0_used) (by decide) rfl (Nat.le_of_ble_eq_true rfl) rfl (w_X0_used_0 hΓ hT e H.1 H.2)
def p_X0_doubtful (Γ : GG) (m0 mF : MM) (x : Nat) (r : Int32) : ((Int32 × MM)) → Prop := fun z => match z with
  | (l1, m) => (m.K x).1 = 1 → G Γ kX0_doubtful cX0_doubtful m0 mF (.inl (some (.int r))) m 32 [some (.ref x), some (.int l1), none] []
set_option maxHeartbeats 4000000 in
theorem w_X0_doubtful_32 {Γ : GG} (hΓ : GF Γ) {m0 mF m : MM} {x : Nat} {l1 : Int32} (hT : (m.K x).1 = 1) {r : Int32} {q : ((Int32 × MM)) ⊕ (Int32 × MM)} (h : b_X0_doubtful_32 x l1 m = some q) (Hl : ∀ z, q = .inl z → p_X0_doubtful Γ m0 mF x r z) (Hr : ∀ z, q = .inr z → z = (r, mF)) : G Γ kX0_doubtful cX0_doubtful m0 mF (.inl (some (.int r))) m 32 [some (.ref x), some (.int l1), none] [] := by
  unfold b_X0_doubtful_32 at h
  refine g_iload_n 1 dX0_doubtful_32 rfl rfl ?_
  refine g_this dX0_doubtful_33 rfl ?_
  refine g_getI hΓ.k fl_X0_91_X0 rfl hT dX0_doubtful_34 ?_
  replace h := ite_of h; rcases h with ⟨hc, h⟩ | ⟨hc, h⟩
  · refine g_icgeT dX0_doubtful_37 rfl hc ?_
    refine g_ic 0 dX0_doubtful_111 rfl ?_
    cases h
    cases Hr _ rfl
    exact g_iret rfl dX0_doubtful_112
  · refine g_icgeF dX0_doubtful_37 rfl hc ?_
    refine g_this dX0_doubtful_40 rfl ?_
    refine g_iload_n 1 dX0_doubtful_41 rfl rfl ?_
    replace h := bd2_of h; obtain ⟨v1, m2, em2, h⟩ := h
    have C := ct_X0_isWhole hΓ hT em2
    refine g_callVi hΓ.k vl_X0_132 hT C rfl rfl (Nat.le_of_ble_eq_true rfl) (Nat.le_of_ble_eq_true rfl) (Nat.le_of_ble_eq_true rfl) dX0_doubtful_42 ?_
    replace hT := (C.1).kd hT
    replace h := ite_of h; rcases h with ⟨hc, h⟩ | ⟨hc, h⟩
    · refine g_ifneF dX0_doubtful_45 rfl hc ?_
      refine g_goto dX0_doubtful_48 rfl ?_
      refine g_iinc (l1 + (1 : Int32)) dX0_doubtful_105 rfl rfl (Nat.le_of_ble_eq_true rfl) rfl ?_
      dsimp only [List.set]
      refine g_goto dX0_doubtful_108 rfl ?_
      cases h
      refine G.weak [true, true, false] rfl ?_
      exact Hl _ rfl hT
    · refine g_ifneT dX0_doubtful_45 rfl hc ?_
      refine g_this dX0_doubtful_51 rfl ?_
      refine g_this dX0_doubtful_52 rfl ?_
      refine g_iload_n 1 dX0_doubtful_53 rfl rfl ?_
      refine g_this dX0_doubtful_54 rfl ?_
      refine g_getR hΓ.k fl_X0_178_X0 rfl hT dX0_doubtful_55 ?_
      refine g_ic 0 dX0_doubtful_58 rfl ?_
      replace h := bd2_of h; obtain ⟨v3, m4, em4, h⟩ := h
      have C := ct_X0_pathOf hΓ hT em4
      refine g_callVr hΓ.k vl_X0_135 hT C rfl rfl (Nat.le_of_ble_eq_true rfl) (Nat.le_of_ble_eq_true rfl) (Nat.le_of_ble_eq_true rfl) dX0_doubtful_59 ?_
      replace hT := (C.1).kd hT
      refine g_this dX0_doubtful_62 rfl ?_
      refine g_getR hΓ.k fl_X0_31_X0 rfl hT dX0_doubtful_63 ?_
      replace h := bd_of h; obtain ⟨a5, ea5, h⟩ := h
      obtain ⟨ea5, ka5⟩ := isK_of ea5
      replace h := bd2_of h; obtain ⟨v6, m7, em7, h⟩ := h
      have C := ct_X1_most hΓ ka5 em7
      refine g_callVi hΓ.k vl_X0_65 ka5 C rfl (by rw [ea5]; rfl) (Nat.le_of_ble_eq_true rfl) (Nat.le_of_ble_eq_true rfl) (Nat.le_of_ble_eq_true rfl) dX0_doubtful_66 ?_
      replace hT := (C.1).kd hT
      replace h := bd2_of h; obtain ⟨_, m8, em8, h⟩ := h
      have C := ct_X0_load hΓ hT em8
      refine g_callVv hΓ.k vl_X0_104 hT C rfl rfl (Nat.le_of_ble_eq_true rfl) (Nat.le_of_ble_eq_true rfl) (Nat.le_of_ble_eq_true rfl) dX0_doubtful_69 ?_
      replace hT := (C.1).kd hT
      refine g_this dX0_doubtful_72 rfl ?_
      refine g_this dX0_doubtful_73 rfl ?_
      refine g_getR hΓ.k fl_X0_31_X0 rfl hT dX0_doubtful_74 ?_
      replace h := bd_of h; obtain ⟨a9, ea9, h⟩ := h
      obtain ⟨ea9, ka9⟩ := isK_of ea9
      replace h := bd2_of h; obtain ⟨v10, m11, em11, h⟩ := h
      have C := ct_X1_most hΓ ka9 em11
      refine g_callVi hΓ.k vl_X0_65 ka9 C rfl (by rw [ea9]; rfl) (Nat.le_of_ble_eq_true rfl) (Nat.le_of_ble_eq_true rfl) (Nat.le_of_ble_eq_true rfl) dX0_doubtful_77 ?_
      replace hT := (C.1).kd hT
      replace h := bd2_of h; obtain ⟨v12, m13, em13, h⟩ := h
      have C := ct_X0_readings hΓ hT em13
      refine g_callVl hΓ.k vl_X0_68 hT C rfl rfl (Nat.le_of_ble_eq_true rfl) (Nat.le_of_ble_eq_true rfl) (Nat.le_of_ble_eq_true rfl) dX0_doubtful_80 ?_
      replace hT := (C.1).kd hT
      refine g_l2i dX0_doubtful_83 ?_
      refine g_istore_n 2 dX0_doubtful_84 rfl (Nat.le_of_ble_eq_true rfl) rfl ?_
      dsimp only [List.set]
      refine g_iload_n 2 dX0_doubtful_85 rfl rfl ?_
      refine g_ic 2 dX0_doubtful_86 rfl ?_
      replace h := ite_of h; rcases h with ⟨hc, h⟩ | ⟨hc, h⟩
      · refine g_icgeT dX0_doubtful_87 rfl hc ?_
        refine g_this dX0_doubtful_93 rfl ?_
        refine g_iload_n 1 dX0_doubtful_94 rfl rfl ?_
        refine g_this dX0_doubtful_95 rfl ?_
        refine g_getR hΓ.k fl_X0_178_X0 rfl hT dX0_doubtful_96 ?_
        refine g_ic 0 dX0_doubtful_99 rfl ?_
        replace h := bd2_of h; obtain ⟨_, m14, em14, h⟩ := h
        have C := ct_X0_layDown hΓ hT em14
        refine g_callVv hΓ.k vl_X0_277 hT C rfl rfl (Nat.le_of_ble_eq_true rfl) (Nat.le_of_ble_eq_true rfl) (Nat.le_of_ble_eq_true rfl) dX0_doubtful_100 ?_
        replace hT := (C.1).kd hT
        refine g_iload_n 2 dX0_doubtful_103 rfl rfl ?_
        cases h
        cases Hr _ rfl
        exact g_iret rfl dX0_doubtful_104
      · refine g_icgeF dX0_doubtful_87 rfl hc ?_
        refine g_goto dX0_doubtful_90 rfl ?_
        refine g_iinc (l1 + (1 : Int32)) dX0_doubtful_105 rfl rfl (Nat.le_of_ble_eq_true rfl) rfl ?_
        dsimp only [List.set]
        refine g_goto dX0_doubtful_108 rfl ?_
        cases h
        refine G.weak [true, true, false] rfl ?_
        exact Hl _ rfl hT
set_option maxHeartbeats 4000000 in
theorem w_X0_doubtful_0 {Γ : GG} (hΓ : GF Γ) {m0 mF m : MM} {x : Nat} (hT : (m.K x).1 = 1) {r : Int32} {q : ((Int32 × MM)) ⊕ (Int32 × MM)} (h : b_X0_doubtful_0 x m = some q) (Hl : ∀ z, q = .inl z → p_X0_doubtful Γ m0 mF x r z) (Hr : ∀ z, q = .inr z → z = (r, mF)) : G Γ kX0_doubtful cX0_doubtful m0 mF (.inl (some (.int r))) m 0 [some (.ref x), none, none] [] := by
  unfold b_X0_doubtful_0 at h
  refine g_this dX0_doubtful_0 rfl ?_
  refine g_ic 0 dX0_doubtful_1 rfl ?_
  replace h := bd_of h; obtain ⟨m1, em1, h⟩ := h
  refine g_pI hΓ.k fl_X0_218_X0 (fun h9 => by cases h9) rfl (Or.inl ⟨rfl, rfl⟩) em1 dX0_doubtful_2 ?_
  replace hT := (pI_ext em1).kd hT
  refine g_this dX0_doubtful_5 rfl ?_
  refine g_this dX0_doubtful_6 rfl ?_
  refine g_getR hΓ.k fl_X0_178_X0 rfl hT dX0_doubtful_7 ?_
  refine g_ic 0 dX0_doubtful_10 rfl ?_
  refine g_null dX0_doubtful_11 ?_
  replace h := bd2_of h; obtain ⟨v2, m3, em3, h⟩ := h
  have C := ct_X0_layTree hΓ hT em3
  refine g_callVi hΓ.k vl_X0_269 hT C rfl rfl (Nat.le_of_ble_eq_true rfl) (Nat.le_of_ble_eq_true rfl) (Nat.le_of_ble_eq_true rfl) dX0_doubtful_12 ?_
  replace hT := (C.1).kd hT
  replace h := ite_of h; rcases h with ⟨hc, h⟩ | ⟨hc, h⟩
  · refine g_ifneF dX0_doubtful_15 rfl hc ?_
    refine g_ic 0 dX0_doubtful_18 rfl ?_
    cases h
    cases Hr _ rfl
    exact g_iret rfl dX0_doubtful_19
  · refine g_ifneT dX0_doubtful_15 rfl hc ?_
    refine g_this dX0_doubtful_20 rfl ?_
    refine g_getI hΓ.k fl_X0_83_X0 rfl hT dX0_doubtful_21 ?_
    replace h := ite_of h; rcases h with ⟨hc, h⟩ | ⟨hc, h⟩
    · refine g_ifeqT dX0_doubtful_24 rfl hc ?_
      refine g_ic 0 dX0_doubtful_30 rfl ?_
      refine g_istore_n 1 dX0_doubtful_31 rfl (Nat.le_of_ble_eq_true rfl) rfl ?_
      dsimp only [List.set]
      cases h
      refine G.weak [true, true, false] rfl ?_
      exact Hl _ rfl hT
    · refine g_ifeqF dX0_doubtful_24 rfl hc ?_
      refine g_bi (-2) dX0_doubtful_27 rfl ?_
      cases h
      cases Hr _ rfl
      exact g_iret rfl dX0_doubtful_29
theorem ct_X0_doubtful {Γ : GG} (hΓ : GF Γ) {m mF : MM} {x : Nat} (hT : (m.K x).1 = 1) {r : Int32} (h : f_X0_doubtful x m = some (r, mF)) : Ct Γ kX0_doubtful cX0_doubtful [.ref x] m (.inl (some (.int r))) mF := by
  unfold f_X0_doubtful at h
  replace h := bd_of h; obtain ⟨q, e, h⟩ := h
  have H := rx_go_ind (P := p_X0_doubtful Γ m mF x r) (fun z o hs Hl Hr => by
    match z with
    | (l1, m) => exact fun hT => w_X0_doubtful_32 hΓ hT hs Hl Hr) h
  exact Ct.of (κ := kX0_doubtful) (by decide) rfl (Nat.le_of_ble_eq_true rfl) rfl (w_X0_doubtful_0 hΓ hT e H.1 H.2)
def p_X0_writeBy (Γ : GG) (m0 mF : MM) (x : Nat) (l1 : Int32) (r : Int32) : ((Int32 × MM)) → Prop := fun z => match z with
  | (l2, m) => (m.K x).1 = 1 → G Γ kX0_writeBy cX0_writeBy m0 mF (.inl (some (.int r))) m 2 [some (.ref x), some (.int l1), some (.int l2)] []
set_option maxHeartbeats 4000000 in
theorem w_X0_writeBy_2 {Γ : GG} (hΓ : GF Γ) {m0 mF m : MM} {x : Nat} {l1 : Int32} {l2 : Int32} (hT : (m.K x).1 = 1) {r : Int32} {q : ((Int32 × MM)) ⊕ (Int32 × MM)} (h : b_X0_writeBy_2 x l1 l2 m = some q) (Hl : ∀ z, q = .inl z → p_X0_writeBy Γ m0 mF x l1 r z) (Hr : ∀ z, q = .inr z → z = (r, mF)) : G Γ kX0_writeBy cX0_writeBy m0 mF (.inl (some (.int r))) m 2 [some (.ref x), some (.int l1), some (.int l2)] [] := by
  unfold b_X0_writeBy_2 at h
  refine g_iload_n 2 dX0_writeBy_2 rfl rfl ?_
  refine g_bi (6) dX0_writeBy_3 rfl ?_
  replace h := ite_of h; rcases h with ⟨hc, h⟩ | ⟨hc, h⟩
  · refine g_icgeT dX0_writeBy_5 rfl hc ?_
    refine g_this dX0_writeBy_25 rfl ?_
    refine g_this dX0_writeBy_26 rfl ?_
    refine g_getR hΓ.k fl_X0_178_X0 rfl hT dX0_writeBy_27 ?_
    refine g_ic 0 dX0_writeBy_30 rfl ?_
    refine g_this dX0_writeBy_31 rfl ?_
    refine g_getR hΓ.k fl_X0_172_X0 rfl hT dX0_writeBy_32 ?_
    replace h := bd2_of h; obtain ⟨v1, m2, em2, h⟩ := h
    have C := ct_X0_write_2 hΓ hT em2
    refine g_callVi hΓ.k vl_X0_273 hT C rfl rfl (Nat.le_of_ble_eq_true rfl) (Nat.le_of_ble_eq_true rfl) (Nat.le_of_ble_eq_true rfl) dX0_writeBy_35 ?_
    replace hT := (C.1).kd hT
    cases h
    cases Hr _ rfl
    exact g_iret rfl dX0_writeBy_38
  · refine g_icgeF dX0_writeBy_5 rfl hc ?_
    refine g_this dX0_writeBy_8 rfl ?_
    refine g_getR hΓ.k fl_X0_172_X0 rfl hT dX0_writeBy_9 ?_
    refine g_iload_n 2 dX0_writeBy_12 rfl rfl ?_
    refine g_iload_n 1 dX0_writeBy_13 rfl rfl ?_
    refine g_iload_n 2 dX0_writeBy_14 rfl rfl ?_
    replace h := bd2_of h; obtain ⟨v3, m4, em4, h⟩ := h
    have C := ct_X0_byOrder hΓ em4
    refine g_callSi sl_X0_297 C rfl rfl (Nat.le_of_ble_eq_true rfl) (Nat.le_of_ble_eq_true rfl) (Nat.le_of_ble_eq_true rfl) dX0_writeBy_15 ?_
    replace hT := (C.1).kd hT
    replace h := bd_of h; obtain ⟨m5, em5, h⟩ := h
    refine g_iast em5 dX0_writeBy_18 ?_
    replace hT := (sI_ext em5).kd hT
    refine g_iinc (l2 + (1 : Int32)) dX0_writeBy_19 rfl rfl (Nat.le_of_ble_eq_true rfl) rfl ?_
    dsimp only [List.set]
    refine g_goto dX0_writeBy_22 rfl ?_
    cases h
    refine G.weak [true, true, true] rfl ?_
    exact Hl _ rfl hT
set_option maxHeartbeats 4000000 in
theorem w_X0_writeBy_0 {Γ : GG} (hΓ : GF Γ) {m0 mF m : MM} {x : Nat} {l1 : Int32} (hT : (m.K x).1 = 1) {r : Int32} {q : ((Int32 × MM)) ⊕ (Int32 × MM)} (h : b_X0_writeBy_0 x l1 m = some q) (Hl : ∀ z, q = .inl z → p_X0_writeBy Γ m0 mF x l1 r z) (Hr : ∀ z, q = .inr z → z = (r, mF)) : G Γ kX0_writeBy cX0_writeBy m0 mF (.inl (some (.int r))) m 0 [some (.ref x), some (.int l1), none] [] := by
  unfold b_X0_writeBy_0 at h
  refine g_ic 0 dX0_writeBy_0 rfl ?_
  refine g_istore_n 2 dX0_writeBy_1 rfl (Nat.le_of_ble_eq_true rfl) rfl ?_
  dsimp only [List.set]
  cases h
  refine G.weak [true, true, true] rfl ?_
  exact Hl _ rfl hT
theorem ct_X0_writeBy {Γ : GG} (hΓ : GF Γ) {m mF : MM} {x : Nat} {l1 : Int32} (hT : (m.K x).1 = 1) {r : Int32} (h : f_X0_writeBy x l1 m = some (r, mF)) : Ct Γ kX0_writeBy cX0_writeBy [.ref x, .int l1] m (.inl (some (.int r))) mF := by
  unfold f_X0_writeBy at h
  replace h := bd_of h; obtain ⟨q, e, h⟩ := h
  have H := rx_go_ind (P := p_X0_writeBy Γ m mF x l1 r) (fun z o hs Hl Hr => by
    match z with
    | (l2, m) => exact fun hT => w_X0_writeBy_2 hΓ hT hs Hl Hr) h
  exact Ct.of (κ := kX0_writeBy) (by decide) rfl (Nat.le_of_ble_eq_true rfl) rfl (w_X0_writeBy_0 hΓ hT e H.1 H.2)
def p_X0_lots (Γ : GG) (m0 mF : MM) (x : Nat) (l1 : Int32) (r : Int32) : ((Int32 × Int32 × MM)) → Prop := fun z => match z with
  | (l2, l3, m) => (m.K x).1 = 1 → G Γ kX0_lots cX0_lots m0 mF (.inl (some (.int r))) m 34 [some (.ref x), some (.int l1), some (.int l2), some (.int l3)] []
set_option maxHeartbeats 4000000 in
theorem w_X0_lots_34 {Γ : GG} (hΓ : GF Γ) {m0 mF m : MM} {x : Nat} {l1 : Int32} {l2 : Int32} {l3 : Int32} (hT : (m.K x).1 = 1) {r : Int32} {q : ((Int32 × Int32 × MM)) ⊕ (Int32 × MM)} (h : b_X0_lots_34 x l1 l2 l3 m = some q) (Hl : ∀ z, q = .inl z → p_X0_lots Γ m0 mF x l1 r z) (Hr : ∀ z, q = .inr z → z = (r, mF)) : G Γ kX0_lots cX0_lots m0 mF (.inl (some (.int r))) m 34 [some (.ref x), some (.int l1), some (.int l2), some (.int l3)] [] := by
  unfold b_X0_lots_34 at h
  refine g_iload_n 3 dX0_lots_34 rfl rfl ?_
  refine g_bi (6) dX0_lots_35 rfl ?_
  replace h := ite_of h; rcases h with ⟨hc, h⟩ | ⟨hc, h⟩
  · refine g_icgeT dX0_lots_37 rfl hc ?_
    refine g_iload_n 2 dX0_lots_64 rfl rfl ?_
    cases h
    cases Hr _ rfl
    exact g_iret rfl dX0_lots_65
  · refine g_icgeF dX0_lots_37 rfl hc ?_
    refine g_iload_n 2 dX0_lots_40 rfl rfl ?_
    refine g_this dX0_lots_41 rfl ?_
    refine g_this dX0_lots_42 rfl ?_
    refine g_iload_n 3 dX0_lots_43 rfl rfl ?_
    replace h := bd2_of h; obtain ⟨v1, m2, em2, h⟩ := h
    have C := ct_X0_writeBy hΓ hT em2
    refine g_callVi hΓ.k vl_X0_320 hT C rfl rfl (Nat.le_of_ble_eq_true rfl) (Nat.le_of_ble_eq_true rfl) (Nat.le_of_ble_eq_true rfl) dX0_lots_44 ?_
    replace hT := (C.1).kd hT
    refine g_this dX0_lots_47 rfl ?_
    refine g_getR hΓ.k fl_X0_178_X0 rfl hT dX0_lots_48 ?_
    refine g_ic 0 dX0_lots_51 rfl ?_
    refine g_iload_n 1 dX0_lots_52 rfl rfl ?_
    replace h := bd2_of h; obtain ⟨v3, m4, em4, h⟩ := h
    have C := ct_X0_meaningOf hΓ hT em4
    refine g_callVi hΓ.k vl_X0_143 hT C rfl rfl (Nat.le_of_ble_eq_true rfl) (Nat.le_of_ble_eq_true rfl) (Nat.le_of_ble_eq_true rfl) dX0_lots_53 ?_
    replace hT := (C.1).kd hT
    refine g_iadd dX0_lots_56 ?_
    refine g_istore_n 2 dX0_lots_57 rfl (Nat.le_of_ble_eq_true rfl) rfl ?_
    dsimp only [List.set]
    refine g_iinc (l3 + (1 : Int32)) dX0_lots_58 rfl rfl (Nat.le_of_ble_eq_true rfl) rfl ?_
    dsimp only [List.set]
    refine g_goto dX0_lots_61 rfl ?_
    cases h
    refine G.weak [true, true, true, true] rfl ?_
    exact Hl _ rfl hT
set_option maxHeartbeats 4000000 in
theorem w_X0_lots_0 {Γ : GG} (hΓ : GF Γ) {m0 mF m : MM} {x : Nat} {l1 : Int32} (hT : (m.K x).1 = 1) {r : Int32} {q : ((Int32 × Int32 × MM)) ⊕ (Int32 × MM)} (h : b_X0_lots_0 x l1 m = some q) (Hl : ∀ z, q = .inl z → p_X0_lots Γ m0 mF x l1 r z) (Hr : ∀ z, q = .inr z → z = (r, mF)) : G Γ kX0_lots cX0_lots m0 mF (.inl (some (.int r))) m 0 [some (.ref x), some (.int l1), none, none] [] := by
  unfold b_X0_lots_0 at h
  refine g_iload_n 1 dX0_lots_0 rfl rfl ?_
  replace h := bd2_of h; obtain ⟨v1, m2, em2, h⟩ := h
  have C := ct_X0_isGuild hΓ em2
  refine g_callSi sl_X0_242 C rfl rfl (Nat.le_of_ble_eq_true rfl) (Nat.le_of_ble_eq_true rfl) (Nat.le_of_ble_eq_true rfl) dX0_lots_1 ?_
  replace hT := (C.1).kd hT
  replace h := ite_of h; rcases h with ⟨hc, h⟩ | ⟨hc, h⟩
  · refine g_ifeqT dX0_lots_4 rfl hc ?_
    refine g_ldc (v := -1000000) q931 dX0_lots_27 ?_
    cases h
    cases Hr _ rfl
    exact g_iret rfl dX0_lots_29
  · refine g_ifeqF dX0_lots_4 rfl hc ?_
    refine g_this dX0_lots_7 rfl ?_
    refine g_this dX0_lots_8 rfl ?_
    refine g_getR hΓ.k fl_X0_178_X0 rfl hT dX0_lots_9 ?_
    refine g_ic 0 dX0_lots_12 rfl ?_
    refine g_null dX0_lots_13 ?_
    replace h := bd2_of h; obtain ⟨v3, m4, em4, h⟩ := h
    have C := ct_X0_layTree hΓ hT em4
    refine g_callVi hΓ.k vl_X0_269 hT C rfl rfl (Nat.le_of_ble_eq_true rfl) (Nat.le_of_ble_eq_true rfl) (Nat.le_of_ble_eq_true rfl) dX0_lots_14 ?_
    replace hT := (C.1).kd hT
    replace h := ite_of h; rcases h with ⟨hc, h⟩ | ⟨hc, h⟩
    · refine g_ifeqT dX0_lots_17 rfl hc ?_
      refine g_ldc (v := -1000000) q931 dX0_lots_27 ?_
      cases h
      cases Hr _ rfl
      exact g_iret rfl dX0_lots_29
    · refine g_ifeqF dX0_lots_17 rfl hc ?_
      refine g_this dX0_lots_20 rfl ?_
      refine g_getI hΓ.k fl_X0_83_X0 rfl hT dX0_lots_21 ?_
      replace h := ite_of h; rcases h with ⟨hc, h⟩ | ⟨hc, h⟩
      · refine g_ifeqT dX0_lots_24 rfl hc ?_
        refine g_ic 0 dX0_lots_30 rfl ?_
        refine g_istore_n 2 dX0_lots_31 rfl (Nat.le_of_ble_eq_true rfl) rfl ?_
        dsimp only [List.set]
        refine g_ic 0 dX0_lots_32 rfl ?_
        refine g_istore_n 3 dX0_lots_33 rfl (Nat.le_of_ble_eq_true rfl) rfl ?_
        dsimp only [List.set]
        cases h
        refine G.weak [true, true, true, true] rfl ?_
        exact Hl _ rfl hT
      · refine g_ifeqF dX0_lots_24 rfl hc ?_
        refine g_ldc (v := -1000000) q931 dX0_lots_27 ?_
        cases h
        cases Hr _ rfl
        exact g_iret rfl dX0_lots_29
theorem ct_X0_lots {Γ : GG} (hΓ : GF Γ) {m mF : MM} {x : Nat} {l1 : Int32} (hT : (m.K x).1 = 1) {r : Int32} (h : f_X0_lots x l1 m = some (r, mF)) : Ct Γ kX0_lots cX0_lots [.ref x, .int l1] m (.inl (some (.int r))) mF := by
  unfold f_X0_lots at h
  replace h := bd_of h; obtain ⟨q, e, h⟩ := h
  have H := rx_go_ind (P := p_X0_lots Γ m mF x l1 r) (fun z o hs Hl Hr => by
    match z with
    | (l2, l3, m) => exact fun hT => w_X0_lots_34 hΓ hT hs Hl Hr) h
  exact Ct.of (κ := kX0_lots) (by decide) rfl (Nat.le_of_ble_eq_true rfl) rfl (w_X0_lots_0 hΓ hT e H.1 H.2)
set_option maxHeartbeats 4000000 in
theorem w_X0_hole_0 {Γ : GG} (hΓ : GF Γ) {m0 mF m : MM} {x : Nat} {l1 : Int32} {l2 : Int32} (hT : (m.K x).1 = 1) {r : Int32} (h : b_X0_hole_0 x l1 l2 m = some (r, mF)) : G Γ kX0_hole cX0_hole m0 mF (.inl (some (.int r))) m 0 [some (.ref x), some (.int l1), some (.int l2)] [] := by
  unfold b_X0_hole_0 at h
  refine g_this dX0_hole_0 rfl ?_
  refine g_iload_n 1 dX0_hole_1 rfl rfl ?_
  replace h := bd2_of h; obtain ⟨v1, m2, em2, h⟩ := h
  have C := ct_X0_isPlace hΓ hT em2
  refine g_callVi hΓ.k vl_X0_260 hT C rfl rfl (Nat.le_of_ble_eq_true rfl) (Nat.le_of_ble_eq_true rfl) (Nat.le_of_ble_eq_true rfl) dX0_hole_2 ?_
  replace hT := (C.1).kd hT
  replace h := ite_of h; rcases h with ⟨hc, h⟩ | ⟨hc, h⟩
  · refine g_ifeqT dX0_hole_5 rfl hc ?_
    refine g_ic 0 dX0_hole_21 rfl ?_
    cases h
    exact g_zret rfl (by decide) dX0_hole_22
  · refine g_ifeqF dX0_hole_5 rfl hc ?_
    refine g_iload_n 2 dX0_hole_8 rfl rfl ?_
    refine g_ic (-1) dX0_hole_9 rfl ?_
    replace h := ite_of h; rcases h with ⟨hc, h⟩ | ⟨hc, h⟩
    · refine g_iceqT dX0_hole_10 rfl hc ?_
      refine g_this dX0_hole_23 rfl ?_
      refine g_getR hΓ.k fl_X0_184_X0 rfl hT dX0_hole_24 ?_
      refine g_iload_n 1 dX0_hole_27 rfl rfl ?_
      refine g_iload_n 2 dX0_hole_28 rfl rfl ?_
      replace h := bd_of h; obtain ⟨m3, em3, h⟩ := h
      refine g_iast em3 dX0_hole_29 ?_
      replace hT := (sI_ext em3).kd hT
      refine g_ic 1 dX0_hole_30 rfl ?_
      cases h
      exact g_zret rfl (by decide) dX0_hole_31
    · refine g_iceqF dX0_hole_10 rfl hc ?_
      refine g_this dX0_hole_13 rfl ?_
      refine g_iload_n 2 dX0_hole_14 rfl rfl ?_
      replace h := bd2_of h; obtain ⟨v4, m5, em5, h⟩ := h
      have C := ct_X0_isWord hΓ hT em5
      refine g_callVi hΓ.k vl_X0_239 hT C rfl rfl (Nat.le_of_ble_eq_true rfl) (Nat.le_of_ble_eq_true rfl) (Nat.le_of_ble_eq_true rfl) dX0_hole_15 ?_
      replace hT := (C.1).kd hT
      replace h := ite_of h; rcases h with ⟨hc, h⟩ | ⟨hc, h⟩
      · refine g_ifneF dX0_hole_18 rfl hc ?_
        refine g_ic 0 dX0_hole_21 rfl ?_
        cases h
        exact g_zret rfl (by decide) dX0_hole_22
      · refine g_ifneT dX0_hole_18 rfl hc ?_
        refine g_this dX0_hole_23 rfl ?_
        refine g_getR hΓ.k fl_X0_184_X0 rfl hT dX0_hole_24 ?_
        refine g_iload_n 1 dX0_hole_27 rfl rfl ?_
        refine g_iload_n 2 dX0_hole_28 rfl rfl ?_
        replace h := bd_of h; obtain ⟨m6, em6, h⟩ := h
        refine g_iast em6 dX0_hole_29 ?_
        replace hT := (sI_ext em6).kd hT
        refine g_ic 1 dX0_hole_30 rfl ?_
        cases h
        exact g_zret rfl (by decide) dX0_hole_31
theorem ct_X0_hole {Γ : GG} (hΓ : GF Γ) {m mF : MM} {x : Nat} {l1 : Int32} {l2 : Int32} (hT : (m.K x).1 = 1) {r : Int32} (h : f_X0_hole x l1 l2 m = some (r, mF)) : Ct Γ kX0_hole cX0_hole [.ref x, .int l1, .int l2] m (.inl (some (.int r))) mF := by
  unfold f_X0_hole at h
  exact Ct.of (κ := kX0_hole) (by decide) rfl (Nat.le_of_ble_eq_true rfl) rfl (w_X0_hole_0 hΓ hT h)
def p_X0_fit (Γ : GG) (m0 mF : MM) (x : Nat) (r : Int32) : ((Int32 × Int32 × MM)) → Prop := fun z => match z with
  | (l1, l2, m) => (m.K x).1 = 1 → G Γ kX0_fit cX0_fit m0 mF (.inl (some (.int r))) m 32 [some (.ref x), some (.int l1), some (.int l2)] []
set_option maxHeartbeats 4000000 in
theorem w_X0_fit_32 {Γ : GG} (hΓ : GF Γ) {m0 mF m : MM} {x : Nat} {l1 : Int32} {l2 : Int32} (hT : (m.K x).1 = 1) {r : Int32} {q : ((Int32 × Int32 × MM)) ⊕ (Int32 × MM)} (h : b_X0_fit_32 x l1 l2 m = some q) (Hl : ∀ z, q = .inl z → p_X0_fit Γ m0 mF x r z) (Hr : ∀ z, q = .inr z → z = (r, mF)) : G Γ kX0_fit cX0_fit m0 mF (.inl (some (.int r))) m 32 [some (.ref x), some (.int l1), some (.int l2)] [] := by
  unfold b_X0_fit_32 at h
  refine g_iload_n 2 dX0_fit_32 rfl rfl ?_
  refine g_this dX0_fit_33 rfl ?_
  refine g_getI hΓ.k fl_X0_91_X0 rfl hT dX0_fit_34 ?_
  replace h := ite_of h; rcases h with ⟨hc, h⟩ | ⟨hc, h⟩
  · refine g_icgeT dX0_fit_37 rfl hc ?_
    refine g_iload_n 1 dX0_fit_62 rfl rfl ?_
    cases h
    cases Hr _ rfl
    exact g_iret rfl dX0_fit_63
  · refine g_icgeF dX0_fit_37 rfl hc ?_
    refine g_iload_n 1 dX0_fit_40 rfl rfl ?_
    refine g_this dX0_fit_41 rfl ?_
    refine g_iload_n 2 dX0_fit_42 rfl rfl ?_
    replace h := bd2_of h; obtain ⟨v1, m2, em2, h⟩ := h
    have C := ct_X0_isWhole hΓ hT em2
    refine g_callVi hΓ.k vl_X0_132 hT C rfl rfl (Nat.le_of_ble_eq_true rfl) (Nat.le_of_ble_eq_true rfl) (Nat.le_of_ble_eq_true rfl) dX0_fit_43 ?_
    replace hT := (C.1).kd hT
    replace h := ite_of h; rcases h with ⟨hc, h⟩ | ⟨hc, h⟩
    · refine g_ifeqT dX0_fit_46 rfl hc ?_
      refine g_ic 0 dX0_fit_53 rfl ?_
      refine g_iadd dX0_fit_54 ?_
      refine g_istore_n 1 dX0_fit_55 rfl (Nat.le_of_ble_eq_true rfl) rfl ?_
      dsimp only [List.set]
      refine g_iinc (l2 + (1 : Int32)) dX0_fit_56 rfl rfl (Nat.le_of_ble_eq_true rfl) rfl ?_
      dsimp only [List.set]
      refine g_goto dX0_fit_59 rfl ?_
      cases h
      refine G.weak [true, true, true] rfl ?_
      exact Hl _ rfl hT
    · refine g_ifeqF dX0_fit_46 rfl hc ?_
      refine g_ic 1 dX0_fit_49 rfl ?_
      refine g_goto dX0_fit_50 rfl ?_
      refine g_iadd dX0_fit_54 ?_
      refine g_istore_n 1 dX0_fit_55 rfl (Nat.le_of_ble_eq_true rfl) rfl ?_
      dsimp only [List.set]
      refine g_iinc (l2 + (1 : Int32)) dX0_fit_56 rfl rfl (Nat.le_of_ble_eq_true rfl) rfl ?_
      dsimp only [List.set]
      refine g_goto dX0_fit_59 rfl ?_
      cases h
      refine G.weak [true, true, true] rfl ?_
      exact Hl _ rfl hT
set_option maxHeartbeats 4000000 in
theorem w_X0_fit_0 {Γ : GG} (hΓ : GF Γ) {m0 mF m : MM} {x : Nat} (hT : (m.K x).1 = 1) {r : Int32} {q : ((Int32 × Int32 × MM)) ⊕ (Int32 × MM)} (h : b_X0_fit_0 x m = some q) (Hl : ∀ z, q = .inl z → p_X0_fit Γ m0 mF x r z) (Hr : ∀ z, q = .inr z → z = (r, mF)) : G Γ kX0_fit cX0_fit m0 mF (.inl (some (.int r))) m 0 [some (.ref x), none, none] [] := by
  unfold b_X0_fit_0 at h
  refine g_this dX0_fit_0 rfl ?_
  refine g_this dX0_fit_1 rfl ?_
  refine g_getR hΓ.k fl_X0_178_X0 rfl hT dX0_fit_2 ?_
  refine g_ic 0 dX0_fit_5 rfl ?_
  refine g_this dX0_fit_6 rfl ?_
  refine g_getR hΓ.k fl_X0_184_X0 rfl hT dX0_fit_7 ?_
  replace h := bd2_of h; obtain ⟨v1, m2, em2, h⟩ := h
  have C := ct_X0_layTree hΓ hT em2
  refine g_callVi hΓ.k vl_X0_269 hT C rfl rfl (Nat.le_of_ble_eq_true rfl) (Nat.le_of_ble_eq_true rfl) (Nat.le_of_ble_eq_true rfl) dX0_fit_10 ?_
  replace hT := (C.1).kd hT
  replace h := ite_of h; rcases h with ⟨hc, h⟩ | ⟨hc, h⟩
  · refine g_ifneF dX0_fit_13 rfl hc ?_
    refine g_ic 0 dX0_fit_16 rfl ?_
    cases h
    cases Hr _ rfl
    exact g_iret rfl dX0_fit_17
  · refine g_ifneT dX0_fit_13 rfl hc ?_
    refine g_this dX0_fit_18 rfl ?_
    refine g_getI hΓ.k fl_X0_83_X0 rfl hT dX0_fit_19 ?_
    replace h := ite_of h; rcases h with ⟨hc, h⟩ | ⟨hc, h⟩
    · refine g_ifeqT dX0_fit_22 rfl hc ?_
      refine g_ic 0 dX0_fit_28 rfl ?_
      refine g_istore_n 1 dX0_fit_29 rfl (Nat.le_of_ble_eq_true rfl) rfl ?_
      dsimp only [List.set]
      refine g_ic 0 dX0_fit_30 rfl ?_
      refine g_istore_n 2 dX0_fit_31 rfl (Nat.le_of_ble_eq_true rfl) rfl ?_
      dsimp only [List.set]
      cases h
      refine G.weak [true, true, true] rfl ?_
      exact Hl _ rfl hT
    · refine g_ifeqF dX0_fit_22 rfl hc ?_
      refine g_bi (-2) dX0_fit_25 rfl ?_
      cases h
      cases Hr _ rfl
      exact g_iret rfl dX0_fit_27
theorem ct_X0_fit {Γ : GG} (hΓ : GF Γ) {m mF : MM} {x : Nat} (hT : (m.K x).1 = 1) {r : Int32} (h : f_X0_fit x m = some (r, mF)) : Ct Γ kX0_fit cX0_fit [.ref x] m (.inl (some (.int r))) mF := by
  unfold f_X0_fit at h
  replace h := bd_of h; obtain ⟨q, e, h⟩ := h
  have H := rx_go_ind (P := p_X0_fit Γ m mF x r) (fun z o hs Hl Hr => by
    match z with
    | (l1, l2, m) => exact fun hT => w_X0_fit_32 hΓ hT hs Hl Hr) h
  exact Ct.of (κ := kX0_fit) (by decide) rfl (Nat.le_of_ble_eq_true rfl) rfl (w_X0_fit_0 hΓ hT e H.1 H.2)
def p_X0_best (Γ : GG) (m0 mF : MM) (x : Nat) (l1 : Int32) (r : Int32) : ((Int32 × Int32 × MM)) → Prop := fun z => match z with
  | (l2, l3, m) => (m.K x).1 = 1 → G Γ kX0_best cX0_best m0 mF (.inl (some (.int r))) m 27 [some (.ref x), some (.int l1), some (.int l2), some (.int l3)] []
set_option maxHeartbeats 4000000 in
theorem w_X0_best_27 {Γ : GG} (hΓ : GF Γ) {m0 mF m : MM} {x : Nat} {l1 : Int32} {l2 : Int32} {l3 : Int32} (hT : (m.K x).1 = 1) {r : Int32} {q : ((Int32 × Int32 × MM)) ⊕ (Int32 × MM)} (h : b_X0_best_27 x l1 l2 l3 m = some q) (Hl : ∀ z, q = .inl z → p_X0_best Γ m0 mF x l1 r z) (Hr : ∀ z, q = .inr z → z = (r, mF)) : G Γ kX0_best cX0_best m0 mF (.inl (some (.int r))) m 27 [some (.ref x), some (.int l1), some (.int l2), some (.int l3)] [] := by
  unfold b_X0_best_27 at h
  refine g_iload_n 3 dX0_best_27 rfl rfl ?_
  refine g_this dX0_best_28 rfl ?_
  refine g_getI hΓ.k fl_X0_91_X0 rfl hT dX0_best_29 ?_
  replace h := ite_of h; rcases h with ⟨hc, h⟩ | ⟨hc, h⟩
  · refine g_icgeT dX0_best_32 rfl hc ?_
    refine g_this dX0_best_80 rfl ?_
    refine g_iload_n 2 dX0_best_81 rfl rfl ?_
    refine g_this dX0_best_82 rfl ?_
    refine g_getR hΓ.k fl_X0_178_X0 rfl hT dX0_best_83 ?_
    refine g_ic 0 dX0_best_86 rfl ?_
    replace h := bd2_of h; obtain ⟨_, m1, em1, h⟩ := h
    have C := ct_X0_layDown hΓ hT em1
    refine g_callVv hΓ.k vl_X0_277 hT C rfl rfl (Nat.le_of_ble_eq_true rfl) (Nat.le_of_ble_eq_true rfl) (Nat.le_of_ble_eq_true rfl) dX0_best_87 ?_
    replace hT := (C.1).kd hT
    refine g_this dX0_best_90 rfl ?_
    refine g_iload_n 2 dX0_best_91 rfl rfl ?_
    refine g_this dX0_best_92 rfl ?_
    refine g_getR hΓ.k fl_X0_178_X0 rfl hT dX0_best_93 ?_
    refine g_ic 0 dX0_best_96 rfl ?_
    refine g_iload_n 1 dX0_best_97 rfl rfl ?_
    replace h := bd2_of h; obtain ⟨v2, m3, em3, h⟩ := h
    have C := ct_X0_meaningOf hΓ hT em3
    refine g_callVi hΓ.k vl_X0_143 hT C rfl rfl (Nat.le_of_ble_eq_true rfl) (Nat.le_of_ble_eq_true rfl) (Nat.le_of_ble_eq_true rfl) dX0_best_98 ?_
    replace hT := (C.1).kd hT
    cases h
    cases Hr _ rfl
    exact g_iret rfl dX0_best_101
  · refine g_icgeF dX0_best_32 rfl hc ?_
    refine g_this dX0_best_35 rfl ?_
    refine g_iload_n 3 dX0_best_36 rfl rfl ?_
    replace h := bd2_of h; obtain ⟨v4, m5, em5, h⟩ := h
    have C := ct_X0_isWhole hΓ hT em5
    refine g_callVi hΓ.k vl_X0_132 hT C rfl rfl (Nat.le_of_ble_eq_true rfl) (Nat.le_of_ble_eq_true rfl) (Nat.le_of_ble_eq_true rfl) dX0_best_37 ?_
    replace hT := (C.1).kd hT
    replace h := ite_of h; rcases h with ⟨hc, h⟩ | ⟨hc, h⟩
    · refine g_ifeqT dX0_best_40 rfl hc ?_
      refine g_iinc (l3 + (1 : Int32)) dX0_best_74 rfl rfl (Nat.le_of_ble_eq_true rfl) rfl ?_
      dsimp only [List.set]
      refine g_goto dX0_best_77 rfl ?_
      cases h
      refine G.weak [true, true, true, true] rfl ?_
      exact Hl _ rfl hT
    · refine g_ifeqF dX0_best_40 rfl hc ?_
      refine g_iload_n 2 dX0_best_43 rfl rfl ?_
      replace h := ite_of h; rcases h with ⟨hc, h⟩ | ⟨hc, h⟩
      · refine g_ifltT dX0_best_44 rfl hc ?_
        refine g_iload_n 3 dX0_best_72 rfl rfl ?_
        refine g_istore_n 2 dX0_best_73 rfl (Nat.le_of_ble_eq_true rfl) rfl ?_
        dsimp only [List.set]
        refine g_iinc (l3 + (1 : Int32)) dX0_best_74 rfl rfl (Nat.le_of_ble_eq_true rfl) rfl ?_
        dsimp only [List.set]
        refine g_goto dX0_best_77 rfl ?_
        cases h
        refine G.weak [true, true, true, true] rfl ?_
        exact Hl _ rfl hT
      · refine g_ifltF dX0_best_44 rfl hc ?_
        refine g_this dX0_best_47 rfl ?_
        refine g_iload_n 3 dX0_best_48 rfl rfl ?_
        refine g_this dX0_best_49 rfl ?_
        refine g_getR hΓ.k fl_X0_178_X0 rfl hT dX0_best_50 ?_
        refine g_ic 0 dX0_best_53 rfl ?_
        refine g_iload_n 1 dX0_best_54 rfl rfl ?_
        replace h := bd2_of h; obtain ⟨v6, m7, em7, h⟩ := h
        have C := ct_X0_meaningOf hΓ hT em7
        refine g_callVi hΓ.k vl_X0_143 hT C rfl rfl (Nat.le_of_ble_eq_true rfl) (Nat.le_of_ble_eq_true rfl) (Nat.le_of_ble_eq_true rfl) dX0_best_55 ?_
        replace hT := (C.1).kd hT
        refine g_this dX0_best_58 rfl ?_
        refine g_iload_n 2 dX0_best_59 rfl rfl ?_
        refine g_this dX0_best_60 rfl ?_
        refine g_getR hΓ.k fl_X0_178_X0 rfl hT dX0_best_61 ?_
        refine g_ic 0 dX0_best_64 rfl ?_
        refine g_iload_n 1 dX0_best_65 rfl rfl ?_
        replace h := bd2_of h; obtain ⟨v8, m9, em9, h⟩ := h
        have C := ct_X0_meaningOf hΓ hT em9
        refine g_callVi hΓ.k vl_X0_143 hT C rfl rfl (Nat.le_of_ble_eq_true rfl) (Nat.le_of_ble_eq_true rfl) (Nat.le_of_ble_eq_true rfl) dX0_best_66 ?_
        replace hT := (C.1).kd hT
        replace h := ite_of h; rcases h with ⟨hc, h⟩ | ⟨hc, h⟩
        · refine g_icleT dX0_best_69 rfl hc ?_
          refine g_iinc (l3 + (1 : Int32)) dX0_best_74 rfl rfl (Nat.le_of_ble_eq_true rfl) rfl ?_
          dsimp only [List.set]
          refine g_goto dX0_best_77 rfl ?_
          cases h
          refine G.weak [true, true, true, true] rfl ?_
          exact Hl _ rfl hT
        · refine g_icleF dX0_best_69 rfl hc ?_
          refine g_iload_n 3 dX0_best_72 rfl rfl ?_
          refine g_istore_n 2 dX0_best_73 rfl (Nat.le_of_ble_eq_true rfl) rfl ?_
          dsimp only [List.set]
          refine g_iinc (l3 + (1 : Int32)) dX0_best_74 rfl rfl (Nat.le_of_ble_eq_true rfl) rfl ?_
          dsimp only [List.set]
          refine g_goto dX0_best_77 rfl ?_
          cases h
          refine G.weak [true, true, true, true] rfl ?_
          exact Hl _ rfl hT
set_option maxHeartbeats 4000000 in
theorem w_X0_best_0 {Γ : GG} (hΓ : GF Γ) {m0 mF m : MM} {x : Nat} {l1 : Int32} (hT : (m.K x).1 = 1) {r : Int32} {q : ((Int32 × Int32 × MM)) ⊕ (Int32 × MM)} (h : b_X0_best_0 x l1 m = some q) (Hl : ∀ z, q = .inl z → p_X0_best Γ m0 mF x l1 r z) (Hr : ∀ z, q = .inr z → z = (r, mF)) : G Γ kX0_best cX0_best m0 mF (.inl (some (.int r))) m 0 [some (.ref x), some (.int l1), none, none] [] := by
  unfold b_X0_best_0 at h
  refine g_this dX0_best_0 rfl ?_
  refine g_ic 0 dX0_best_1 rfl ?_
  replace h := bd_of h; obtain ⟨m1, em1, h⟩ := h
  refine g_pI hΓ.k fl_X0_218_X0 (fun h9 => by cases h9) rfl (Or.inl ⟨rfl, rfl⟩) em1 dX0_best_2 ?_
  replace hT := (pI_ext em1).kd hT
  refine g_iload_n 1 dX0_best_5 rfl rfl ?_
  replace h := bd2_of h; obtain ⟨v2, m3, em3, h⟩ := h
  have C := ct_X0_isGuild hΓ em3
  refine g_callSi sl_X0_242 C rfl rfl (Nat.le_of_ble_eq_true rfl) (Nat.le_of_ble_eq_true rfl) (Nat.le_of_ble_eq_true rfl) dX0_best_6 ?_
  replace hT := (C.1).kd hT
  replace h := ite_of h; rcases h with ⟨hc, h⟩ | ⟨hc, h⟩
  · refine g_ifeqT dX0_best_9 rfl hc ?_
    refine g_ldc (v := -1000000) q931 dX0_best_20 ?_
    cases h
    cases Hr _ rfl
    exact g_iret rfl dX0_best_22
  · refine g_ifeqF dX0_best_9 rfl hc ?_
    refine g_this dX0_best_12 rfl ?_
    replace h := bd2_of h; obtain ⟨v4, m5, em5, h⟩ := h
    have C := ct_X0_fit hΓ hT em5
    refine g_callVi hΓ.k vl_X0_323 hT C rfl rfl (Nat.le_of_ble_eq_true rfl) (Nat.le_of_ble_eq_true rfl) (Nat.le_of_ble_eq_true rfl) dX0_best_13 ?_
    replace hT := (C.1).kd hT
    refine g_ic 1 dX0_best_16 rfl ?_
    replace h := ite_of h; rcases h with ⟨hc, h⟩ | ⟨hc, h⟩
    · refine g_icgeT dX0_best_17 rfl hc ?_
      refine g_ic (-1) dX0_best_23 rfl ?_
      refine g_istore_n 2 dX0_best_24 rfl (Nat.le_of_ble_eq_true rfl) rfl ?_
      dsimp only [List.set]
      refine g_ic 0 dX0_best_25 rfl ?_
      refine g_istore_n 3 dX0_best_26 rfl (Nat.le_of_ble_eq_true rfl) rfl ?_
      dsimp only [List.set]
      cases h
      refine G.weak [true, true, true, true] rfl ?_
      exact Hl _ rfl hT
    · refine g_icgeF dX0_best_17 rfl hc ?_
      refine g_ldc (v := -1000000) q931 dX0_best_20 ?_
      cases h
      cases Hr _ rfl
      exact g_iret rfl dX0_best_22
theorem ct_X0_best {Γ : GG} (hΓ : GF Γ) {m mF : MM} {x : Nat} {l1 : Int32} (hT : (m.K x).1 = 1) {r : Int32} (h : f_X0_best x l1 m = some (r, mF)) : Ct Γ kX0_best cX0_best [.ref x, .int l1] m (.inl (some (.int r))) mF := by
  unfold f_X0_best at h
  replace h := bd_of h; obtain ⟨q, e, h⟩ := h
  have H := rx_go_ind (P := p_X0_best Γ m mF x l1 r) (fun z o hs Hl Hr => by
    match z with
    | (l2, l3, m) => exact fun hT => w_X0_best_27 hΓ hT hs Hl Hr) h
  exact Ct.of (κ := kX0_best) (by decide) rfl (Nat.le_of_ble_eq_true rfl) rfl (w_X0_best_0 hΓ hT e H.1 H.2)
def p_X0_canStrike (Γ : GG) (m0 mF : MM) (x : Nat) (l1 : Int32) (l2 : Int32) (r : Int32) : ((Int32 × MM)) → Prop := fun z => match z with
  | (l3, m) => (m.K x).1 = 1 → G Γ kX0_canStrike cX0_canStrike m0 mF (.inl (some (.int r))) m 2 [some (.ref x), some (.int l1), some (.int l2), some (.int l3)] []
set_option maxHeartbeats 4000000 in
theorem w_X0_canStrike_2 {Γ : GG} (hΓ : GF Γ) {m0 mF m : MM} {x : Nat} {l1 : Int32} {l2 : Int32} {l3 : Int32} (hT : (m.K x).1 = 1) {r : Int32} {q : ((Int32 × MM)) ⊕ (Int32 × MM)} (h : b_X0_canStrike_2 x l1 l2 l3 m = some q) (Hl : ∀ z, q = .inl z → p_X0_canStrike Γ m0 mF x l1 l2 r z) (Hr : ∀ z, q = .inr z → z = (r, mF)) : G Γ kX0_canStrike cX0_canStrike m0 mF (.inl (some (.int r))) m 2 [some (.ref x), some (.int l1), some (.int l2), some (.int l3)] [] := by
  unfold b_X0_canStrike_2 at h
  refine g_iload_n 3 dX0_canStrike_2 rfl rfl ?_
  refine g_iload_n 2 dX0_canStrike_3 rfl rfl ?_
  refine g_ic 1 dX0_canStrike_4 rfl ?_
  refine g_isub dX0_canStrike_5 ?_
  replace h := ite_of h; rcases h with ⟨hc, h⟩ | ⟨hc, h⟩
  · refine g_icgeT dX0_canStrike_6 rfl hc ?_
    refine g_this dX0_canStrike_38 rfl ?_
    refine g_this dX0_canStrike_39 rfl ?_
    refine g_getR hΓ.k fl_X0_187_X0 rfl hT dX0_canStrike_40 ?_
    refine g_iload_n 2 dX0_canStrike_43 rfl rfl ?_
    refine g_ic 1 dX0_canStrike_44 rfl ?_
    refine g_isub dX0_canStrike_45 ?_
    replace h := bd2_of h; obtain ⟨_, m1, em1, h⟩ := h
    have C := ct_X0_load hΓ hT em1
    refine g_callVv hΓ.k vl_X0_104 hT C rfl rfl (Nat.le_of_ble_eq_true rfl) (Nat.le_of_ble_eq_true rfl) (Nat.le_of_ble_eq_true rfl) dX0_canStrike_46 ?_
    replace hT := (C.1).kd hT
    refine g_this dX0_canStrike_49 rfl ?_
    refine g_iload_n 2 dX0_canStrike_50 rfl rfl ?_
    refine g_ic 1 dX0_canStrike_51 rfl ?_
    refine g_isub dX0_canStrike_52 ?_
    replace h := bd2_of h; obtain ⟨v2, m3, em3, h⟩ := h
    have C := ct_X0_readings hΓ hT em3
    refine g_callVl hΓ.k vl_X0_68 hT C rfl rfl (Nat.le_of_ble_eq_true rfl) (Nat.le_of_ble_eq_true rfl) (Nat.le_of_ble_eq_true rfl) dX0_canStrike_53 ?_
    replace hT := (C.1).kd hT
    refine g_lc 0 dX0_canStrike_56 rfl ?_
    refine g_lcmp dX0_canStrike_57 ?_
    replace h := ite_of h; rcases h with ⟨hc, h⟩ | ⟨hc, h⟩
    · refine g_ifleT dX0_canStrike_58 rfl hc ?_
      refine g_ic 0 dX0_canStrike_65 rfl ?_
      cases h
      cases Hr _ rfl
      exact g_zret rfl (by decide) dX0_canStrike_66
    · refine g_ifleF dX0_canStrike_58 rfl hc ?_
      refine g_ic 1 dX0_canStrike_61 rfl ?_
      refine g_goto dX0_canStrike_62 rfl ?_
      cases h
      cases Hr _ rfl
      exact g_zret rfl (by decide) dX0_canStrike_66
  · refine g_icgeF dX0_canStrike_6 rfl hc ?_
    refine g_this dX0_canStrike_9 rfl ?_
    refine g_getR hΓ.k fl_X0_187_X0 rfl hT dX0_canStrike_10 ?_
    refine g_iload_n 3 dX0_canStrike_13 rfl rfl ?_
    refine g_this dX0_canStrike_14 rfl ?_
    refine g_getR hΓ.k fl_X0_164_X0 rfl hT dX0_canStrike_15 ?_
    refine g_iload_n 3 dX0_canStrike_18 rfl rfl ?_
    refine g_iload_n 1 dX0_canStrike_19 rfl rfl ?_
    replace h := ite_of h; rcases h with ⟨hc, h⟩ | ⟨hc, h⟩
    · refine g_icgeT dX0_canStrike_20 rfl hc ?_
      refine g_iload_n 3 dX0_canStrike_27 rfl rfl ?_
      refine g_ic 1 dX0_canStrike_28 rfl ?_
      refine g_iadd dX0_canStrike_29 ?_
      replace h := bd_of h; obtain ⟨v4, ev4, h⟩ := h
      refine g_iald ev4 dX0_canStrike_30 ?_
      replace h := bd_of h; obtain ⟨m5, em5, h⟩ := h
      refine g_iast em5 dX0_canStrike_31 ?_
      replace hT := (sI_ext em5).kd hT
      refine g_iinc (l3 + (1 : Int32)) dX0_canStrike_32 rfl rfl (Nat.le_of_ble_eq_true rfl) rfl ?_
      dsimp only [List.set]
      refine g_goto dX0_canStrike_35 rfl ?_
      cases h
      refine G.weak [true, true, true, true] rfl ?_
      exact Hl _ rfl hT
    · refine g_icgeF dX0_canStrike_20 rfl hc ?_
      refine g_iload_n 3 dX0_canStrike_23 rfl rfl ?_
      refine g_goto dX0_canStrike_24 rfl ?_
      replace h := bd_of h; obtain ⟨v6, ev6, h⟩ := h
      refine g_iald ev6 dX0_canStrike_30 ?_
      replace h := bd_of h; obtain ⟨m7, em7, h⟩ := h
      refine g_iast em7 dX0_canStrike_31 ?_
      replace hT := (sI_ext em7).kd hT
      refine g_iinc (l3 + (1 : Int32)) dX0_canStrike_32 rfl rfl (Nat.le_of_ble_eq_true rfl) rfl ?_
      dsimp only [List.set]
      refine g_goto dX0_canStrike_35 rfl ?_
      cases h
      refine G.weak [true, true, true, true] rfl ?_
      exact Hl _ rfl hT
set_option maxHeartbeats 4000000 in
theorem w_X0_canStrike_0 {Γ : GG} (hΓ : GF Γ) {m0 mF m : MM} {x : Nat} {l1 : Int32} {l2 : Int32} (hT : (m.K x).1 = 1) {r : Int32} {q : ((Int32 × MM)) ⊕ (Int32 × MM)} (h : b_X0_canStrike_0 x l1 l2 m = some q) (Hl : ∀ z, q = .inl z → p_X0_canStrike Γ m0 mF x l1 l2 r z) (Hr : ∀ z, q = .inr z → z = (r, mF)) : G Γ kX0_canStrike cX0_canStrike m0 mF (.inl (some (.int r))) m 0 [some (.ref x), some (.int l1), some (.int l2), none] [] := by
  unfold b_X0_canStrike_0 at h
  refine g_ic 0 dX0_canStrike_0 rfl ?_
  refine g_istore_n 3 dX0_canStrike_1 rfl (Nat.le_of_ble_eq_true rfl) rfl ?_
  dsimp only [List.set]
  cases h
  refine G.weak [true, true, true, true] rfl ?_
  exact Hl _ rfl hT
theorem ct_X0_canStrike {Γ : GG} (hΓ : GF Γ) {m mF : MM} {x : Nat} {l1 : Int32} {l2 : Int32} (hT : (m.K x).1 = 1) {r : Int32} (h : f_X0_canStrike x l1 l2 m = some (r, mF)) : Ct Γ kX0_canStrike cX0_canStrike [.ref x, .int l1, .int l2] m (.inl (some (.int r))) mF := by
  unfold f_X0_canStrike at h
  replace h := bd_of h; obtain ⟨q, e, h⟩ := h
  have H := rx_go_ind (P := p_X0_canStrike Γ m mF x l1 l2 r) (fun z o hs Hl Hr => by
    match z with
    | (l3, m) => exact fun hT => w_X0_canStrike_2 hΓ hT hs Hl Hr) h
  exact Ct.of (κ := kX0_canStrike) (by decide) rfl (Nat.le_of_ble_eq_true rfl) rfl (w_X0_canStrike_0 hΓ hT e H.1 H.2)
def p_X0_struck (Γ : GG) (m0 mF : MM) (x : Nat) (l1 : Int32) (r : Int32) : ((Int32 × Int32 × Int32 × Int32 × MM)) → Prop := fun z => match z with
  | (l2, l3, l4, l5, m) => (m.K x).1 = 1 → G Γ kX0_struck cX0_struck m0 mF (.inl (some (.int r))) m 32 [some (.ref x), some (.int l1), some (.int l2), some (.int l3), some (.int l4), some (.int l5), none] []
set_option maxHeartbeats 4000000 in
theorem w_X0_struck_32 {Γ : GG} (hΓ : GF Γ) {m0 mF m : MM} {x : Nat} {l1 : Int32} {l2 : Int32} {l3 : Int32} {l4 : Int32} {l5 : Int32} (hT : (m.K x).1 = 1) {r : Int32} {q : ((Int32 × Int32 × Int32 × Int32 × MM)) ⊕ (Int32 × MM)} (h : b_X0_struck_32 x l1 l2 l3 l4 l5 m = some q) (Hl : ∀ z, q = .inl z → p_X0_struck Γ m0 mF x l1 r z) (Hr : ∀ z, q = .inr z → z = (r, mF)) : G Γ kX0_struck cX0_struck m0 mF (.inl (some (.int r))) m 32 [some (.ref x), some (.int l1), some (.int l2), some (.int l3), some (.int l4), some (.int l5), none] [] := by
  unfold b_X0_struck_32 at h
  refine g_iload dX0_struck_32 rfl ?_
  refine g_iload_n 2 dX0_struck_34 rfl rfl ?_
  replace h := ite_of h; rcases h with ⟨hc, h⟩ | ⟨hc, h⟩
  · refine g_icgeT dX0_struck_35 rfl hc ?_
    refine g_iload_n 3 dX0_struck_92 rfl rfl ?_
    cases h
    cases Hr _ rfl
    exact g_iret rfl dX0_struck_93
  · refine g_icgeF dX0_struck_35 rfl hc ?_
    refine g_this dX0_struck_38 rfl ?_
    refine g_iload dX0_struck_39 rfl ?_
    refine g_iload_n 2 dX0_struck_41 rfl rfl ?_
    replace h := bd2_of h; obtain ⟨v1, m2, em2, h⟩ := h
    have C := ct_X0_canStrike hΓ hT em2
    refine g_callVi hΓ.k vl_X0_328 hT C rfl rfl (Nat.le_of_ble_eq_true rfl) (Nat.le_of_ble_eq_true rfl) (Nat.le_of_ble_eq_true rfl) dX0_struck_42 ?_
    replace hT := (C.1).kd hT
    replace h := ite_of h; rcases h with ⟨hc, h⟩ | ⟨hc, h⟩
    · refine g_ifneF dX0_struck_45 rfl hc ?_
      refine g_goto dX0_struck_48 rfl ?_
      refine g_iinc (l5 + (1 : Int32)) dX0_struck_86 rfl rfl (Nat.le_of_ble_eq_true rfl) rfl ?_
      dsimp only [List.set]
      refine g_goto dX0_struck_89 rfl ?_
      cases h
      refine G.weak [true, true, true, true, true, true, false] rfl ?_
      exact Hl _ rfl hT
    · refine g_ifneT dX0_struck_45 rfl hc ?_
      refine g_this dX0_struck_51 rfl ?_
      refine g_this dX0_struck_52 rfl ?_
      refine g_getR hΓ.k fl_X0_187_X0 rfl hT dX0_struck_53 ?_
      refine g_iload_n 2 dX0_struck_56 rfl rfl ?_
      refine g_ic 1 dX0_struck_57 rfl ?_
      refine g_isub dX0_struck_58 ?_
      refine g_iload_n 1 dX0_struck_59 rfl rfl ?_
      replace h := bd2_of h; obtain ⟨v3, m4, em4, h⟩ := h
      have C := ct_X0_meaning hΓ hT em4
      refine g_callVi hΓ.k vl_X0_139 hT C rfl rfl (Nat.le_of_ble_eq_true rfl) (Nat.le_of_ble_eq_true rfl) (Nat.le_of_ble_eq_true rfl) dX0_struck_60 ?_
      replace hT := (C.1).kd hT
      refine g_istore dX0_struck_63 (Nat.le_of_ble_eq_true rfl) rfl ?_
      dsimp only [List.set]
      refine g_iload_n 3 dX0_struck_65 rfl rfl ?_
      replace h := ite_of h; rcases h with ⟨hc, h⟩ | ⟨hc, h⟩
      · refine g_ifltT dX0_struck_66 rfl hc ?_
        refine g_iload dX0_struck_79 rfl ?_
        refine g_istore_n 3 dX0_struck_81 rfl (Nat.le_of_ble_eq_true rfl) rfl ?_
        dsimp only [List.set]
        refine g_iload dX0_struck_82 rfl ?_
        refine g_istore dX0_struck_84 (Nat.le_of_ble_eq_true rfl) rfl ?_
        dsimp only [List.set]
        refine g_iinc (l5 + (1 : Int32)) dX0_struck_86 rfl rfl (Nat.le_of_ble_eq_true rfl) rfl ?_
        dsimp only [List.set]
        refine g_goto dX0_struck_89 rfl ?_
        cases h
        refine G.weak [true, true, true, true, true, true, false] rfl ?_
        exact Hl _ rfl hT
      · refine g_ifltF dX0_struck_66 rfl hc ?_
        refine g_iload dX0_struck_69 rfl ?_
        refine g_iload dX0_struck_71 rfl ?_
        replace h := ite_of h; rcases h with ⟨hc, h⟩ | ⟨hc, h⟩
        · refine g_icgtT dX0_struck_73 rfl hc ?_
          refine g_iload dX0_struck_79 rfl ?_
          refine g_istore_n 3 dX0_struck_81 rfl (Nat.le_of_ble_eq_true rfl) rfl ?_
          dsimp only [List.set]
          refine g_iload dX0_struck_82 rfl ?_
          refine g_istore dX0_struck_84 (Nat.le_of_ble_eq_true rfl) rfl ?_
          dsimp only [List.set]
          refine g_iinc (l5 + (1 : Int32)) dX0_struck_86 rfl rfl (Nat.le_of_ble_eq_true rfl) rfl ?_
          dsimp only [List.set]
          refine g_goto dX0_struck_89 rfl ?_
          cases h
          refine G.weak [true, true, true, true, true, true, false] rfl ?_
          exact Hl _ rfl hT
        · refine g_icgtF dX0_struck_73 rfl hc ?_
          refine g_goto dX0_struck_76 rfl ?_
          refine g_iinc (l5 + (1 : Int32)) dX0_struck_86 rfl rfl (Nat.le_of_ble_eq_true rfl) rfl ?_
          dsimp only [List.set]
          refine g_goto dX0_struck_89 rfl ?_
          cases h
          refine G.weak [true, true, true, true, true, true, false] rfl ?_
          exact Hl _ rfl hT
set_option maxHeartbeats 4000000 in
theorem w_X0_struck_0 {Γ : GG} (hΓ : GF Γ) {m0 mF m : MM} {x : Nat} {l1 : Int32} (hT : (m.K x).1 = 1) {r : Int32} {q : ((Int32 × Int32 × Int32 × Int32 × MM)) ⊕ (Int32 × MM)} (h : b_X0_struck_0 x l1 m = some q) (Hl : ∀ z, q = .inl z → p_X0_struck Γ m0 mF x l1 r z) (Hr : ∀ z, q = .inr z → z = (r, mF)) : G Γ kX0_struck cX0_struck m0 mF (.inl (some (.int r))) m 0 [some (.ref x), some (.int l1), none, none, none, none, none] [] := by
  unfold b_X0_struck_0 at h
  refine g_iload_n 1 dX0_struck_0 rfl rfl ?_
  replace h := bd2_of h; obtain ⟨v1, m2, em2, h⟩ := h
  have C := ct_X0_isGuild hΓ em2
  refine g_callSi sl_X0_242 C rfl rfl (Nat.le_of_ble_eq_true rfl) (Nat.le_of_ble_eq_true rfl) (Nat.le_of_ble_eq_true rfl) dX0_struck_1 ?_
  replace hT := (C.1).kd hT
  replace h := ite_of h; rcases h with ⟨hc, h⟩ | ⟨hc, h⟩
  · refine g_ifeqT dX0_struck_4 rfl hc ?_
    refine g_ic (-1) dX0_struck_14 rfl ?_
    cases h
    cases Hr _ rfl
    exact g_iret rfl dX0_struck_15
  · refine g_ifeqF dX0_struck_4 rfl hc ?_
    refine g_this dX0_struck_7 rfl ?_
    replace h := bd2_of h; obtain ⟨v3, m4, em4, h⟩ := h
    have C := ct_X0_readings_2 hΓ hT em4
    refine g_callVi hΓ.k vl_X0_326 hT C rfl rfl (Nat.le_of_ble_eq_true rfl) (Nat.le_of_ble_eq_true rfl) (Nat.le_of_ble_eq_true rfl) dX0_struck_8 ?_
    replace hT := (C.1).kd hT
    replace h := ite_of h; rcases h with ⟨hc, h⟩ | ⟨hc, h⟩
    · refine g_ifneF dX0_struck_11 rfl hc ?_
      refine g_ic (-1) dX0_struck_14 rfl ?_
      cases h
      cases Hr _ rfl
      exact g_iret rfl dX0_struck_15
    · refine g_ifneT dX0_struck_11 rfl hc ?_
      refine g_this dX0_struck_16 rfl ?_
      refine g_getR hΓ.k fl_X0_164_X0 rfl hT dX0_struck_17 ?_
      refine g_bi (12) dX0_struck_20 rfl ?_
      replace h := bd_of h; obtain ⟨v5, ev5, h⟩ := h
      refine g_iald ev5 dX0_struck_22 ?_
      refine g_istore_n 2 dX0_struck_23 rfl (Nat.le_of_ble_eq_true rfl) rfl ?_
      dsimp only [List.set]
      refine g_ic (-1) dX0_struck_24 rfl ?_
      refine g_istore_n 3 dX0_struck_25 rfl (Nat.le_of_ble_eq_true rfl) rfl ?_
      dsimp only [List.set]
      refine g_ic 0 dX0_struck_26 rfl ?_
      refine g_istore dX0_struck_27 (Nat.le_of_ble_eq_true rfl) rfl ?_
      dsimp only [List.set]
      refine g_ic 0 dX0_struck_29 rfl ?_
      refine g_istore dX0_struck_30 (Nat.le_of_ble_eq_true rfl) rfl ?_
      dsimp only [List.set]
      cases h
      refine G.weak [true, true, true, true, true, true, false] rfl ?_
      exact Hl _ rfl hT
theorem ct_X0_struck {Γ : GG} (hΓ : GF Γ) {m mF : MM} {x : Nat} {l1 : Int32} (hT : (m.K x).1 = 1) {r : Int32} (h : f_X0_struck x l1 m = some (r, mF)) : Ct Γ kX0_struck cX0_struck [.ref x, .int l1] m (.inl (some (.int r))) mF := by
  unfold f_X0_struck at h
  replace h := bd_of h; obtain ⟨q, e, h⟩ := h
  have H := rx_go_ind (P := p_X0_struck Γ m mF x l1 r) (fun z o hs Hl Hr => by
    match z with
    | (l2, l3, l4, l5, m) => exact fun hT => w_X0_struck_32 hΓ hT hs Hl Hr) h
  exact Ct.of (κ := kX0_struck) (by decide) rfl (Nat.le_of_ble_eq_true rfl) rfl (w_X0_struck_0 hΓ hT e H.1 H.2)
set_option maxHeartbeats 4000000 in
theorem w_X0_lies_0 {Γ : GG} (hΓ : GF Γ) {m0 mF m : MM} {x : Nat} {l1 : Int32} (hT : (m.K x).1 = 1) {r : Int32} (h : b_X0_lies_0 x l1 m = some (r, mF)) : G Γ kX0_lies cX0_lies m0 mF (.inl (some (.int r))) m 0 [some (.ref x), some (.int l1)] [] := by
  unfold b_X0_lies_0 at h
  refine g_iload_n 1 dX0_lies_0 rfl rfl ?_
  refine g_ic 0 dX0_lies_1 rfl ?_
  refine g_this dX0_lies_2 rfl ?_
  refine g_getI hΓ.k fl_X0_218_X0 rfl hT dX0_lies_3 ?_
  refine g_ic 1 dX0_lies_6 rfl ?_
  refine g_isub dX0_lies_7 ?_
  replace h := bd2_of h; obtain ⟨v1, m2, em2, h⟩ := h
  have C := ct_X0_isIn hΓ em2
  refine g_callSi sl_X0_235 C rfl rfl (Nat.le_of_ble_eq_true rfl) (Nat.le_of_ble_eq_true rfl) (Nat.le_of_ble_eq_true rfl) dX0_lies_8 ?_
  replace hT := (C.1).kd hT
  replace h := ite_of h; rcases h with ⟨hc, h⟩ | ⟨hc, h⟩
  · refine g_ifeqT dX0_lies_11 rfl hc ?_
    refine g_ic (-1) dX0_lies_23 rfl ?_
    cases h
    exact g_iret rfl dX0_lies_24
  · refine g_ifeqF dX0_lies_11 rfl hc ?_
    refine g_this dX0_lies_14 rfl ?_
    refine g_getR hΓ.k fl_X0_175_X0 rfl hT dX0_lies_15 ?_
    refine g_iload_n 1 dX0_lies_18 rfl rfl ?_
    replace h := bd_of h; obtain ⟨v3, ev3, h⟩ := h
    refine g_iald ev3 dX0_lies_19 ?_
    refine g_goto dX0_lies_20 rfl ?_
    cases h
    exact g_iret rfl dX0_lies_24
theorem ct_X0_lies {Γ : GG} (hΓ : GF Γ) {m mF : MM} {x : Nat} {l1 : Int32} (hT : (m.K x).1 = 1) {r : Int32} (h : f_X0_lies x l1 m = some (r, mF)) : Ct Γ kX0_lies cX0_lies [.ref x, .int l1] m (.inl (some (.int r))) mF := by
  unfold f_X0_lies at h
  exact Ct.of (κ := kX0_lies) (by decide) rfl (Nat.le_of_ble_eq_true rfl) rfl (w_X0_lies_0 hΓ hT h)
set_option maxHeartbeats 4000000 in
theorem w_X7_init_0 {Γ : GG} (hΓ : GF Γ) {m0 mF m : MM} {x : Nat} {l1 : Int32} {l2 : Int32} {l3 : Int32} {l4 : Int32} (hT : (m.K x).1 = 8) {r : Unit} (h : b_X7_init_0 x l1 l2 l3 l4 m = some (r, mF)) : G Γ kX7_init cX7_init m0 mF (.inl none) m 0 [some (.ref x), some (.int l1), some (.int l2), some (.int l3), some (.int l4)] [] := by
  unfold b_X7_init_0 at h
  refine g_this dX7_init_0 rfl ?_
  refine g_objInit q1181 q145 q146 (Nat.le_of_ble_eq_true rfl) (Nat.le_of_ble_eq_true rfl) (Nat.le_of_ble_eq_true rfl) dX7_init_1 ?_
  refine g_this dX7_init_4 rfl ?_
  refine g_ic (-1) dX7_init_5 rfl ?_
  replace h := bd_of h; obtain ⟨m1, em1, h⟩ := h
  refine g_pI hΓ.k fl_X7_9_X7 (fun h9 => by cases h9) rfl (Or.inl ⟨rfl, rfl⟩) em1 dX7_init_6 ?_
  replace hT := (pI_ext em1).kd hT
  refine g_this dX7_init_9 rfl ?_
  refine g_iload_n 1 dX7_init_10 rfl rfl ?_
  replace h := bd_of h; obtain ⟨m2, em2, h⟩ := h
  refine g_pI hΓ.k fl_X7_15_X7 (fun _ => ⟨rfl, fun C T N e9 => by cases e9; rfl⟩) rfl (Or.inl ⟨rfl, rfl⟩) em2 dX7_init_11 ?_
  replace hT := (pI_ext em2).kd hT
  refine g_this dX7_init_14 rfl ?_
  refine g_iload_n 2 dX7_init_15 rfl rfl ?_
  replace h := bd_of h; obtain ⟨m3, em3, h⟩ := h
  refine g_pI hΓ.k fl_X7_18_X7 (fun _ => ⟨rfl, fun C T N e9 => by cases e9; rfl⟩) rfl (Or.inl ⟨rfl, rfl⟩) em3 dX7_init_16 ?_
  replace hT := (pI_ext em3).kd hT
  refine g_this dX7_init_19 rfl ?_
  refine g_iload_n 3 dX7_init_20 rfl rfl ?_
  replace h := bd_of h; obtain ⟨m4, em4, h⟩ := h
  refine g_pI hΓ.k fl_X7_21_X7 (fun _ => ⟨rfl, fun C T N e9 => by cases e9; rfl⟩) rfl (Or.inr (Or.inr ⟨rfl, rfl⟩)) em4 dX7_init_21 ?_
  replace hT := (pI_ext em4).kd hT
  refine g_this dX7_init_24 rfl ?_
  refine g_iload dX7_init_25 rfl ?_
  replace h := bd_of h; obtain ⟨m5, em5, h⟩ := h
  refine g_pI hΓ.k fl_X7_25_X7 (fun _ => ⟨rfl, fun C T N e9 => by cases e9; rfl⟩) rfl (Or.inl ⟨rfl, rfl⟩) em5 dX7_init_27 ?_
  replace hT := (pI_ext em5).kd hT
  cases h
  exact g_vret rfl dX7_init_30
theorem ct_X7_init {Γ : GG} (hΓ : GF Γ) {m mF : MM} {x : Nat} {l1 : Int32} {l2 : Int32} {l3 : Int32} {l4 : Int32} (hT : (m.K x).1 = 8) {r : Unit} (h : f_X7_init x l1 l2 l3 l4 m = some (r, mF)) : Ct Γ kX7_init cX7_init [.ref x, .int l1, .int l2, .int l3, .int l4] m (.inl none) mF := by
  unfold f_X7_init at h
  exact Ct.of (κ := kX7_init) (by decide) rfl (Nat.le_of_ble_eq_true rfl) rfl (w_X7_init_0 hΓ hT h)
set_option maxHeartbeats 4000000 in
theorem w_X0_seen_0 {Γ : GG} (hΓ : GF Γ) {m0 mF m : MM} {x : Nat} {l1 : Int32} {l2 : Int32} {l3 : Int32} (hT : (m.K x).1 = 1) {r : Int32} (h : b_X0_seen_0 x l1 l2 l3 m = some (r, mF)) : G Γ kX0_seen cX0_seen m0 mF (.inl (some (.int r))) m 0 [some (.ref x), some (.int l1), some (.int l2), some (.int l3)] [] := by
  unfold b_X0_seen_0 at h
  refine g_this dX0_seen_0 rfl ?_
  refine g_iload_n 1 dX0_seen_1 rfl rfl ?_
  replace h := bd2_of h; obtain ⟨v1, m2, em2, h⟩ := h
  have C := ct_X0_isPlace hΓ hT em2
  refine g_callVi hΓ.k vl_X0_260 hT C rfl rfl (Nat.le_of_ble_eq_true rfl) (Nat.le_of_ble_eq_true rfl) (Nat.le_of_ble_eq_true rfl) dX0_seen_2 ?_
  replace hT := (C.1).kd hT
  replace h := ite_of h; rcases h with ⟨hc, h⟩ | ⟨hc, h⟩
  · refine g_ifeqT dX0_seen_5 rfl hc ?_
    refine g_ic (-1) dX0_seen_28 rfl ?_
    cases h
    exact g_iret rfl dX0_seen_29
  · refine g_ifeqF dX0_seen_5 rfl hc ?_
    refine g_this dX0_seen_8 rfl ?_
    refine g_iload_n 2 dX0_seen_9 rfl rfl ?_
    replace h := bd2_of h; obtain ⟨v3, m4, em4, h⟩ := h
    have C := ct_X0_isWord hΓ hT em4
    refine g_callVi hΓ.k vl_X0_239 hT C rfl rfl (Nat.le_of_ble_eq_true rfl) (Nat.le_of_ble_eq_true rfl) (Nat.le_of_ble_eq_true rfl) dX0_seen_10 ?_
    replace hT := (C.1).kd hT
    replace h := ite_of h; rcases h with ⟨hc, h⟩ | ⟨hc, h⟩
    · refine g_ifeqT dX0_seen_13 rfl hc ?_
      refine g_ic (-1) dX0_seen_28 rfl ?_
      cases h
      exact g_iret rfl dX0_seen_29
    · refine g_ifeqF dX0_seen_13 rfl hc ?_
      refine g_this dX0_seen_16 rfl ?_
      refine g_getR hΓ.k fl_X0_193_X0 rfl hT dX0_seen_17 ?_
      replace h := bd_of h; obtain ⟨a5, ea5, h⟩ := h
      obtain ⟨ea5, ka5⟩ := isK_of ea5
      replace h := bd2_of h; obtain ⟨v6, m7, em7, h⟩ := h
      have C := ct_J2_size hΓ ka5 em7
      refine g_callVi hΓ.k vl_X0_47 ka5 C rfl (by rw [ea5]; rfl) (Nat.le_of_ble_eq_true rfl) (Nat.le_of_ble_eq_true rfl) (Nat.le_of_ble_eq_true rfl) dX0_seen_20 ?_
      replace hT := (C.1).kd hT
      refine g_bi (30) dX0_seen_23 rfl ?_
      replace h := ite_of h; rcases h with ⟨hc, h⟩ | ⟨hc, h⟩
      · refine g_icneF dX0_seen_25 rfl hc ?_
        refine g_ic (-1) dX0_seen_28 rfl ?_
        cases h
        exact g_iret rfl dX0_seen_29
      · refine g_icneT dX0_seen_25 rfl hc ?_
        refine g_this dX0_seen_30 rfl ?_
        refine g_getR hΓ.k fl_X0_193_X0 rfl hT dX0_seen_31 ?_
        replace h := bd_of h; obtain ⟨m8, em8, h⟩ := h
        refine g_nO hΓ.k nl_X0_331 ty_X7 em8 dX0_seen_34 ?_
        replace hT := (nO_ext em8).kd hT
        refine g_dup dX0_seen_37 (va_rf_cat _) ?_
        refine g_iload_n 1 dX0_seen_38 rfl rfl ?_
        refine g_iload_n 2 dX0_seen_39 rfl rfl ?_
        refine g_iload_n 3 dX0_seen_40 rfl rfl ?_
        refine g_this dX0_seen_41 rfl ?_
        refine g_getI hΓ.k fl_X0_333_X0 rfl hT dX0_seen_42 ?_
        replace h := bd_of h; obtain ⟨a9, ea9, h⟩ := h
        obtain ⟨ea9, ka9⟩ := isK_of ea9
        cases ea9
        replace h := bd2_of h; obtain ⟨_, m10, em10, h⟩ := h
        have C := ct_X7_init hΓ ka9 em10
        refine g_callI il_X0_336 C rfl rfl (Nat.le_of_ble_eq_true rfl) (Nat.le_of_ble_eq_true rfl) (Nat.le_of_ble_eq_true rfl) dX0_seen_45 ?_
        replace hT := (C.1).kd hT
        replace h := bd_of h; obtain ⟨a11, ea11, h⟩ := h
        obtain ⟨ea11, ka11⟩ := isK_of ea11
        replace h := bd2_of h; obtain ⟨v12, m13, em13, h⟩ := h
        have C := ct_J2_add hΓ ka11 em13
        refine g_callVi hΓ.k vl_X0_339 ka11 C rfl (by rw [ea11]; rfl) (Nat.le_of_ble_eq_true rfl) (Nat.le_of_ble_eq_true rfl) (Nat.le_of_ble_eq_true rfl) dX0_seen_48 ?_
        replace hT := (C.1).kd hT
        refine g_pop dX0_seen_51 rfl ?_
        refine g_this dX0_seen_52 rfl ?_
        refine g_getR hΓ.k fl_X0_193_X0 rfl hT dX0_seen_53 ?_
        replace h := bd_of h; obtain ⟨a14, ea14, h⟩ := h
        obtain ⟨ea14, ka14⟩ := isK_of ea14
        replace h := bd2_of h; obtain ⟨v15, m16, em16, h⟩ := h
        have C := ct_J2_size hΓ ka14 em16
        refine g_callVi hΓ.k vl_X0_47 ka14 C rfl (by rw [ea14]; rfl) (Nat.le_of_ble_eq_true rfl) (Nat.le_of_ble_eq_true rfl) (Nat.le_of_ble_eq_true rfl) dX0_seen_56 ?_
        replace hT := (C.1).kd hT
        refine g_ic 1 dX0_seen_59 rfl ?_
        refine g_isub dX0_seen_60 ?_
        cases h
        exact g_iret rfl dX0_seen_61
theorem ct_X0_seen {Γ : GG} (hΓ : GF Γ) {m mF : MM} {x : Nat} {l1 : Int32} {l2 : Int32} {l3 : Int32} (hT : (m.K x).1 = 1) {r : Int32} (h : f_X0_seen x l1 l2 l3 m = some (r, mF)) : Ct Γ kX0_seen cX0_seen [.ref x, .int l1, .int l2, .int l3] m (.inl (some (.int r))) mF := by
  unfold f_X0_seen at h
  exact Ct.of (κ := kX0_seen) (by decide) rfl (Nat.le_of_ble_eq_true rfl) rfl (w_X0_seen_0 hΓ hT h)
set_option maxHeartbeats 4000000 in
theorem w_X7_untell_0 {Γ : GG} (hΓ : GF Γ) {m0 mF m : MM} {x : Nat} {l1 : Int32} (hT : (m.K x).1 = 8) {r : Int32} (h : b_X7_untell_0 x l1 m = some (r, mF)) : G Γ kX7_untell cX7_untell m0 mF (.inl (some (.int r))) m 0 [some (.ref x), some (.int l1)] [] := by
  unfold b_X7_untell_0 at h
  refine g_this dX7_untell_0 rfl ?_
  refine g_getI hΓ.k fl_X7_9_X7 rfl hT dX7_untell_1 ?_
  replace h := ite_of h; rcases h with ⟨hc, h⟩ | ⟨hc, h⟩
  · refine g_ifltT dX7_untell_4 rfl hc ?_
    refine g_this dX7_untell_9 rfl ?_
    refine g_iload_n 1 dX7_untell_10 rfl rfl ?_
    replace h := bd_of h; obtain ⟨m1, em1, h⟩ := h
    refine g_pI hΓ.k fl_X7_9_X7 (fun h9 => by cases h9) rfl (Or.inl ⟨rfl, rfl⟩) em1 dX7_untell_11 ?_
    replace hT := (pI_ext em1).kd hT
    refine g_ic 1 dX7_untell_14 rfl ?_
    cases h
    exact g_zret rfl (by decide) dX7_untell_15
  · refine g_ifltF dX7_untell_4 rfl hc ?_
    refine g_ic 0 dX7_untell_7 rfl ?_
    cases h
    exact g_zret rfl (by decide) dX7_untell_8
theorem ct_X7_untell {Γ : GG} (hΓ : GF Γ) {m mF : MM} {x : Nat} {l1 : Int32} (hT : (m.K x).1 = 8) {r : Int32} (h : f_X7_untell x l1 m = some (r, mF)) : Ct Γ kX7_untell cX7_untell [.ref x, .int l1] m (.inl (some (.int r))) mF := by
  unfold f_X7_untell at h
  exact Ct.of (κ := kX7_untell) (by decide) rfl (Nat.le_of_ble_eq_true rfl) rfl (w_X7_untell_0 hΓ hT h)
set_option maxHeartbeats 4000000 in
theorem w_X0_untell_0 {Γ : GG} (hΓ : GF Γ) {m0 mF m : MM} {x : Nat} {l1 : Int32} (hT : (m.K x).1 = 1) {r : Int32} (h : b_X0_untell_0 x l1 m = some (r, mF)) : G Γ kX0_untell cX0_untell m0 mF (.inl (some (.int r))) m 0 [some (.ref x), some (.int l1)] [] := by
  unfold b_X0_untell_0 at h
  refine g_iload_n 1 dX0_untell_0 rfl rfl ?_
  refine g_ic 0 dX0_untell_1 rfl ?_
  refine g_this dX0_untell_2 rfl ?_
  refine g_getR hΓ.k fl_X0_193_X0 rfl hT dX0_untell_3 ?_
  replace h := bd_of h; obtain ⟨a1, ea1, h⟩ := h
  obtain ⟨ea1, ka1⟩ := isK_of ea1
  replace h := bd2_of h; obtain ⟨v2, m3, em3, h⟩ := h
  have C := ct_J2_size hΓ ka1 em3
  refine g_callVi hΓ.k vl_X0_47 ka1 C rfl (by rw [ea1]; rfl) (Nat.le_of_ble_eq_true rfl) (Nat.le_of_ble_eq_true rfl) (Nat.le_of_ble_eq_true rfl) dX0_untell_6 ?_
  replace hT := (C.1).kd hT
  refine g_ic 1 dX0_untell_9 rfl ?_
  refine g_isub dX0_untell_10 ?_
  replace h := bd2_of h; obtain ⟨v4, m5, em5, h⟩ := h
  have C := ct_X0_isIn hΓ em5
  refine g_callSi sl_X0_235 C rfl rfl (Nat.le_of_ble_eq_true rfl) (Nat.le_of_ble_eq_true rfl) (Nat.le_of_ble_eq_true rfl) dX0_untell_11 ?_
  replace hT := (C.1).kd hT
  replace h := ite_of h; rcases h with ⟨hc, h⟩ | ⟨hc, h⟩
  · refine g_ifeqT dX0_untell_14 rfl hc ?_
    refine g_ic 0 dX0_untell_42 rfl ?_
    cases h
    exact g_zret rfl (by decide) dX0_untell_43
  · refine g_ifeqF dX0_untell_14 rfl hc ?_
    refine g_this dX0_untell_17 rfl ?_
    refine g_getR hΓ.k fl_X0_193_X0 rfl hT dX0_untell_18 ?_
    refine g_iload_n 1 dX0_untell_21 rfl rfl ?_
    replace h := bd_of h; obtain ⟨a6, ea6, h⟩ := h
    obtain ⟨ea6, ka6⟩ := isK_of ea6
    replace h := bd2_of h; obtain ⟨v7, m8, em8, h⟩ := h
    have C := ct_J2_get hΓ ka6 em8
    refine g_callVr hΓ.k vl_X0_51 ka6 C rfl (by rw [ea6]; rfl) (Nat.le_of_ble_eq_true rfl) (Nat.le_of_ble_eq_true rfl) (Nat.le_of_ble_eq_true rfl) dX0_untell_22 ?_
    replace hT := (C.1).kd hT
    replace h := ite_of h; rcases h with ⟨hc, h⟩ | ⟨hc, h⟩
    · refine g_cast hΓ q1176 ⟨rfl, by decide, _, _, rfl⟩ hc dX0_untell_25 ?_
      refine g_this dX0_untell_28 rfl ?_
      refine g_getI hΓ.k fl_X0_333_X0 rfl hT dX0_untell_29 ?_
      replace h := bd_of h; obtain ⟨a9, ea9, h⟩ := h
      obtain ⟨ea9, ka9⟩ := isK_of ea9
      cases ea9
      replace h := bd2_of h; obtain ⟨v10, m11, em11, h⟩ := h
      have C := ct_X7_untell hΓ ka9 em11
      refine g_callVi hΓ.k vl_X0_343 ka9 C rfl rfl (Nat.le_of_ble_eq_true rfl) (Nat.le_of_ble_eq_true rfl) (Nat.le_of_ble_eq_true rfl) dX0_untell_32 ?_
      replace hT := (C.1).kd hT
      replace h := ite_of h; rcases h with ⟨hc, h⟩ | ⟨hc, h⟩
      · refine g_ifeqT dX0_untell_35 rfl hc ?_
        refine g_ic 0 dX0_untell_42 rfl ?_
        cases h
        exact g_zret rfl (by decide) dX0_untell_43
      · refine g_ifeqF dX0_untell_35 rfl hc ?_
        refine g_ic 1 dX0_untell_38 rfl ?_
        refine g_goto dX0_untell_39 rfl ?_
        cases h
        exact g_zret rfl (by decide) dX0_untell_43
    · cases h
theorem ct_X0_untell {Γ : GG} (hΓ : GF Γ) {m mF : MM} {x : Nat} {l1 : Int32} (hT : (m.K x).1 = 1) {r : Int32} (h : f_X0_untell x l1 m = some (r, mF)) : Ct Γ kX0_untell cX0_untell [.ref x, .int l1] m (.inl (some (.int r))) mF := by
  unfold f_X0_untell at h
  exact Ct.of (κ := kX0_untell) (by decide) rfl (Nat.le_of_ble_eq_true rfl) rfl (w_X0_untell_0 hΓ hT h)
set_option maxHeartbeats 4000000 in
theorem w_X0_later_0 {Γ : GG} (hΓ : GF Γ) {m0 mF m : MM} {x : Nat} {l1 : Int32} (hT : (m.K x).1 = 1) {r : Int32} (h : b_X0_later_0 x l1 m = some (r, mF)) : G Γ kX0_later cX0_later m0 mF (.inl (some (.int r))) m 0 [some (.ref x), some (.int l1)] [] := by
  unfold b_X0_later_0 at h
  refine g_iload_n 1 dX0_later_0 rfl rfl ?_
  replace h := ite_of h; rcases h with ⟨hc, h⟩ | ⟨hc, h⟩
  · refine g_ifltT dX0_later_1 rfl hc ?_
    refine g_ic (-1) dX0_later_23 rfl ?_
    cases h
    exact g_iret rfl dX0_later_24
  · refine g_ifltF dX0_later_1 rfl hc ?_
    refine g_iload_n 1 dX0_later_4 rfl rfl ?_
    refine g_si (1000) dX0_later_5 rfl ?_
    replace h := ite_of h; rcases h with ⟨hc, h⟩ | ⟨hc, h⟩
    · refine g_icgtT dX0_later_8 rfl hc ?_
      refine g_ic (-1) dX0_later_23 rfl ?_
      cases h
      exact g_iret rfl dX0_later_24
    · refine g_icgtF dX0_later_8 rfl hc ?_
      refine g_this dX0_later_11 rfl ?_
      refine g_getI hΓ.k fl_X0_333_X0 rfl hT dX0_later_12 ?_
      refine g_iload_n 1 dX0_later_15 rfl rfl ?_
      refine g_iadd dX0_later_16 ?_
      refine g_ldcw (v := 100000) q1214 dX0_later_17 ?_
      replace h := ite_of h; rcases h with ⟨hc, h⟩ | ⟨hc, h⟩
      · refine g_icleT dX0_later_20 rfl hc ?_
        refine g_this dX0_later_25 rfl ?_
        refine g_dup dX0_later_26 rfl ?_
        refine g_getI hΓ.k fl_X0_333_X0 rfl hT dX0_later_27 ?_
        refine g_iload_n 1 dX0_later_30 rfl rfl ?_
        refine g_iadd dX0_later_31 ?_
        replace h := bd_of h; obtain ⟨m1, em1, h⟩ := h
        refine g_pI hΓ.k fl_X0_333_X0 (fun h9 => by cases h9) rfl (Or.inl ⟨rfl, rfl⟩) em1 dX0_later_32 ?_
        replace hT := (pI_ext em1).kd hT
        refine g_this dX0_later_35 rfl ?_
        refine g_getI hΓ.k fl_X0_333_X0 rfl hT dX0_later_36 ?_
        cases h
        exact g_iret rfl dX0_later_39
      · refine g_icleF dX0_later_20 rfl hc ?_
        refine g_ic (-1) dX0_later_23 rfl ?_
        cases h
        exact g_iret rfl dX0_later_24
theorem ct_X0_later {Γ : GG} (hΓ : GF Γ) {m mF : MM} {x : Nat} {l1 : Int32} (hT : (m.K x).1 = 1) {r : Int32} (h : f_X0_later x l1 m = some (r, mF)) : Ct Γ kX0_later cX0_later [.ref x, .int l1] m (.inl (some (.int r))) mF := by
  unfold f_X0_later at h
  exact Ct.of (κ := kX0_later) (by decide) rfl (Nat.le_of_ble_eq_true rfl) rfl (w_X0_later_0 hΓ hT h)
set_option maxHeartbeats 4000000 in
theorem w_X7_isKnown_0 {Γ : GG} (hΓ : GF Γ) {m0 mF m : MM} {x : Nat} {l1 : Int32} (hT : (m.K x).1 = 8) {r : Int32} (h : b_X7_isKnown_0 x l1 m = some (r, mF)) : G Γ kX7_isKnown cX7_isKnown m0 mF (.inl (some (.int r))) m 0 [some (.ref x), some (.int l1)] [] := by
  unfold b_X7_isKnown_0 at h
  refine g_this dX7_isKnown_0 rfl ?_
  refine g_getI hΓ.k fl_X7_25_X7 rfl hT dX7_isKnown_1 ?_
  refine g_iload_n 1 dX7_isKnown_4 rfl rfl ?_
  replace h := ite_of h; rcases h with ⟨hc, h⟩ | ⟨hc, h⟩
  · refine g_icgtT dX7_isKnown_5 rfl hc ?_
    refine g_ic 0 dX7_isKnown_27 rfl ?_
    cases h
    exact g_zret rfl (by decide) dX7_isKnown_28
  · refine g_icgtF dX7_isKnown_5 rfl hc ?_
    refine g_this dX7_isKnown_8 rfl ?_
    refine g_getI hΓ.k fl_X7_9_X7 rfl hT dX7_isKnown_9 ?_
    replace h := ite_of h; rcases h with ⟨hc, h⟩ | ⟨hc, h⟩
    · refine g_ifltT dX7_isKnown_12 rfl hc ?_
      refine g_ic 1 dX7_isKnown_23 rfl ?_
      refine g_goto dX7_isKnown_24 rfl ?_
      cases h
      exact g_zret rfl (by decide) dX7_isKnown_28
    · refine g_ifltF dX7_isKnown_12 rfl hc ?_
      refine g_this dX7_isKnown_15 rfl ?_
      refine g_getI hΓ.k fl_X7_9_X7 rfl hT dX7_isKnown_16 ?_
      refine g_iload_n 1 dX7_isKnown_19 rfl rfl ?_
      replace h := ite_of h; rcases h with ⟨hc, h⟩ | ⟨hc, h⟩
      · refine g_icleT dX7_isKnown_20 rfl hc ?_
        refine g_ic 0 dX7_isKnown_27 rfl ?_
        cases h
        exact g_zret rfl (by decide) dX7_isKnown_28
      · refine g_icleF dX7_isKnown_20 rfl hc ?_
        refine g_ic 1 dX7_isKnown_23 rfl ?_
        refine g_goto dX7_isKnown_24 rfl ?_
        cases h
        exact g_zret rfl (by decide) dX7_isKnown_28
theorem ct_X7_isKnown {Γ : GG} (hΓ : GF Γ) {m mF : MM} {x : Nat} {l1 : Int32} (hT : (m.K x).1 = 8) {r : Int32} (h : f_X7_isKnown x l1 m = some (r, mF)) : Ct Γ kX7_isKnown cX7_isKnown [.ref x, .int l1] m (.inl (some (.int r))) mF := by
  unfold f_X7_isKnown at h
  exact Ct.of (κ := kX7_isKnown) (by decide) rfl (Nat.le_of_ble_eq_true rfl) rfl (w_X7_isKnown_0 hΓ hT h)
def p_X0_areSo (Γ : GG) (m0 mF : MM) (x : Nat) (l1 : Option Nat) (l2 : Int32) (r : Int32) : ((Int32 × Int32 × MM)) → Prop := fun z => match z with
  | (l3, l4, m) => (m.K x).1 = 1 → G Γ kX0_areSo cX0_areSo m0 mF (.inl (some (.int r))) m 5 [some (.ref x), some (va_rf l1), some (.int l2), some (.int l3), some (.int l4), none] []
set_option maxHeartbeats 4000000 in
theorem w_X0_areSo_64 {Γ : GG} (hΓ : GF Γ) {m0 mF m : MM} {x : Nat} {l1 : Option Nat} {l2 : Int32} {l4 : Int32} {l5 : Option Nat} {s0 : Int32} (hT : (m.K x).1 = 1) {r : Int32} {q : ((Int32 × Int32 × MM)) ⊕ (Int32 × MM)} (h : b_X0_areSo_64 x l1 l2 l4 l5 s0 m = some q) (Hl : ∀ z, q = .inl z → p_X0_areSo Γ m0 mF x l1 l2 r z) (Hr : ∀ z, q = .inr z → z = (r, mF)) : G Γ kX0_areSo cX0_areSo m0 mF (.inl (some (.int r))) m 64 [some (.ref x), some (va_rf l1), some (.int l2), none, some (.int l4), some (va_rf l5)] [.int s0] := by
  unfold b_X0_areSo_64 at h
  refine g_aload dX0_areSo_64 rfl ?_
  replace h := bd_of h; obtain ⟨v1, ev1, h⟩ := h
  refine g_fI hΓ.k fl_X0_354_X7 rfl ev1 dX0_areSo_66 ?_
  replace h := ite_of h; rcases h with ⟨hc, h⟩ | ⟨hc, h⟩
  · refine g_icneF dX0_areSo_69 rfl hc ?_
    refine g_ic 1 dX0_areSo_72 rfl ?_
    refine g_goto dX0_areSo_73 rfl ?_
    refine g_istore_n 3 dX0_areSo_77 rfl (Nat.le_of_ble_eq_true rfl) rfl ?_
    dsimp only [List.set]
    refine g_iinc (l4 + (1 : Int32)) dX0_areSo_78 rfl rfl (Nat.le_of_ble_eq_true rfl) rfl ?_
    dsimp only [List.set]
    refine g_goto dX0_areSo_81 rfl ?_
    cases h
    refine G.weak [true, true, true, true, true, false] rfl ?_
    exact Hl _ rfl hT
  · refine g_icneT dX0_areSo_69 rfl hc ?_
    refine g_ic 0 dX0_areSo_76 rfl ?_
    refine g_istore_n 3 dX0_areSo_77 rfl (Nat.le_of_ble_eq_true rfl) rfl ?_
    dsimp only [List.set]
    refine g_iinc (l4 + (1 : Int32)) dX0_areSo_78 rfl rfl (Nat.le_of_ble_eq_true rfl) rfl ?_
    dsimp only [List.set]
    refine g_goto dX0_areSo_81 rfl ?_
    cases h
    refine G.weak [true, true, true, true, true, false] rfl ?_
    exact Hl _ rfl hT
set_option maxHeartbeats 4000000 in
theorem w_X0_areSo_5 {Γ : GG} (hΓ : GF Γ) {m0 mF m : MM} {x : Nat} {l1 : Option Nat} {l2 : Int32} {l3 : Int32} {l4 : Int32} (hT : (m.K x).1 = 1) {r : Int32} {q : ((Int32 × Int32 × MM)) ⊕ (Int32 × MM)} (h : b_X0_areSo_5 x l1 l2 l3 l4 m = some q) (Hl : ∀ z, q = .inl z → p_X0_areSo Γ m0 mF x l1 l2 r z) (Hr : ∀ z, q = .inr z → z = (r, mF)) : G Γ kX0_areSo cX0_areSo m0 mF (.inl (some (.int r))) m 5 [some (.ref x), some (va_rf l1), some (.int l2), some (.int l3), some (.int l4), none] [] := by
  unfold b_X0_areSo_5 at h
  refine g_iload dX0_areSo_5 rfl ?_
  refine g_this dX0_areSo_7 rfl ?_
  refine g_getR hΓ.k fl_X0_193_X0 rfl hT dX0_areSo_8 ?_
  replace h := bd_of h; obtain ⟨a1, ea1, h⟩ := h
  obtain ⟨ea1, ka1⟩ := isK_of ea1
  replace h := bd2_of h; obtain ⟨v2, m3, em3, h⟩ := h
  have C := ct_J2_size hΓ ka1 em3
  refine g_callVi hΓ.k vl_X0_47 ka1 C rfl (by rw [ea1]; rfl) (Nat.le_of_ble_eq_true rfl) (Nat.le_of_ble_eq_true rfl) (Nat.le_of_ble_eq_true rfl) dX0_areSo_11 ?_
  replace hT := (C.1).kd hT
  replace h := ite_of h; rcases h with ⟨hc, h⟩ | ⟨hc, h⟩
  · refine g_icgeT dX0_areSo_14 rfl hc ?_
    refine g_iload_n 3 dX0_areSo_84 rfl rfl ?_
    replace h := ite_of h; rcases h with ⟨hc, h⟩ | ⟨hc, h⟩
    · cases h
      cases Hr _ rfl
      exact g_zret rfl hc dX0_areSo_85
    · cases h
  · refine g_icgeF dX0_areSo_14 rfl hc ?_
    refine g_this dX0_areSo_17 rfl ?_
    refine g_getR hΓ.k fl_X0_193_X0 rfl hT dX0_areSo_18 ?_
    refine g_iload dX0_areSo_21 rfl ?_
    replace h := bd_of h; obtain ⟨a4, ea4, h⟩ := h
    obtain ⟨ea4, ka4⟩ := isK_of ea4
    replace h := bd2_of h; obtain ⟨v5, m6, em6, h⟩ := h
    have C := ct_J2_get hΓ ka4 em6
    refine g_callVr hΓ.k vl_X0_51 ka4 C rfl (by rw [ea4]; rfl) (Nat.le_of_ble_eq_true rfl) (Nat.le_of_ble_eq_true rfl) (Nat.le_of_ble_eq_true rfl) dX0_areSo_23 ?_
    replace hT := (C.1).kd hT
    replace h := ite_of h; rcases h with ⟨hc, h⟩ | ⟨hc, h⟩
    · refine g_cast hΓ q1176 ⟨rfl, by decide, _, _, rfl⟩ hc dX0_areSo_26 ?_
      refine g_astore dX0_areSo_29 (Nat.le_of_ble_eq_true rfl) rfl ?_
      dsimp only [List.set]
      refine g_iload_n 3 dX0_areSo_31 rfl rfl ?_
      replace h := ite_of h; rcases h with ⟨hc, h⟩ | ⟨hc, h⟩
      · refine g_ifeqT dX0_areSo_32 rfl hc ?_
        refine g_ic 0 dX0_areSo_76 rfl ?_
        refine g_istore_n 3 dX0_areSo_77 rfl (Nat.le_of_ble_eq_true rfl) rfl ?_
        dsimp only [List.set]
        refine g_iinc (l4 + (1 : Int32)) dX0_areSo_78 rfl rfl (Nat.le_of_ble_eq_true rfl) rfl ?_
        dsimp only [List.set]
        refine g_goto dX0_areSo_81 rfl ?_
        cases h
        refine G.weak [true, true, true, true, true, false] rfl ?_
        exact Hl _ rfl hT
      · refine g_ifeqF dX0_areSo_32 rfl hc ?_
        refine g_aload dX0_areSo_35 rfl ?_
        refine g_iload_n 2 dX0_areSo_37 rfl rfl ?_
        replace h := bd_of h; obtain ⟨a7, ea7, h⟩ := h
        obtain ⟨ea7, ka7⟩ := isK_of ea7
        cases ea7
        replace h := bd2_of h; obtain ⟨v8, m9, em9, h⟩ := h
        have C := ct_X7_isKnown hΓ ka7 em9
        refine g_callVi hΓ.k vl_X0_347 ka7 C rfl rfl (Nat.le_of_ble_eq_true rfl) (Nat.le_of_ble_eq_true rfl) (Nat.le_of_ble_eq_true rfl) dX0_areSo_38 ?_
        replace hT := (C.1).kd hT
        replace h := ite_of h; rcases h with ⟨hc, h⟩ | ⟨hc, h⟩
        · refine g_ifeqT dX0_areSo_41 rfl hc ?_
          refine g_ic 1 dX0_areSo_72 rfl ?_
          refine g_goto dX0_areSo_73 rfl ?_
          refine g_istore_n 3 dX0_areSo_77 rfl (Nat.le_of_ble_eq_true rfl) rfl ?_
          dsimp only [List.set]
          refine g_iinc (l4 + (1 : Int32)) dX0_areSo_78 rfl rfl (Nat.le_of_ble_eq_true rfl) rfl ?_
          dsimp only [List.set]
          refine g_goto dX0_areSo_81 rfl ?_
          cases h
          refine G.weak [true, true, true, true, true, false] rfl ?_
          exact Hl _ rfl hT
        · refine g_ifeqF dX0_areSo_41 rfl hc ?_
          refine g_aload_n 1 dX0_areSo_44 rfl rfl ?_
          refine g_aload dX0_areSo_45 rfl ?_
          replace h := bd_of h; obtain ⟨v10, ev10, h⟩ := h
          refine g_fI hΓ.k fl_X0_350_X7 rfl ev10 dX0_areSo_47 ?_
          replace h := bd_of h; obtain ⟨v11, ev11, h⟩ := h
          refine g_iald ev11 dX0_areSo_50 ?_
          refine g_aload dX0_areSo_51 rfl ?_
          replace h := bd_of h; obtain ⟨v12, ev12, h⟩ := h
          refine g_fI hΓ.k fl_X0_351_X7 rfl ev12 dX0_areSo_53 ?_
          replace h := ite_of h; rcases h with ⟨hc, h⟩ | ⟨hc, h⟩
          · refine g_icneF dX0_areSo_56 rfl hc ?_
            refine g_ic 1 dX0_areSo_59 rfl ?_
            refine g_goto dX0_areSo_60 rfl ?_
            refine G.weak [true, true, true, false, true, true] rfl ?_
            exact w_X0_areSo_64 hΓ hT h Hl Hr
          · refine g_icneT dX0_areSo_56 rfl hc ?_
            refine g_ic 0 dX0_areSo_63 rfl ?_
            refine G.weak [true, true, true, false, true, true] rfl ?_
            exact w_X0_areSo_64 hΓ hT h Hl Hr
    · cases h
set_option maxHeartbeats 4000000 in
theorem w_X0_areSo_0 {Γ : GG} (hΓ : GF Γ) {m0 mF m : MM} {x : Nat} {l1 : Option Nat} {l2 : Int32} (hT : (m.K x).1 = 1) {r : Int32} {q : ((Int32 × Int32 × MM)) ⊕ (Int32 × MM)} (h : b_X0_areSo_0 x l1 l2 m = some q) (Hl : ∀ z, q = .inl z → p_X0_areSo Γ m0 mF x l1 l2 r z) (Hr : ∀ z, q = .inr z → z = (r, mF)) : G Γ kX0_areSo cX0_areSo m0 mF (.inl (some (.int r))) m 0 [some (.ref x), some (va_rf l1), some (.int l2), none, none, none] [] := by
  unfold b_X0_areSo_0 at h
  refine g_ic 1 dX0_areSo_0 rfl ?_
  refine g_istore_n 3 dX0_areSo_1 rfl (Nat.le_of_ble_eq_true rfl) rfl ?_
  dsimp only [List.set]
  refine g_ic 0 dX0_areSo_2 rfl ?_
  refine g_istore dX0_areSo_3 (Nat.le_of_ble_eq_true rfl) rfl ?_
  dsimp only [List.set]
  cases h
  refine G.weak [true, true, true, true, true, false] rfl ?_
  exact Hl _ rfl hT
theorem ct_X0_areSo {Γ : GG} (hΓ : GF Γ) {m mF : MM} {x : Nat} {l1 : Option Nat} {l2 : Int32} (hT : (m.K x).1 = 1) {r : Int32} (h : f_X0_areSo x l1 l2 m = some (r, mF)) : Ct Γ kX0_areSo cX0_areSo [.ref x, va_rf l1, .int l2] m (.inl (some (.int r))) mF := by
  unfold f_X0_areSo at h
  replace h := bd_of h; obtain ⟨q, e, h⟩ := h
  have H := rx_go_ind (P := p_X0_areSo Γ m mF x l1 l2 r) (fun z o hs Hl Hr => by
    match z with
    | (l3, l4, m) => exact fun hT => w_X0_areSo_5 hΓ hT hs Hl Hr) h
  exact Ct.of (κ := kX0_areSo) (by decide) rfl (by cases l1 <;> exact Nat.le_of_ble_eq_true rfl) rfl (by have w9 := w_X0_areSo_0 (m0 := m) hΓ hT e H.1 H.2; cases l1 <;> exact w9)
def p_X0_orders (Γ : GG) (m0 mF : MM) (x : Nat) (l1 : Int32) (r : Int32) : ((Int32 × Int32 × MM)) → Prop := fun z => match z with
  | (l2, l3, m) => (m.K x).1 = 1 → G Γ kX0_orders cX0_orders m0 mF (.inl (some (.int r))) m 29 [some (.ref x), some (.int l1), some (.int l2), some (.int l3)] []
set_option maxHeartbeats 4000000 in
theorem w_X0_orders_29 {Γ : GG} (hΓ : GF Γ) {m0 mF m : MM} {x : Nat} {l1 : Int32} {l2 : Int32} {l3 : Int32} (hT : (m.K x).1 = 1) {r : Int32} {q : ((Int32 × Int32 × MM)) ⊕ (Int32 × MM)} (h : b_X0_orders_29 x l1 l2 l3 m = some q) (Hl : ∀ z, q = .inl z → p_X0_orders Γ m0 mF x l1 r z) (Hr : ∀ z, q = .inr z → z = (r, mF)) : G Γ kX0_orders cX0_orders m0 mF (.inl (some (.int r))) m 29 [some (.ref x), some (.int l1), some (.int l2), some (.int l3)] [] := by
  unfold b_X0_orders_29 at h
  refine g_iload_n 3 dX0_orders_29 rfl rfl ?_
  refine g_bi (6) dX0_orders_30 rfl ?_
  replace h := ite_of h; rcases h with ⟨hc, h⟩ | ⟨hc, h⟩
  · refine g_icgeT dX0_orders_32 rfl hc ?_
    refine g_iload_n 2 dX0_orders_73 rfl rfl ?_
    cases h
    cases Hr _ rfl
    exact g_iret rfl dX0_orders_74
  · refine g_icgeF dX0_orders_32 rfl hc ?_
    refine g_iload_n 2 dX0_orders_35 rfl rfl ?_
    refine g_this dX0_orders_36 rfl ?_
    refine g_this dX0_orders_37 rfl ?_
    refine g_this dX0_orders_38 rfl ?_
    refine g_iload_n 3 dX0_orders_39 rfl rfl ?_
    replace h := bd2_of h; obtain ⟨v1, m2, em2, h⟩ := h
    have C := ct_X0_writeBy hΓ hT em2
    refine g_callVi hΓ.k vl_X0_320 hT C rfl rfl (Nat.le_of_ble_eq_true rfl) (Nat.le_of_ble_eq_true rfl) (Nat.le_of_ble_eq_true rfl) dX0_orders_40 ?_
    replace hT := (C.1).kd hT
    refine g_this dX0_orders_43 rfl ?_
    refine g_getR hΓ.k fl_X0_178_X0 rfl hT dX0_orders_44 ?_
    refine g_ic 0 dX0_orders_47 rfl ?_
    replace h := bd2_of h; obtain ⟨v3, m4, em4, h⟩ := h
    have C := ct_X0_pathOf hΓ hT em4
    refine g_callVr hΓ.k vl_X0_135 hT C rfl rfl (Nat.le_of_ble_eq_true rfl) (Nat.le_of_ble_eq_true rfl) (Nat.le_of_ble_eq_true rfl) dX0_orders_48 ?_
    replace hT := (C.1).kd hT
    refine g_iload_n 1 dX0_orders_51 rfl rfl ?_
    replace h := bd2_of h; obtain ⟨v5, m6, em6, h⟩ := h
    have C := ct_X0_areSo hΓ hT em6
    refine g_callVi hΓ.k vl_X0_357 hT C rfl rfl (Nat.le_of_ble_eq_true rfl) (Nat.le_of_ble_eq_true rfl) (Nat.le_of_ble_eq_true rfl) dX0_orders_52 ?_
    replace hT := (C.1).kd hT
    replace h := ite_of h; rcases h with ⟨hc, h⟩ | ⟨hc, h⟩
    · refine g_ifeqT dX0_orders_55 rfl hc ?_
      refine g_ic 0 dX0_orders_64 rfl ?_
      refine g_ior dX0_orders_65 ?_
      refine g_istore_n 2 dX0_orders_66 rfl (Nat.le_of_ble_eq_true rfl) rfl ?_
      dsimp only [List.set]
      refine g_iinc (l3 + (1 : Int32)) dX0_orders_67 rfl rfl (Nat.le_of_ble_eq_true rfl) rfl ?_
      dsimp only [List.set]
      refine g_goto dX0_orders_70 rfl ?_
      cases h
      refine G.weak [true, true, true, true] rfl ?_
      exact Hl _ rfl hT
    · refine g_ifeqF dX0_orders_55 rfl hc ?_
      refine g_ic 1 dX0_orders_58 rfl ?_
      refine g_iload_n 3 dX0_orders_59 rfl rfl ?_
      refine g_ishl dX0_orders_60 ?_
      refine g_goto dX0_orders_61 rfl ?_
      refine g_ior dX0_orders_65 ?_
      refine g_istore_n 2 dX0_orders_66 rfl (Nat.le_of_ble_eq_true rfl) rfl ?_
      dsimp only [List.set]
      refine g_iinc (l3 + (1 : Int32)) dX0_orders_67 rfl rfl (Nat.le_of_ble_eq_true rfl) rfl ?_
      dsimp only [List.set]
      refine g_goto dX0_orders_70 rfl ?_
      cases h
      refine G.weak [true, true, true, true] rfl ?_
      exact Hl _ rfl hT
set_option maxHeartbeats 4000000 in
theorem w_X0_orders_0 {Γ : GG} (hΓ : GF Γ) {m0 mF m : MM} {x : Nat} {l1 : Int32} (hT : (m.K x).1 = 1) {r : Int32} {q : ((Int32 × Int32 × MM)) ⊕ (Int32 × MM)} (h : b_X0_orders_0 x l1 m = some q) (Hl : ∀ z, q = .inl z → p_X0_orders Γ m0 mF x l1 r z) (Hr : ∀ z, q = .inr z → z = (r, mF)) : G Γ kX0_orders cX0_orders m0 mF (.inl (some (.int r))) m 0 [some (.ref x), some (.int l1), none, none] [] := by
  unfold b_X0_orders_0 at h
  refine g_this dX0_orders_0 rfl ?_
  refine g_this dX0_orders_1 rfl ?_
  refine g_getR hΓ.k fl_X0_178_X0 rfl hT dX0_orders_2 ?_
  refine g_ic 0 dX0_orders_5 rfl ?_
  refine g_null dX0_orders_6 ?_
  replace h := bd2_of h; obtain ⟨v1, m2, em2, h⟩ := h
  have C := ct_X0_layTree hΓ hT em2
  refine g_callVi hΓ.k vl_X0_269 hT C rfl rfl (Nat.le_of_ble_eq_true rfl) (Nat.le_of_ble_eq_true rfl) (Nat.le_of_ble_eq_true rfl) dX0_orders_7 ?_
  replace hT := (C.1).kd hT
  replace h := ite_of h; rcases h with ⟨hc, h⟩ | ⟨hc, h⟩
  · refine g_ifneF dX0_orders_10 rfl hc ?_
    refine g_ic 0 dX0_orders_13 rfl ?_
    cases h
    cases Hr _ rfl
    exact g_iret rfl dX0_orders_14
  · refine g_ifneT dX0_orders_10 rfl hc ?_
    refine g_this dX0_orders_15 rfl ?_
    refine g_getI hΓ.k fl_X0_83_X0 rfl hT dX0_orders_16 ?_
    replace h := ite_of h; rcases h with ⟨hc, h⟩ | ⟨hc, h⟩
    · refine g_ifeqT dX0_orders_19 rfl hc ?_
      refine g_ic 0 dX0_orders_25 rfl ?_
      refine g_istore_n 2 dX0_orders_26 rfl (Nat.le_of_ble_eq_true rfl) rfl ?_
      dsimp only [List.set]
      refine g_ic 0 dX0_orders_27 rfl ?_
      refine g_istore_n 3 dX0_orders_28 rfl (Nat.le_of_ble_eq_true rfl) rfl ?_
      dsimp only [List.set]
      cases h
      refine G.weak [true, true, true, true] rfl ?_
      exact Hl _ rfl hT
    · refine g_ifeqF dX0_orders_19 rfl hc ?_
      refine g_bi (-2) dX0_orders_22 rfl ?_
      cases h
      cases Hr _ rfl
      exact g_iret rfl dX0_orders_24
theorem ct_X0_orders {Γ : GG} (hΓ : GF Γ) {m mF : MM} {x : Nat} {l1 : Int32} (hT : (m.K x).1 = 1) {r : Int32} (h : f_X0_orders x l1 m = some (r, mF)) : Ct Γ kX0_orders cX0_orders [.ref x, .int l1] m (.inl (some (.int r))) mF := by
  unfold f_X0_orders at h
  replace h := bd_of h; obtain ⟨q, e, h⟩ := h
  have H := rx_go_ind (P := p_X0_orders Γ m mF x l1 r) (fun z o hs Hl Hr => by
    match z with
    | (l2, l3, m) => exact fun hT => w_X0_orders_29 hΓ hT hs Hl Hr) h
  exact Ct.of (κ := kX0_orders) (by decide) rfl (Nat.le_of_ble_eq_true rfl) rfl (w_X0_orders_0 hΓ hT e H.1 H.2)
set_option maxHeartbeats 4000000 in
theorem w_X0_isBox_0 {Γ : GG} (hΓ : GF Γ) {m0 mF m : MM} {l0 : Int32} {r : Int32} (h : b_X0_isBox_0 l0 m = some (r, mF)) : G Γ kX0_isBox cX0_isBox m0 mF (.inl (some (.int r))) m 0 [some (.int l0)] [] := by
  unfold b_X0_isBox_0 at h
  refine g_iload_n 0 dX0_isBox_0 rfl rfl ?_
  refine g_ic 0 dX0_isBox_1 rfl ?_
  refine g_ic 2 dX0_isBox_2 rfl ?_
  replace h := bd2_of h; obtain ⟨v1, m2, em2, h⟩ := h
  have C := ct_X0_isIn hΓ em2
  refine g_callSi sl_X0_235 C rfl rfl (Nat.le_of_ble_eq_true rfl) (Nat.le_of_ble_eq_true rfl) (Nat.le_of_ble_eq_true rfl) dX0_isBox_3 ?_
  replace h := ite_of h; rcases h with ⟨hc, h⟩ | ⟨hc, h⟩
  · cases h
    exact g_zret rfl hc dX0_isBox_6
  · cases h
theorem ct_X0_isBox {Γ : GG} (hΓ : GF Γ) {m mF : MM} {l0 : Int32} {r : Int32} (h : f_X0_isBox l0 m = some (r, mF)) : Ct Γ kX0_isBox cX0_isBox [.int l0] m (.inl (some (.int r))) mF := by
  unfold f_X0_isBox at h
  exact Ct.of (κ := kX0_isBox) (by decide) rfl (Nat.le_of_ble_eq_true rfl) rfl (w_X0_isBox_0 hΓ h)
set_option maxHeartbeats 4000000 in
theorem w_X0_image_0 {Γ : GG} (hΓ : GF Γ) {m0 mF m : MM} {x : Nat} {l1 : Int32} (hT : (m.K x).1 = 1) {r : Int32} (h : b_X0_image_0 x l1 m = some (r, mF)) : G Γ kX0_image cX0_image m0 mF (.inl (some (.int r))) m 0 [some (.ref x), some (.int l1)] [] := by
  unfold b_X0_image_0 at h
  refine g_iload_n 1 dX0_image_0 rfl rfl ?_
  replace h := bd2_of h; obtain ⟨v1, m2, em2, h⟩ := h
  have C := ct_X0_isBox hΓ em2
  refine g_callSi sl_X0_361 C rfl rfl (Nat.le_of_ble_eq_true rfl) (Nat.le_of_ble_eq_true rfl) (Nat.le_of_ble_eq_true rfl) dX0_image_1 ?_
  replace hT := (C.1).kd hT
  replace h := ite_of h; rcases h with ⟨hc, h⟩ | ⟨hc, h⟩
  · refine g_ifneF dX0_image_4 rfl hc ?_
    refine g_ic (-1) dX0_image_7 rfl ?_
    cases h
    exact g_iret rfl dX0_image_8
  · refine g_ifneT dX0_image_4 rfl hc ?_
    refine g_this dX0_image_9 rfl ?_
    refine g_getR hΓ.k fl_X0_164_X0 rfl hT dX0_image_10 ?_
    refine g_ic 0 dX0_image_13 rfl ?_
    refine g_this dX0_image_14 rfl ?_
    refine g_getR hΓ.k fl_X0_196_X0 rfl hT dX0_image_15 ?_
    refine g_iload_n 1 dX0_image_18 rfl rfl ?_
    replace h := bd_of h; obtain ⟨v3, ev3, h⟩ := h
    refine g_aald (Or.inr rfl) ev3 dX0_image_19 ?_
    refine g_ic 0 dX0_image_20 rfl ?_
    refine g_bi (13) dX0_image_21 rfl ?_
    replace h := bd_of h; obtain ⟨m4, em4, h⟩ := h
    refine g_copy50 hΓ q972 (Nat.le_of_ble_eq_true rfl) (Nat.le_of_ble_eq_true rfl) (Nat.le_of_ble_eq_true rfl) em4 dX0_image_23 ?_
    replace hT := (cI_ext em4).kd hT
    refine g_this dX0_image_26 rfl ?_
    refine g_getR hΓ.k fl_X0_199_X0 rfl hT dX0_image_27 ?_
    refine g_iload_n 1 dX0_image_30 rfl rfl ?_
    refine g_ic 1 dX0_image_31 rfl ?_
    replace h := bd_of h; obtain ⟨m5, em5, h⟩ := h
    refine g_zast em5 dX0_image_32 ?_
    replace hT := (sI_ext em5).kd hT
    refine g_this dX0_image_33 rfl ?_
    refine g_getR hΓ.k fl_X0_164_X0 rfl hT dX0_image_34 ?_
    refine g_bi (12) dX0_image_37 rfl ?_
    replace h := bd_of h; obtain ⟨v6, ev6, h⟩ := h
    refine g_iald ev6 dX0_image_39 ?_
    cases h
    exact g_iret rfl dX0_image_40
theorem ct_X0_image {Γ : GG} (hΓ : GF Γ) {m mF : MM} {x : Nat} {l1 : Int32} (hT : (m.K x).1 = 1) {r : Int32} (h : f_X0_image x l1 m = some (r, mF)) : Ct Γ kX0_image cX0_image [.ref x, .int l1] m (.inl (some (.int r))) mF := by
  unfold f_X0_image at h
  exact Ct.of (κ := kX0_image) (by decide) rfl (Nat.le_of_ble_eq_true rfl) rfl (w_X0_image_0 hΓ hT h)
set_option maxHeartbeats 4000000 in
theorem w_X0_back_0 {Γ : GG} (hΓ : GF Γ) {m0 mF m : MM} {x : Nat} {l1 : Int32} (hT : (m.K x).1 = 1) {r : Int32} (h : b_X0_back_0 x l1 m = some (r, mF)) : G Γ kX0_back cX0_back m0 mF (.inl (some (.int r))) m 0 [some (.ref x), some (.int l1)] [] := by
  unfold b_X0_back_0 at h
  refine g_iload_n 1 dX0_back_0 rfl rfl ?_
  replace h := bd2_of h; obtain ⟨v1, m2, em2, h⟩ := h
  have C := ct_X0_isBox hΓ em2
  refine g_callSi sl_X0_361 C rfl rfl (Nat.le_of_ble_eq_true rfl) (Nat.le_of_ble_eq_true rfl) (Nat.le_of_ble_eq_true rfl) dX0_back_1 ?_
  replace hT := (C.1).kd hT
  replace h := ite_of h; rcases h with ⟨hc, h⟩ | ⟨hc, h⟩
  · refine g_ifeqT dX0_back_4 rfl hc ?_
    refine g_ic (-1) dX0_back_16 rfl ?_
    cases h
    exact g_iret rfl dX0_back_17
  · refine g_ifeqF dX0_back_4 rfl hc ?_
    refine g_this dX0_back_7 rfl ?_
    refine g_getR hΓ.k fl_X0_199_X0 rfl hT dX0_back_8 ?_
    refine g_iload_n 1 dX0_back_11 rfl rfl ?_
    replace h := bd_of h; obtain ⟨v3, ev3, h⟩ := h
    refine g_zald ev3 dX0_back_12 ?_
    replace h := ite_of h; rcases h with ⟨hc, h⟩ | ⟨hc, h⟩
    · refine g_ifneF dX0_back_13 rfl hc ?_
      refine g_ic (-1) dX0_back_16 rfl ?_
      cases h
      exact g_iret rfl dX0_back_17
    · refine g_ifneT dX0_back_13 rfl hc ?_
      refine g_this dX0_back_18 rfl ?_
      refine g_getR hΓ.k fl_X0_196_X0 rfl hT dX0_back_19 ?_
      refine g_iload_n 1 dX0_back_22 rfl rfl ?_
      replace h := bd_of h; obtain ⟨v4, ev4, h⟩ := h
      refine g_aald (Or.inr rfl) ev4 dX0_back_23 ?_
      refine g_ic 0 dX0_back_24 rfl ?_
      refine g_this dX0_back_25 rfl ?_
      refine g_getR hΓ.k fl_X0_164_X0 rfl hT dX0_back_26 ?_
      refine g_ic 0 dX0_back_29 rfl ?_
      refine g_bi (13) dX0_back_30 rfl ?_
      replace h := bd_of h; obtain ⟨m5, em5, h⟩ := h
      refine g_copy50 hΓ q972 (Nat.le_of_ble_eq_true rfl) (Nat.le_of_ble_eq_true rfl) (Nat.le_of_ble_eq_true rfl) em5 dX0_back_32 ?_
      replace hT := (cI_ext em5).kd hT
      refine g_this dX0_back_35 rfl ?_
      refine g_ic 0 dX0_back_36 rfl ?_
      replace h := bd_of h; obtain ⟨m6, em6, h⟩ := h
      refine g_pI hΓ.k fl_X0_250_X0 (fun h9 => by cases h9) rfl (Or.inl ⟨rfl, rfl⟩) em6 dX0_back_37 ?_
      replace hT := (pI_ext em6).kd hT
      refine g_this dX0_back_40 rfl ?_
      refine g_ic 0 dX0_back_41 rfl ?_
      replace h := bd_of h; obtain ⟨m7, em7, h⟩ := h
      refine g_pI hΓ.k fl_X0_253_X0 (fun h9 => by cases h9) rfl (Or.inl ⟨rfl, rfl⟩) em7 dX0_back_42 ?_
      replace hT := (pI_ext em7).kd hT
      refine g_this dX0_back_45 rfl ?_
      refine g_getR hΓ.k fl_X0_164_X0 rfl hT dX0_back_46 ?_
      refine g_bi (12) dX0_back_49 rfl ?_
      replace h := bd_of h; obtain ⟨v8, ev8, h⟩ := h
      refine g_iald ev8 dX0_back_51 ?_
      cases h
      exact g_iret rfl dX0_back_52
theorem ct_X0_back {Γ : GG} (hΓ : GF Γ) {m mF : MM} {x : Nat} {l1 : Int32} (hT : (m.K x).1 = 1) {r : Int32} (h : f_X0_back x l1 m = some (r, mF)) : Ct Γ kX0_back cX0_back [.ref x, .int l1] m (.inl (some (.int r))) mF := by
  unfold f_X0_back at h
  exact Ct.of (κ := kX0_back) (by decide) rfl (Nat.le_of_ble_eq_true rfl) rfl (w_X0_back_0 hΓ hT h)
set_option maxHeartbeats 4000000 in
theorem w_X0_about_0 {Γ : GG} (hΓ : GF Γ) {m0 mF m : MM} {x : Nat} {l1 : Int32} (hT : (m.K x).1 = 1) {r : Int32} (h : b_X0_about_0 x l1 m = some (r, mF)) : G Γ kX0_about cX0_about m0 mF (.inl (some (.int r))) m 0 [some (.ref x), some (.int l1)] [] := by
  unfold b_X0_about_0 at h
  refine g_iload_n 1 dX0_about_0 rfl rfl ?_
  replace h := ite_of h; rcases h with ⟨hc, h⟩ | ⟨hc0, h⟩
  · refine g_tabIn (v := 0) dX0_about_1 hc (by decide) (by decide) rfl rfl ?_
    refine g_this dX0_about_64 rfl ?_
    refine g_getR hΓ.k fl_X0_31_X0 rfl hT dX0_about_65 ?_
    replace h := bd_of h; obtain ⟨v1, ev1, h⟩ := h
    refine g_fR hΓ.k fl_X0_80_X1 rfl ev1 dX0_about_68 ?_
    replace h := bd_of h; obtain ⟨a2, ea2, h⟩ := h
    obtain ⟨ea2, ka2⟩ := isK_of ea2
    cases ea2
    replace h := bd2_of h; obtain ⟨v3, m4, em4, h⟩ := h
    have C := ct_J2_size hΓ ka2 em4
    refine g_callVi hΓ.k vl_X0_47 ka2 C rfl rfl (Nat.le_of_ble_eq_true rfl) (Nat.le_of_ble_eq_true rfl) (Nat.le_of_ble_eq_true rfl) dX0_about_71 ?_
    replace hT := (C.1).kd hT
    cases h
    exact g_iret rfl dX0_about_74
  replace h := ite_of h; rcases h with ⟨hc, h⟩ | ⟨hc1, h⟩
  · refine g_tabIn (v := 1) dX0_about_1 hc (by decide) (by decide) rfl rfl ?_
    refine g_this dX0_about_75 rfl ?_
    refine g_getR hΓ.k fl_X0_31_X0 rfl hT dX0_about_76 ?_
    replace h := bd_of h; obtain ⟨v5, ev5, h⟩ := h
    refine g_fI hΓ.k fl_X0_364_X1 rfl ev5 dX0_about_79 ?_
    cases h
    exact g_iret rfl dX0_about_82
  replace h := ite_of h; rcases h with ⟨hc, h⟩ | ⟨hc2, h⟩
  · refine g_tabIn (v := 2) dX0_about_1 hc (by decide) (by decide) rfl rfl ?_
    refine g_this dX0_about_83 rfl ?_
    refine g_getR hΓ.k fl_X0_31_X0 rfl hT dX0_about_84 ?_
    replace h := bd_of h; obtain ⟨v6, ev6, h⟩ := h
    refine g_fR hΓ.k fl_X0_35_X1 rfl ev6 dX0_about_87 ?_
    replace h := bd_of h; obtain ⟨a7, ea7, h⟩ := h
    obtain ⟨ea7, ka7⟩ := isK_of ea7
    cases ea7
    replace h := bd2_of h; obtain ⟨v8, m9, em9, h⟩ := h
    have C := ct_J2_size hΓ ka7 em9
    refine g_callVi hΓ.k vl_X0_47 ka7 C rfl rfl (Nat.le_of_ble_eq_true rfl) (Nat.le_of_ble_eq_true rfl) (Nat.le_of_ble_eq_true rfl) dX0_about_90 ?_
    replace hT := (C.1).kd hT
    cases h
    exact g_iret rfl dX0_about_93
  replace h := ite_of h; rcases h with ⟨hc, h⟩ | ⟨hc3, h⟩
  · refine g_tabIn (v := 3) dX0_about_1 hc (by decide) (by decide) rfl rfl ?_
    refine g_this dX0_about_94 rfl ?_
    refine g_getR hΓ.k fl_X0_31_X0 rfl hT dX0_about_95 ?_
    replace h := bd_of h; obtain ⟨v10, ev10, h⟩ := h
    refine g_fI hΓ.k fl_X0_367_X1 rfl ev10 dX0_about_98 ?_
    cases h
    exact g_iret rfl dX0_about_101
  replace h := ite_of h; rcases h with ⟨hc, h⟩ | ⟨hc4, h⟩
  · refine g_tabIn (v := 4) dX0_about_1 hc (by decide) (by decide) rfl rfl ?_
    refine g_this dX0_about_102 rfl ?_
    refine g_getR hΓ.k fl_X0_31_X0 rfl hT dX0_about_103 ?_
    replace h := bd_of h; obtain ⟨a11, ea11, h⟩ := h
    obtain ⟨ea11, ka11⟩ := isK_of ea11
    replace h := bd2_of h; obtain ⟨v12, m13, em13, h⟩ := h
    have C := ct_X1_most hΓ ka11 em13
    refine g_callVi hΓ.k vl_X0_65 ka11 C rfl (by rw [ea11]; rfl) (Nat.le_of_ble_eq_true rfl) (Nat.le_of_ble_eq_true rfl) (Nat.le_of_ble_eq_true rfl) dX0_about_106 ?_
    replace hT := (C.1).kd hT
    cases h
    exact g_iret rfl dX0_about_109
  replace h := ite_of h; rcases h with ⟨hc, h⟩ | ⟨hc5, h⟩
  · refine g_tabIn (v := 5) dX0_about_1 hc (by decide) (by decide) rfl rfl ?_
    refine g_this dX0_about_110 rfl ?_
    refine g_getR hΓ.k fl_X0_164_X0 rfl hT dX0_about_111 ?_
    refine g_bi (12) dX0_about_114 rfl ?_
    replace h := bd_of h; obtain ⟨v14, ev14, h⟩ := h
    refine g_iald ev14 dX0_about_116 ?_
    cases h
    exact g_iret rfl dX0_about_117
  replace h := ite_of h; rcases h with ⟨hc, h⟩ | ⟨hc6, h⟩
  · refine g_tabIn (v := 6) dX0_about_1 hc (by decide) (by decide) rfl rfl ?_
    refine g_this dX0_about_118 rfl ?_
    refine g_getI hΓ.k fl_X0_250_X0 rfl hT dX0_about_119 ?_
    cases h
    exact g_iret rfl dX0_about_122
  replace h := ite_of h; rcases h with ⟨hc, h⟩ | ⟨hc7, h⟩
  · refine g_tabIn (v := 7) dX0_about_1 hc (by decide) (by decide) rfl rfl ?_
    refine g_this dX0_about_123 rfl ?_
    refine g_getI hΓ.k fl_X0_253_X0 rfl hT dX0_about_124 ?_
    cases h
    exact g_iret rfl dX0_about_127
  replace h := ite_of h; rcases h with ⟨hc, h⟩ | ⟨hc8, h⟩
  · refine g_tabIn (v := 8) dX0_about_1 hc (by decide) (by decide) rfl rfl ?_
    refine g_this dX0_about_128 rfl ?_
    refine g_getR hΓ.k fl_X0_193_X0 rfl hT dX0_about_129 ?_
    replace h := bd_of h; obtain ⟨a15, ea15, h⟩ := h
    obtain ⟨ea15, ka15⟩ := isK_of ea15
    replace h := bd2_of h; obtain ⟨v16, m17, em17, h⟩ := h
    have C := ct_J2_size hΓ ka15 em17
    refine g_callVi hΓ.k vl_X0_47 ka15 C rfl (by rw [ea15]; rfl) (Nat.le_of_ble_eq_true rfl) (Nat.le_of_ble_eq_true rfl) (Nat.le_of_ble_eq_true rfl) dX0_about_132 ?_
    replace hT := (C.1).kd hT
    cases h
    exact g_iret rfl dX0_about_135
  replace h := ite_of h; rcases h with ⟨hc, h⟩ | ⟨hc9, h⟩
  · refine g_tabIn (v := 9) dX0_about_1 hc (by decide) (by decide) rfl rfl ?_
    refine g_this dX0_about_136 rfl ?_
    refine g_getI hΓ.k fl_X0_333_X0 rfl hT dX0_about_137 ?_
    cases h
    exact g_iret rfl dX0_about_140
  replace h := ite_of h; rcases h with ⟨hc, h⟩ | ⟨hc10, h⟩
  · refine g_tabIn (v := 10) dX0_about_1 hc (by decide) (by decide) rfl rfl ?_
    refine g_this dX0_about_141 rfl ?_
    refine g_getI hΓ.k fl_X0_206_X0 rfl hT dX0_about_142 ?_
    cases h
    exact g_iret rfl dX0_about_145
  replace h := ite_of h; rcases h with ⟨hc, h⟩ | ⟨hc11, h⟩
  · refine g_tabIn (v := 11) dX0_about_1 hc (by decide) (by decide) rfl rfl ?_
    refine g_this dX0_about_146 rfl ?_
    refine g_getI hΓ.k fl_X0_218_X0 rfl hT dX0_about_147 ?_
    cases h
    exact g_iret rfl dX0_about_150
  refine g_tabOut dX0_about_1 (tab_out 0 12 (by decide) (by decide) (fun j hj => by
    match j, hj with
    | 0, _ => exact hc0
    | 1, _ => exact hc1
    | 2, _ => exact hc2
    | 3, _ => exact hc3
    | 4, _ => exact hc4
    | 5, _ => exact hc5
    | 6, _ => exact hc6
    | 7, _ => exact hc7
    | 8, _ => exact hc8
    | 9, _ => exact hc9
    | 10, _ => exact hc10
    | 11, _ => exact hc11
    | j + 12, hj => exact absurd hj (by omega)) rfl) rfl ?_
  refine g_ic (-1) dX0_about_151 rfl ?_
  cases h
  exact g_iret rfl dX0_about_152
theorem ct_X0_about {Γ : GG} (hΓ : GF Γ) {m mF : MM} {x : Nat} {l1 : Int32} (hT : (m.K x).1 = 1) {r : Int32} (h : f_X0_about x l1 m = some (r, mF)) : Ct Γ kX0_about cX0_about [.ref x, .int l1] m (.inl (some (.int r))) mF := by
  unfold f_X0_about at h
  exact Ct.of (κ := kX0_about) (by decide) rfl (Nat.le_of_ble_eq_true rfl) rfl (w_X0_about_0 hΓ hT h)
